/-! forms of methods 0..37, printed by gen/forms.py -/
set_option maxRecDepth 100000
/-! 0 StatuteHouse.write(III)I -/
theorem cd_0 : fi_code 0 = prog_1_method_45_code := rfl
theorem hx_0 : ∀ pc, fi_hat 0 pc = none := fun pc => by unfold fi_hat; rw [show fi_hh 0 = [] from rfl]; rfl
theorem rt_0 : fi_ret 0 = some .int := rfl
theorem nl_0 : fi_nl 0 = 11 := rfl
theorem ow_0 : fi_ow 0 = 0 := rfl
theorem cl_0 : fj_cutT.getD 0 [] = [(62, [0, 4, 5]), (143, [0, 4, 5, 7, 8, 9])] := rfl
theorem cut_0_62 : fj_cut 0 62 = some [0, 4, 5] := by decide +kernel
noncomputable def c_0_62 (d : Nat) (x4 x5 : Int) (h : fi_H) : fk_R := gG (fj_run d) 0 62 [(0, (4, 303)), (4, (4, x4)), (5, (4, x5))] [] h
theorem cut_0_143 : fj_cut 0 143 = some [0, 4, 5, 7, 8, 9] := by decide +kernel
noncomputable def c_0_143 (d : Nat) (x4 x5 x7 x8 x9 : Int) (h : fi_H) : fk_R := gG (fj_run d) 0 143 [(0, (4, 303)), (4, (4, x4)), (5, (4, x5)), (7, (4, x7)), (8, (0, x8)), (9, (0, x9))] [] h
theorem e_0_62 (d : Nat) (x4 x5 : Int) {h : fi_H} (H : Shp h) : c_0_62 d x4 x5 h =
  dv_ (fi_vt 148 (h 0 x5.toNat 0)) fun m4 => ca_ (fj_run d m4 h [(4, x5)]) 0
    (fun v2 h1 =>
    if v2 = 0 then
      ca_ (fj_run d 50 h1 [(4, 303)]) 0
        (fun v6 h5 =>
        some (.inl (some (0, v6)), h5))
        (fun q7 h5 => tx_ q7 h5)
    else
      dv_ (fi_vt 149 (h1 0 x5.toNat 0)) fun m11 => ca_ (fj_run d m11 h1 [(4, x5)]) 4
        (fun v9 h8 =>
        if v9 = 0 ∨ (fi_sup (h8 0 v9.toNat 0)).contains 126 = true then
        if h8 0 v9.toNat 0 = 126 then
        if fk_isA (h8 0 (h8 374 v9.toNat 0).toNat 0) = true then
        if h8 1 (h8 374 v9.toNat 0).toNat 0 = 0 then
          c_0_62 d x4 x5 h8
        else
          dv_ (fi_vt 138 (h8 0 (h8 270 303 0).toNat 0)) fun m16 => cv_ (fj_run d m16 h8 [(4, h8 270 303 0), (4, 61)])
            (fun h13 =>
            dv_ (fi_vt 144 (h13 0 (h13 270 303 0).toNat 0)) fun m20 => cv_ (fj_run d m20 h13 [(4, h13 270 303 0), (0, h13 372 v9.toNat 0)])
              (fun h17 =>
              dv_ (fi_vt 138 (h17 0 (h17 270 303 0).toNat 0)) fun m24 => cv_ (fj_run d m24 h17 [(4, h17 270 303 0), (4, 63)])
                (fun h21 =>
                if fk_isA (h21 0 (h21 374 v9.toNat 0).toNat 0) = true then
                c_0_143 d x4 x5 (h21 374 v9.toNat 0) (h21 1 (h21 374 v9.toNat 0).toNat 0) 0 h21
                else none)
                (fun q23 h21 => tx_ q23 h21))
              (fun q19 h17 => tx_ q19 h17))
            (fun q15 h13 => tx_ q15 h13)
        else none
        else none
        else none)
        (fun q10 h8 => tx_ q10 h8))
    (fun q3 h1 => tx_ q3 h1) := by
  unfold c_0_62
  exact
    have D : fk_D 0 [(62, some [0, 4, 5], .aload 5, 2, 0, 0, 0), (64, none, .invokeinterface 540 1, 5, 0, 148, 1), (69, none, .ifCond .eq 128, 3, 197, 0, 0), (72, none, .aload 5, 2, 0, 0, 0), (74, none, .invokeinterface 546 1, 5, 0, 149, 5), (79, none, .checkcast 549, 3, 126, 0, 0), (82, none, .astore 6, 2, 0, 0, 0), (84, none, .aload 6, 2, 0, 0, 0), (86, none, .getfield 551, 3, 374, (-126), 12), (89, none, .arraylength, 1, 0, 0, 0), (90, none, .ifCond .ne 6, 3, 96, 0, 0), (93, none, .goto (-31), 3, 62, 0, 0)] := fq_of2 cd_0 ow_0 cl_0 rfl (pc := 62) (by decide +kernel)
    j_ald (pc := 62) D rfl rfl rfl fun D =>
    j_ivu (pc := 64) (dd := 148) (a := []) (rest := []) H.2.1 D rfl rfl rfl rfl rfl (fun m4 v2 h1 e1 D =>
      have T := fj_run_ok _ _ _ _ _ _ H.1 e1
      have H := shp_st H T
      j_ifeq (pc := 69) D rfl (fun q =>
        have D : fk_D 0 [(197, none, .aload_n 0, 1, 0, 0, 0), (198, none, .invokevirtual 566, 3, 0, 151, 1), (201, none, .ireturn, 1, 0, 0, 0)] := fq_of2 cd_0 ow_0 cl_0 rfl (pc := 197) (by decide +kernel)
        j_aldn (pc := 197) D rfl rfl rfl fun D =>
        j_iv (pc := 198) (m := 50) (dd := 151) (a := []) (rest := []) D rfl rfl rfl rfl rfl (by decide) (s0_303 H) (by decide +kernel) (fun v6 h5 e1 D =>
          have T := fj_run_ok _ _ _ _ _ _ H.1 e1
          have H := shp_st H T
          j_iret D rt_0) (fun q7 h5 e1 =>
          j_tx (hx_0 _))) (fun q D =>
        j_ald (pc := 72) D rfl rfl rfl fun D =>
        j_ivu (pc := 74) (dd := 149) (a := []) (rest := []) H.2.1 D rfl rfl rfl rfl rfl (fun m11 v9 h8 e1 D =>
          have T := fj_run_ok _ _ _ _ _ _ H.1 e1
          have H := shp_st H T
          j_cast (pc := 79) D rfl gn fun D =>
          j_ast (pc := 82) (L' := [(6, (4, v9)), (0, (4, 303)), (4, (4, x4)), (5, (4, x5))]) D rfl nl_0 rfl rfl fun D =>
          j_ald (pc := 84) D rfl rfl rfl fun D =>
          j_gfo (pc := 86) H.2.1 D rfl rfl rfl rfl fun kc12 D =>
          j_lenu (pc := 89) H.2.1 D rfl fun q D =>
          j_ifne (pc := 90) D rfl (fun q D =>
            j_goto (pc := 93) D rfl <|
            fk_jump cut_0_62 rfl rfl) (fun q =>
            have D : fk_D 0 [(96, none, .aload_n 0, 1, 0, 0, 0), (97, none, .getfield 457, 3, 270, 100, 12), (100, none, .ldc_w 552, 3, 4, 61, 0), (103, none, .invokevirtual 463, 3, 1, 138, 0), (106, none, .aload_n 0, 1, 0, 0, 0), (107, none, .getfield 457, 3, 270, 100, 12), (110, none, .aload 6, 2, 0, 0, 0), (112, none, .getfield 554, 3, 372, 126, 10), (115, none, .invokevirtual 511, 3, 1, 144, 0), (118, none, .aload_n 0, 1, 0, 0, 0), (119, none, .getfield 457, 3, 270, 100, 12), (122, none, .ldc_w 555, 3, 4, 63, 0), (125, none, .invokevirtual 463, 3, 1, 138, 0), (128, none, .aload 6, 2, 0, 0, 0), (130, none, .getfield 551, 3, 374, 126, 12), (133, none, .astore 7, 2, 0, 0, 0), (135, none, .aload 7, 2, 0, 0, 0), (137, none, .arraylength, 1, 0, 0, 0), (138, none, .istore 8, 2, 0, 0, 0), (140, none, .iconst 0, 1, 0, 0, 0)] := fq_of2 cd_0 ow_0 cl_0 rfl (pc := 96) (by decide +kernel)
            j_aldn (pc := 96) D rfl rfl rfl fun D =>
            j_gf (pc := 97) (a := 303) D rfl rfl (by decide) rfl (s0_303 H) rfl fun D =>
            j_ldcw (pc := 100) D rfl fun D =>
            j_ivuv (pc := 103) (dd := 138) (a := [(4, 61)]) (rest := []) H.2.1 D rfl rfl rfl rfl rfl (fun m16 h13 e1 D =>
              have T := fj_run_ok _ _ _ _ _ _ H.1 e1
              have kc12 := cls_st H.1 T.2 kc12 (by decide)
              have H := shp_st H T
              j_aldn (pc := 106) D rfl rfl rfl fun D =>
              j_gf (pc := 107) (a := 303) D rfl rfl (by decide) rfl (s0_303 H) rfl fun D =>
              j_ald (pc := 110) D rfl rfl rfl fun D =>
              j_gf (pc := 112) (a := v9.toNat) D rfl rfl (nz_cls H.2.1 kc12 (by decide)) rfl kc12 rfl fun D =>
              j_ivuv (pc := 115) (dd := 144) (a := [(0, h13 372 v9.toNat 0)]) (rest := []) H.2.1 D rfl rfl rfl rfl rfl (fun m20 h17 e1 D =>
                have T := fj_run_ok _ _ _ _ _ _ H.1 e1
                have kc12 := cls_st H.1 T.2 kc12 (by decide)
                have H := shp_st H T
                j_aldn (pc := 118) D rfl rfl rfl fun D =>
                j_gf (pc := 119) (a := 303) D rfl rfl (by decide) rfl (s0_303 H) rfl fun D =>
                j_ldcw (pc := 122) D rfl fun D =>
                j_ivuv (pc := 125) (dd := 138) (a := [(4, 63)]) (rest := []) H.2.1 D rfl rfl rfl rfl rfl (fun m24 h21 e1 D =>
                  have T := fj_run_ok _ _ _ _ _ _ H.1 e1
                  have kc12 := cls_st H.1 T.2 kc12 (by decide)
                  have H := shp_st H T
                  j_ald (pc := 128) D rfl rfl rfl fun D =>
                  j_gf (pc := 130) (a := v9.toNat) D rfl rfl (nz_cls H.2.1 kc12 (by decide)) rfl kc12 rfl fun D =>
                  j_ast (pc := 133) (L' := [(7, (4, h21 374 v9.toNat 0)), (6, (4, v9)), (0, (4, 303)), (4, (4, x4)), (5, (4, x5))]) D rfl nl_0 rfl rfl fun D =>
                  j_ald (pc := 135) D rfl rfl rfl fun D =>
                  j_lenu (pc := 137) H.2.1 D rfl fun q D =>
                  j_ist (pc := 138) (L' := [(8, (0, h21 1 (h21 374 v9.toNat 0).toNat 0)), (7, (4, h21 374 v9.toNat 0)), (6, (4, v9)), (0, (4, 303)), (4, (4, x4)), (5, (4, x5))]) D rfl nl_0 rfl rfl fun D =>
                  j_ic (pc := 140) D rfl fun D =>
                  have D : fk_D 0 [(141, none, .istore 9, 2, 0, 0, 0)] := fq_of2 cd_0 ow_0 cl_0 rfl (pc := 141) (by decide +kernel)
                  j_ist (pc := 141) (L' := [(9, (0, 0)), (8, (0, h21 1 (h21 374 v9.toNat 0).toNat 0)), (7, (4, h21 374 v9.toNat 0)), (6, (4, v9)), (0, (4, 303)), (4, (4, x4)), (5, (4, x5))]) D rfl nl_0 rfl rfl fun D =>
                  fk_jump cut_0_143 rfl rfl) (fun m24 q23 h21 e1 =>
                  j_tx (hx_0 _))) (fun m20 q19 h17 e1 =>
                j_tx (hx_0 _))) (fun m16 q15 h13 e1 =>
              j_tx (hx_0 _)))) (fun m11 q10 h8 e1 =>
          j_tx (hx_0 _)))) (fun m4 q3 h1 e1 =>
      j_tx (hx_0 _))
theorem e_0_143 (d : Nat) (x4 x5 x7 x8 x9 : Int) {h : fi_H} (H : Shp h) : c_0_143 d x4 x5 x7 x8 x9 h =
  if x9 < x8 then
    if (20 ≤ h 0 x7.toNat 0 ∧ h 0 x7.toNat 0 < 30) ∧ 0 ≤ x9 ∧ x9 < h 1 x7.toNat 0 then
    cv_ (fj_run d 32 h [(4, 303), (4, x4), (4, h 12 x7.toNat x9.toNat)])
      (fun h1 =>
      c_0_143 d x4 x5 x7 x8 (wI (x9 + 1)) h1)
      (fun q3 h1 => tx_ q3 h1)
    else none
  else
    dv_ (fi_vt 138 (h 0 (h 270 303 0).toNat 0)) fun m7 => cv_ (fj_run d m7 h [(4, h 270 303 0), (4, 165)])
      (fun h4 =>
      if h4 0 (h4 270 303 0).toNat 0 = 113 then
      if h4 186 (h4 270 303 0).toNat 0 = 0 then
        c_0_62 d x4 x5 h4
      else
        some (.inl (some (0, (-4))), h4)
      else none)
      (fun q6 h4 => tx_ q6 h4) := by
  unfold c_0_143
  exact
    have D : fk_D 0 [(143, some [0, 4, 5, 7, 8, 9], .iload 9, 2, 0, 0, 0), (145, none, .iload 8, 2, 0, 0, 0), (147, none, .if_icmp .ge 24, 3, 171, 0, 0), (150, none, .aload 7, 2, 0, 0, 0), (152, none, .iload 9, 2, 0, 0, 0), (154, none, .aaload, 1, 0, 0, 0), (155, none, .astore 10, 2, 0, 0, 0), (157, none, .aload_n 0, 1, 0, 0, 0), (158, none, .aload 4, 2, 0, 0, 0), (160, none, .aload 10, 2, 0, 0, 0), (162, none, .invokevirtual 557, 3, 2, 150, 0), (165, none, .iinc 9 1, 3, 0, 1, 0), (168, none, .goto (-25), 3, 143, 0, 0)] := fq_of2 cd_0 ow_0 cl_0 rfl (pc := 143) (by decide +kernel)
    j_ild (pc := 143) D rfl rfl rfl fun D =>
    j_ild (pc := 145) D rfl rfl rfl fun D =>
    j_ige (pc := 147) D rfl (fun q D =>
      j_ald (pc := 150) D rfl rfl rfl fun D =>
      j_ild (pc := 152) D rfl rfl rfl fun D =>
      j_alr (pc := 154) H.2.1 D rfl rfl fun q q2 D =>
      j_ast (pc := 155) (L' := [(10, (4, h 12 x7.toNat x9.toNat)), (0, (4, 303)), (4, (4, x4)), (5, (4, x5)), (7, (4, x7)), (8, (0, x8)), (9, (0, x9))]) D rfl nl_0 rfl rfl fun D =>
      j_aldn (pc := 157) D rfl rfl rfl fun D =>
      j_ald (pc := 158) D rfl rfl rfl fun D =>
      j_ald (pc := 160) D rfl rfl rfl fun D =>
      j_ivv (pc := 162) (m := 32) (dd := 150) (a := [(4, x4), (4, h 12 x7.toNat x9.toNat)]) (rest := []) D rfl rfl rfl rfl rfl (by decide) (s0_303 H) (by decide +kernel) (fun h1 e1 D =>
        have T := fj_run_ok _ _ _ _ _ _ H.1 e1
        have H := shp_st H T
        j_inc (pc := 165) (L' := [(9, (0, wI (x9 + 1))), (10, (4, h 12 x7.toNat x9.toNat)), (0, (4, 303)), (4, (4, x4)), (5, (4, x5)), (7, (4, x7)), (8, (0, x8))]) D rfl rfl rfl (by decide +kernel) rfl fun D =>
        j_goto (pc := 168) D rfl <|
        fk_jump cut_0_143 rfl rfl) (fun q3 h1 e1 =>
        j_tx (hx_0 _))) (fun q =>
      have D : fk_D 0 [(171, none, .aload_n 0, 1, 0, 0, 0), (172, none, .getfield 457, 3, 270, 100, 12), (175, none, .ldc_w 561, 3, 4, 165, 0), (178, none, .invokevirtual 463, 3, 1, 138, 0), (181, none, .aload_n 0, 1, 0, 0, 0), (182, none, .getfield 457, 3, 270, 100, 12), (185, none, .getfield 563, 3, 186, (-113), 4), (188, none, .ifCond .eq 6, 3, 194, 0, 0), (191, none, .bipush (-4), 2, 0, (-4), 0), (193, none, .ireturn, 1, 0, 0, 0)] := fq_of2 cd_0 ow_0 cl_0 rfl (pc := 171) (by decide +kernel)
      j_aldn (pc := 171) D rfl rfl rfl fun D =>
      j_gf (pc := 172) (a := 303) D rfl rfl (by decide) rfl (s0_303 H) rfl fun D =>
      j_ldcw (pc := 175) D rfl fun D =>
      j_ivuv (pc := 178) (dd := 138) (a := [(4, 165)]) (rest := []) H.2.1 D rfl rfl rfl rfl rfl (fun m7 h4 e1 D =>
        have T := fj_run_ok _ _ _ _ _ _ H.1 e1
        have H := shp_st H T
        j_aldn (pc := 181) D rfl rfl rfl fun D =>
        j_gf (pc := 182) (a := 303) D rfl rfl (by decide) rfl (s0_303 H) rfl fun D =>
        j_gfo (pc := 185) H.2.1 D rfl rfl rfl rfl fun kc8 D =>
        j_ifeq (pc := 188) D rfl (fun q =>
          have D : fk_D 0 [(194, none, .goto (-132), 3, 62, 0, 0)] := fq_of2 cd_0 ow_0 cl_0 rfl (pc := 194) (by decide +kernel)
          j_goto (pc := 194) D rfl <|
          fk_jump cut_0_62 rfl rfl) (fun q D =>
          j_bp (pc := 191) D rfl fun D =>
          j_iret D rt_0)) (fun m7 q6 h4 e1 =>
        j_tx (hx_0 _)))
theorem m_0 (d : Nat) (x1 x2 x3 : Int) {h : fi_H} (H : Shp h) : fj_run (d + 1) 0 h [(4, 303), (0, x1), (0, x2), (0, x3)] =
  ca_ (fj_run d 1 h [(0, x1)]) 0
    (fun v2 h1 =>
    if v2 = 0 then
      some (.inl (some (0, (-2))), h1)
    else
      ca_ (fj_run d 2 h1 [(4, 303), (0, x2)]) 0
        (fun v5 h4 =>
        if v5 = 0 then
          some (.inl (some (0, (-2))), h4)
        else
          ca_ (fj_run d 2 h4 [(4, 303), (0, x3)]) 0
            (fun v8 h7 =>
            if v8 = 0 then
              some (.inl (some (0, (-2))), h7)
            else
              if 0 ≤ x1 ∧ x1 < 4 then
              dv_ (fi_vt 133 (h7 0 (h7 12 363 12).toNat 0)) fun m14 => cv_ (fj_run d m14 h7 [(4, h7 12 363 12), (4, h7 12 354 x1.toNat), (0, x3), (0, x2)])
                (fun h11 =>
                dv_ (fi_vt 146 (h11 0 (h11 270 303 0).toNat 0)) fun m18 => cv_ (fj_run d m18 h11 [(4, h11 270 303 0)])
                  (fun h15 =>
                  dv_ (fi_vt 147 (h15 0 (h7 12 363 12).toNat 0)) fun m22 => ca_ (fj_run d m22 h15 [(4, h7 12 363 12)]) 4
                    (fun v20 h19 =>
                    c_0_62 d (h7 12 363 12) v20 h19)
                    (fun q21 h19 => tx_ q21 h19))
                  (fun q17 h15 => tx_ q17 h15))
                (fun q13 h11 => tx_ q13 h11)
              else none)
            (fun q9 h7 => tx_ q9 h7))
        (fun q6 h4 => tx_ q6 h4))
    (fun q3 h1 => tx_ q3 h1) := by
  rw [fj_run_eq d (by decide) h [(4, 303), (0, x1), (0, x2), (0, x3)] (Nat.le_of_ble_eq_true (by rw [nl_0]; rfl))]
  show gG (fj_run d) 0 0 [(0, (4, 303)), (1, (0, x1)), (2, (0, x2)), (3, (0, x3))] [] h = _
  exact
    have D : fk_D 0 [(0, none, .iload_n 1, 1, 0, 0, 0), (1, none, .invokestatic 526, 3, 1, 1, 1), (4, none, .ifCond .eq 19, 3, 23, 0, 0), (7, none, .aload_n 0, 1, 0, 0, 0), (8, none, .iload_n 2, 1, 0, 0, 0), (9, none, .invokevirtual 121, 3, 1, 113, 1), (12, none, .ifCond .eq 11, 3, 23, 0, 0), (15, none, .aload_n 0, 1, 0, 0, 0), (16, none, .iload_n 3, 1, 0, 0, 0), (17, none, .invokevirtual 121, 3, 1, 113, 1), (20, none, .ifCond .ne 6, 3, 26, 0, 0), (23, none, .bipush (-2), 2, 0, (-2), 0), (25, none, .ireturn, 1, 0, 0, 0)] := fq_of2 cd_0 ow_0 cl_0 rfl (pc := 0) (by decide +kernel)
    j_ildn (pc := 0) D rfl rfl rfl fun D =>
    j_is (pc := 1) (m := 1) (a := [(0, x1)]) (rest := []) D rfl rfl rfl rfl (fun v2 h1 e1 D =>
      have T := fj_run_ok _ _ _ _ _ _ H.1 e1
      have H := shp_st H T
      j_ifeq (pc := 4) D rfl (fun q =>
        have D : fk_D 0 [(23, none, .bipush (-2), 2, 0, (-2), 0), (25, none, .ireturn, 1, 0, 0, 0)] := fq_of2 cd_0 ow_0 cl_0 rfl (pc := 23) (by decide +kernel)
        j_bp (pc := 23) D rfl fun D =>
        j_iret D rt_0) (fun q D =>
        j_aldn (pc := 7) D rfl rfl rfl fun D =>
        j_ildn (pc := 8) D rfl rfl rfl fun D =>
        j_iv (pc := 9) (m := 2) (dd := 113) (a := [(0, x2)]) (rest := []) D rfl rfl rfl rfl rfl (by decide) (s0_303 H) (by decide +kernel) (fun v5 h4 e1 D =>
          have T := fj_run_ok _ _ _ _ _ _ H.1 e1
          have H := shp_st H T
          j_ifeq (pc := 12) D rfl (fun q =>
            have D : fk_D 0 [(23, none, .bipush (-2), 2, 0, (-2), 0), (25, none, .ireturn, 1, 0, 0, 0)] := fq_of2 cd_0 ow_0 cl_0 rfl (pc := 23) (by decide +kernel)
            j_bp (pc := 23) D rfl fun D =>
            j_iret D rt_0) (fun q D =>
            j_aldn (pc := 15) D rfl rfl rfl fun D =>
            j_ildn (pc := 16) D rfl rfl rfl fun D =>
            j_iv (pc := 17) (m := 2) (dd := 113) (a := [(0, x3)]) (rest := []) D rfl rfl rfl rfl rfl (by decide) (s0_303 H) (by decide +kernel) (fun v8 h7 e1 D =>
              have T := fj_run_ok _ _ _ _ _ _ H.1 e1
              have H := shp_st H T
              j_ifne (pc := 20) D rfl (fun q D =>
                j_bp (pc := 23) D rfl fun D =>
                j_iret D rt_0) (fun q =>
                have D : fk_D 0 [(26, none, .aload_n 0, 1, 0, 0, 0), (27, none, .getfield 348, 3, 248, 100, 12), (30, none, .bipush 12, 2, 0, 12, 0), (32, none, .aaload, 1, 0, 0, 0), (33, none, .astore 4, 2, 0, 0, 0), (35, none, .aload 4, 2, 0, 0, 0), (37, none, .aload_n 0, 1, 0, 0, 0), (38, none, .getfield 529, 3, 227, 100, 12), (41, none, .iload_n 1, 1, 0, 0, 0), (42, none, .aaload, 1, 0, 0, 0), (43, none, .iload_n 3, 1, 0, 0, 0), (44, none, .iload_n 2, 1, 0, 0, 0), (45, none, .invokevirtual 352, 3, 3, 133, 0), (48, none, .aload_n 0, 1, 0, 0, 0), (49, none, .getfield 457, 3, 270, 100, 12), (52, none, .invokevirtual 533, 3, 0, 146, 0), (55, none, .aload 4, 2, 0, 0, 0), (57, none, .invokevirtual 536, 3, 0, 147, 5), (60, none, .astore 5, 2, 0, 0, 0)] := fq_of2 cd_0 ow_0 cl_0 rfl (pc := 26) (by decide +kernel)
                j_aldn (pc := 26) D rfl rfl rfl fun D =>
                j_gfc (pc := 27) (a := 303) D rfl rfl (by decide) rfl (s0_303 H) rfl (sf_248_303 H) fun D =>
                j_bp (pc := 30) D rfl fun D =>
                j_al (pc := 32) (a := 363) (e := 12) D rfl rfl rfl (by decide) (s0_363 H) (s1_363 H) ⟨rfl, rfl, rfl⟩ rfl (gy (by decide)) fun q D =>
                j_ast (pc := 33) (L' := [(4, (4, h7 12 363 12)), (0, (4, 303)), (1, (0, x1)), (2, (0, x2)), (3, (0, x3))]) D rfl nl_0 rfl rfl fun D =>
                j_ald (pc := 35) D rfl rfl rfl fun D =>
                j_aldn (pc := 37) D rfl rfl rfl fun D =>
                j_gfc (pc := 38) (a := 303) D rfl rfl (by decide) rfl (s0_303 H) rfl (sf_227_303 H) fun D =>
                j_ildn (pc := 41) D rfl rfl rfl fun D =>
                j_al (pc := 42) (a := 354) (e := 12) D rfl rfl rfl (by decide) (s0_354 H) (s1_354 H) ⟨rfl, rfl, rfl⟩ rfl gn fun qb10 D =>
                j_ildn (pc := 43) D rfl rfl rfl fun D =>
                j_ildn (pc := 44) D rfl rfl rfl fun D =>
                j_ivuv (pc := 45) (dd := 133) (a := [(4, h7 12 354 x1.toNat), (0, x3), (0, x2)]) (rest := []) H.2.1 D rfl rfl rfl rfl rfl (fun m14 h11 e1 D =>
                  have T := fj_run_ok _ _ _ _ _ _ H.1 e1
                  have H := shp_st H T
                  j_aldn (pc := 48) D rfl rfl rfl fun D =>
                  j_gf (pc := 49) (a := 303) D rfl rfl (by decide) rfl (s0_303 H) rfl fun D =>
                  j_ivuv (pc := 52) (dd := 146) (a := []) (rest := []) H.2.1 D rfl rfl rfl rfl rfl (fun m18 h15 e1 D =>
                    have T := fj_run_ok _ _ _ _ _ _ H.1 e1
                    have H := shp_st H T
                    j_ald (pc := 55) D rfl rfl rfl fun D =>
                    j_ivu (pc := 57) (dd := 147) (a := []) (rest := []) H.2.1 D rfl rfl rfl rfl rfl (fun m22 v20 h19 e1 D =>
                      have T := fj_run_ok _ _ _ _ _ _ H.1 e1
                      have H := shp_st H T
                      j_ast (pc := 60) (L' := [(5, (4, v20)), (4, (4, h7 12 363 12)), (0, (4, 303)), (1, (0, x1)), (2, (0, x2)), (3, (0, x3))]) D rfl nl_0 rfl rfl fun D =>
                      fk_jump cut_0_62 rfl rfl) (fun m22 q21 h19 e1 =>
                      j_tx (hx_0 _))) (fun m18 q17 h15 e1 =>
                    j_tx (hx_0 _))) (fun m14 q13 h11 e1 =>
                  j_tx (hx_0 _)))) (fun q9 h7 e1 =>
              j_tx (hx_0 _)))) (fun q6 h4 e1 =>
          j_tx (hx_0 _)))) (fun q3 h1 e1 =>
      j_tx (hx_0 _))
/-! 1 StatuteHouse.isLaw(I)Z -/
theorem cd_1 : fi_code 1 = prog_1_method_44_code := rfl
theorem hx_1 : ∀ pc, fi_hat 1 pc = none := fun pc => by unfold fi_hat; rw [show fi_hh 1 = [] from rfl]; rfl
theorem rt_1 : fi_ret 1 = some .boolean := rfl
theorem nl_1 : fi_nl 1 = 1 := rfl
theorem ow_1 : fi_ow 1 = 0 := rfl
theorem cl_1 : fj_cutT.getD 1 [] = [] := rfl
theorem m_1 (d : Nat) (x0 : Int) {h : fi_H} (H : Shp h) : fj_run (d + 1) 1 h [(0, x0)] =
  if x0 < 0 then
    some (.inl (some (0, 0)), h)
  else
    if x0 < 4 then
      some (.inl (some (0, 1)), h)
    else
      some (.inl (some (0, 0)), h) := by
  rw [fj_run_eq d (by decide) h [(0, x0)] (Nat.le_of_ble_eq_true (by rw [nl_1]; rfl))]
  show gG (fj_run d) 1 0 [(0, (0, x0))] [] h = _
  exact
    have D : fk_D 1 [(0, none, .iload_n 0, 1, 0, 0, 0), (1, none, .ifCond .lt 12, 3, 13, 0, 0), (4, none, .iload_n 0, 1, 0, 0, 0), (5, none, .iconst 4, 1, 0, 4, 0), (6, none, .if_icmp .ge 7, 3, 13, 0, 0), (9, none, .iconst 1, 1, 0, 1, 0), (10, none, .goto 4, 3, 14, 0, 0)] := fq_of2 cd_1 ow_1 cl_1 rfl (pc := 0) (by decide +kernel)
    j_ildn (pc := 0) D rfl rfl rfl fun D =>
    j_iflt (pc := 1) D rfl (fun q =>
      have D : fk_D 1 [(13, none, .iconst 0, 1, 0, 0, 0), (14, none, .ireturn, 1, 0, 0, 0)] := fq_of2 cd_1 ow_1 cl_1 rfl (pc := 13) (by decide +kernel)
      j_ic (pc := 13) D rfl fun D =>
      j_zret D rt_1 (gy (by decide))) (fun q D =>
      j_ildn (pc := 4) D rfl rfl rfl fun D =>
      j_ic (pc := 5) D rfl fun D =>
      j_ige (pc := 6) D rfl (fun q D =>
        j_ic (pc := 9) D rfl fun D =>
        j_goto (pc := 10) D rfl <|
        have D : fk_D 1 [(14, none, .ireturn, 1, 0, 0, 0)] := fq_of2 cd_1 ow_1 cl_1 rfl (pc := 14) (by decide +kernel)
        j_zret D rt_1 (gy (by decide))) (fun q =>
        have D : fk_D 1 [(13, none, .iconst 0, 1, 0, 0, 0), (14, none, .ireturn, 1, 0, 0, 0)] := fq_of2 cd_1 ow_1 cl_1 rfl (pc := 13) (by decide +kernel)
        j_ic (pc := 13) D rfl fun D =>
        j_zret D rt_1 (gy (by decide))))
/-! 2 StatuteHouse.isDay(I)Z -/
theorem cd_2 : fi_code 2 = prog_1_method_7_code := rfl
theorem hx_2 : ∀ pc, fi_hat 2 pc = none := fun pc => by unfold fi_hat; rw [show fi_hh 2 = [] from rfl]; rfl
theorem rt_2 : fi_ret 2 = some .boolean := rfl
theorem nl_2 : fi_nl 2 = 2 := rfl
theorem ow_2 : fi_ow 2 = 0 := rfl
theorem cl_2 : fj_cutT.getD 2 [] = [] := rfl
theorem m_2 (d : Nat) (x1 : Int) {h : fi_H} (H : Shp h) : fj_run (d + 1) 2 h [(4, 303), (0, x1)] =
  ca_ (fj_run d 3 h [(1, wI x1), (1, 0), (1, 65535)]) 0
    (fun v2 h1 =>
    if v2 = 0 ∨ v2 = 1 then some (.inl (some (0, v2)), h1) else none)
    (fun q3 h1 => tx_ q3 h1) := by
  rw [fj_run_eq d (by decide) h [(4, 303), (0, x1)] (Nat.le_of_ble_eq_true (by rw [nl_2]; rfl))]
  show gG (fj_run d) 2 0 [(0, (4, 303)), (1, (0, x1))] [] h = _
  exact
    have D : fk_D 2 [(0, none, .iload_n 1, 1, 0, 0, 0), (1, none, .i2l, 1, 0, 0, 0), (2, none, .lconst 0, 1, 0, 0, 0), (3, none, .ldc2_w 44, 3, 1, 65535, 0), (6, none, .invokestatic 46, 3, 3, 3, 1), (9, none, .ireturn, 1, 0, 0, 0)] := fq_of2 cd_2 ow_2 cl_2 rfl (pc := 0) (by decide +kernel)
    j_ildn (pc := 0) D rfl rfl rfl fun D =>
    j_i2l (pc := 1) D rfl fun D =>
    j_c0 (pc := 2) (v := (1, 0)) D rfl rfl (by decide +kernel) fun D =>
    j_ldc2 (pc := 3) D rfl fun D =>
    j_is (pc := 6) (m := 3) (a := [(1, wI x1), (1, 0), (1, 65535)]) (rest := []) D rfl rfl rfl rfl (fun v2 h1 e1 D =>
      have T := fj_run_ok _ _ _ _ _ _ H.1 e1
      have H := shp_st H T
      j_zret D rt_2 gn) (fun q3 h1 e1 =>
      j_tx (hx_2 _))
/-! 3 StatuteHouse.in(JJJ)Z -/
theorem cd_3 : fi_code 3 = prog_1_method_5_code := rfl
theorem hx_3 : ∀ pc, fi_hat 3 pc = none := fun pc => by unfold fi_hat; rw [show fi_hh 3 = [] from rfl]; rfl
theorem rt_3 : fi_ret 3 = some .boolean := rfl
theorem nl_3 : fi_nl 3 = 6 := rfl
theorem ow_3 : fi_ow 3 = 0 := rfl
theorem cl_3 : fj_cutT.getD 3 [] = [] := rfl
theorem m_3 (d : Nat) (x0 x2 x4 : Int) {h : fi_H} (H : Shp h) : fj_run (d + 1) 3 h [(1, x0), (1, x2), (1, x4)] =
  if lc_ x0 x2 < 0 then
    some (.inl (some (0, 0)), h)
  else
    if 0 < lc_ x0 x4 then
      some (.inl (some (0, 0)), h)
    else
      some (.inl (some (0, 1)), h) := by
  rw [fj_run_eq d (by decide) h [(1, x0), (1, x2), (1, x4)] (Nat.le_of_ble_eq_true (by rw [nl_3]; rfl))]
  show gG (fj_run d) 3 0 [(0, (1, x0)), (2, (1, x2)), (4, (1, x4))] [] h = _
  exact
    have D : fk_D 3 [(0, none, .lload_n 0, 1, 0, 0, 0), (1, none, .lload_n 2, 1, 0, 0, 0), (2, none, .lcmp, 1, 0, 0, 0), (3, none, .ifCond .lt 14, 3, 17, 0, 0), (6, none, .lload_n 0, 1, 0, 0, 0), (7, none, .lload 4, 2, 0, 0, 0), (9, none, .lcmp, 1, 0, 0, 0), (10, none, .ifCond .gt 7, 3, 17, 0, 0), (13, none, .iconst 1, 1, 0, 1, 0), (14, none, .goto 4, 3, 18, 0, 0)] := fq_of2 cd_3 ow_3 cl_3 rfl (pc := 0) (by decide +kernel)
    j_lldn (pc := 0) D rfl rfl rfl fun D =>
    j_lldn (pc := 1) D rfl rfl rfl fun D =>
    j_lcmp (pc := 2) D rfl fun D =>
    j_iflt (pc := 3) D rfl (fun q =>
      have D : fk_D 3 [(17, none, .iconst 0, 1, 0, 0, 0), (18, none, .ireturn, 1, 0, 0, 0)] := fq_of2 cd_3 ow_3 cl_3 rfl (pc := 17) (by decide +kernel)
      j_ic (pc := 17) D rfl fun D =>
      j_zret D rt_3 (gy (by decide))) (fun q D =>
      j_lldn (pc := 6) D rfl rfl rfl fun D =>
      j_lld (pc := 7) D rfl rfl rfl fun D =>
      j_lcmp (pc := 9) D rfl fun D =>
      j_ifgt (pc := 10) D rfl (fun q =>
        have D : fk_D 3 [(17, none, .iconst 0, 1, 0, 0, 0), (18, none, .ireturn, 1, 0, 0, 0)] := fq_of2 cd_3 ow_3 cl_3 rfl (pc := 17) (by decide +kernel)
        j_ic (pc := 17) D rfl fun D =>
        j_zret D rt_3 (gy (by decide))) (fun q D =>
        j_ic (pc := 13) D rfl fun D =>
        j_goto (pc := 14) D rfl <|
        have D : fk_D 3 [(18, none, .ireturn, 1, 0, 0, 0)] := fq_of2 cd_3 ow_3 cl_3 rfl (pc := 18) (by decide +kernel)
        j_zret D rt_3 (gy (by decide))))
/-! 4 StatuteHouse$Sight.look(LStatuteHouse$Law;II)V -/
theorem cd_4 : fi_code 4 = prog_58_method_2_code := rfl
theorem hx_4 : ∀ pc, fi_hat 4 pc = none := fun pc => by unfold fi_hat; rw [show fi_hh 4 = [] from rfl]; rfl
theorem rt_4 : fi_ret 4 = none := rfl
theorem nl_4 : fi_nl 4 = 10 := rfl
theorem ow_4 : fi_ow 4 = 20 := rfl
theorem cl_4 : fj_cutT.getD 4 [] = [(47, [0, 1, 2, 3]), (95, [0, 1, 2, 3, 4, 5]), (144, [0, 1, 2, 3, 4, 5, 6]), (211, [0, 1, 2, 3, 4, 5]), (230, [0, 2, 3]), (233, [0, 2, 3, 5]), (321, [0, 2, 3, 5]), (330, [0, 5]), (362, [0, 5]), (391, [0, 5, 6, 7, 8]), (428, [0, 5, 6, 7, 8]), (443, [0, 5]), (472, [0, 5, 6, 7, 8]), (501, [0, 5, 6, 7, 8])] := rfl
theorem cut_4_47 : fj_cut 4 47 = some [0, 1, 2, 3] := by decide +kernel
noncomputable def c_4_47 (d : Nat) (x0 x1 x2 x3 : Int) (h : fi_H) : fk_R := gG (fj_run d) 4 47 [(0, (4, x0)), (1, (4, x1)), (2, (0, x2)), (3, (0, x3))] [] h
theorem cut_4_95 : fj_cut 4 95 = some [0, 1, 2, 3, 4, 5] := by decide +kernel
noncomputable def c_4_95 (d : Nat) (x0 x1 x2 x3 x4 x5 : Int) (h : fi_H) : fk_R := gG (fj_run d) 4 95 [(0, (4, x0)), (1, (4, x1)), (2, (0, x2)), (3, (0, x3)), (4, (4, x4)), (5, (0, x5))] [] h
theorem cut_4_144 : fj_cut 4 144 = some [0, 1, 2, 3, 4, 5, 6] := by decide +kernel
noncomputable def c_4_144 (d : Nat) (x0 x1 x2 x3 x4 x5 x6 : Int) (h : fi_H) : fk_R := gG (fj_run d) 4 144 [(0, (4, x0)), (1, (4, x1)), (2, (0, x2)), (3, (0, x3)), (4, (4, x4)), (5, (0, x5)), (6, (4, x6))] [] h
theorem cut_4_211 : fj_cut 4 211 = some [0, 1, 2, 3, 4, 5] := by decide +kernel
noncomputable def c_4_211 (d : Nat) (x0 x1 x2 x3 x4 x5 : Int) (h : fi_H) : fk_R := gG (fj_run d) 4 211 [(0, (4, x0)), (1, (4, x1)), (2, (0, x2)), (3, (0, x3)), (4, (4, x4)), (5, (0, x5))] [] h
theorem cut_4_230 : fj_cut 4 230 = some [0, 2, 3] := by decide +kernel
noncomputable def c_4_230 (d : Nat) (x0 x2 x3 : Int) (h : fi_H) : fk_R := gG (fj_run d) 4 230 [(0, (4, x0)), (2, (0, x2)), (3, (0, x3))] [] h
theorem cut_4_233 : fj_cut 4 233 = some [0, 2, 3, 5] := by decide +kernel
noncomputable def c_4_233 (d : Nat) (x0 x2 x3 x5 : Int) (h : fi_H) : fk_R := gG (fj_run d) 4 233 [(0, (4, x0)), (2, (0, x2)), (3, (0, x3)), (5, (0, x5))] [] h
theorem cut_4_321 : fj_cut 4 321 = some [0, 2, 3, 5] := by decide +kernel
noncomputable def c_4_321 (d : Nat) (x0 x2 x3 x5 : Int) (h : fi_H) : fk_R := gG (fj_run d) 4 321 [(0, (4, x0)), (2, (0, x2)), (3, (0, x3)), (5, (0, x5))] [] h
theorem cut_4_330 : fj_cut 4 330 = some [0, 5] := by decide +kernel
noncomputable def c_4_330 (d : Nat) (x0 x5 : Int) (h : fi_H) : fk_R := gG (fj_run d) 4 330 [(0, (4, x0)), (5, (0, x5))] [] h
theorem cut_4_362 : fj_cut 4 362 = some [0, 5] := by decide +kernel
noncomputable def c_4_362 (d : Nat) (x0 x5 : Int) (h : fi_H) : fk_R := gG (fj_run d) 4 362 [(0, (4, x0)), (5, (0, x5))] [] h
theorem cut_4_391 : fj_cut 4 391 = some [0, 5, 6, 7, 8] := by decide +kernel
noncomputable def c_4_391 (d : Nat) (x0 x5 x6 x7 x8 : Int) (h : fi_H) : fk_R := gG (fj_run d) 4 391 [(0, (4, x0)), (5, (0, x5)), (6, (4, x6)), (7, (0, x7)), (8, (0, x8))] [] h
theorem cut_4_428 : fj_cut 4 428 = some [0, 5, 6, 7, 8] := by decide +kernel
noncomputable def c_4_428 (d : Nat) (x0 x5 x6 x7 x8 : Int) (h : fi_H) : fk_R := gG (fj_run d) 4 428 [(0, (4, x0)), (5, (0, x5)), (6, (4, x6)), (7, (0, x7)), (8, (0, x8))] [] h
theorem cut_4_443 : fj_cut 4 443 = some [0, 5] := by decide +kernel
noncomputable def c_4_443 (d : Nat) (x0 x5 : Int) (h : fi_H) : fk_R := gG (fj_run d) 4 443 [(0, (4, x0)), (5, (0, x5))] [] h
theorem cut_4_472 : fj_cut 4 472 = some [0, 5, 6, 7, 8] := by decide +kernel
noncomputable def c_4_472 (d : Nat) (x0 x5 x6 x7 x8 : Int) (h : fi_H) : fk_R := gG (fj_run d) 4 472 [(0, (4, x0)), (5, (0, x5)), (6, (4, x6)), (7, (0, x7)), (8, (0, x8))] [] h
theorem cut_4_501 : fj_cut 4 501 = some [0, 5, 6, 7, 8] := by decide +kernel
noncomputable def c_4_501 (d : Nat) (x0 x5 x6 x7 x8 : Int) (h : fi_H) : fk_R := gG (fj_run d) 4 501 [(0, (4, x0)), (5, (0, x5)), (6, (4, x6)), (7, (0, x7)), (8, (0, x8))] [] h
theorem e_4_47 (d : Nat) (x0 x1 x2 x3 : Int) {h : fi_H} (H : Shp h) (hk : h 0 x0.toNat 0 = 120) (ht206 : h 206 x0.toNat 0 = 303) : c_4_47 d x0 x1 x2 x3 h =
  if 302 < x0 then
  lt_ (fi_upd h 192 x0.toNat 0 x1) fun h1 =>
  if 302 < x0 then
  lt_ (fi_upd h1 193 x0.toNat 0 x2) fun h2 =>
  if 302 < x0 then
  lt_ (fi_upd h2 194 x0.toNat 0 x3) fun h3 =>
  if 302 < x0 then
  lt_ (fi_upd h3 197 x0.toNat 0 (h3 233 303 0)) fun h4 =>
  if 302 < x0 then
  lt_ (fi_upd h4 195 x0.toNat 0 0) fun h5 =>
  if 302 < x0 then
  lt_ (fi_upd h5 196 x0.toNat 0 65536) fun h6 =>
  if 302 < x0 then
  lt_ (fi_upd h6 198 x0.toNat 0 0) fun h7 =>
  c_4_95 d x0 x1 x2 x3 0 0 h7
  else none
  else none
  else none
  else none
  else none
  else none
  else none := by
  unfold c_4_47
  exact
    have D : fk_D 4 [(47, some [0, 1, 2, 3], .aload_n 0, 1, 0, 0, 0), (48, none, .aload_n 1, 1, 0, 0, 0), (49, none, .putfield 44, 3, 192, 120, 12), (52, none, .aload_n 0, 1, 0, 0, 0), (53, none, .iload_n 2, 1, 0, 0, 0), (54, none, .putfield 48, 3, 193, 120, 10), (57, none, .aload_n 0, 1, 0, 0, 0), (58, none, .iload_n 3, 1, 0, 0, 0), (59, none, .putfield 60, 3, 194, 120, 10), (62, none, .aload_n 0, 1, 0, 0, 0), (63, none, .aload_n 0, 1, 0, 0, 0), (64, none, .getfield 3, 3, 206, 120, 12), (67, none, .getfield 51, 3, 233, 100, 10), (70, none, .putfield 15, 3, 197, 120, 10), (73, none, .aload_n 0, 1, 0, 0, 0), (74, none, .iconst 0, 1, 0, 0, 0), (75, none, .putfield 54, 3, 195, 120, 10), (78, none, .aload_n 0, 1, 0, 0, 0), (79, none, .ldc 63, 2, 0, 65536, 0), (81, none, .putfield 57, 3, 196, 120, 10)] := fq_of2 cd_4 ow_4 cl_4 rfl (pc := 47) (by decide +kernel)
    j_aldn (pc := 47) D rfl rfl rfl fun D =>
    j_aldn (pc := 48) D rfl rfl rfl fun D =>
    j_pf (pc := 49) (a := x0.toNat) D rfl rfl rfl hk rfl rfl gn (gy rfl) fun h1 eh1 S D =>
    have T := fj_hs_ok H.1 S
    have ht206 := fin_st H.1 T.2 hk (by decide) (by decide +kernel) ht206 (by decide)
    have hk := cls_st H.1 T.2 hk (by decide)
    have H := shp_st H T
    j_aldn (pc := 52) D rfl rfl rfl fun D =>
    j_ildn (pc := 53) D rfl rfl rfl fun D =>
    j_pf (pc := 54) (a := x0.toNat) D rfl rfl rfl hk rfl rfl gn (gy rfl) fun h2 eh2 S D =>
    have T := fj_hs_ok H.1 S
    have ht206 := fin_st H.1 T.2 hk (by decide) (by decide +kernel) ht206 (by decide)
    have hk := cls_st H.1 T.2 hk (by decide)
    have H := shp_st H T
    j_aldn (pc := 57) D rfl rfl rfl fun D =>
    j_ildn (pc := 58) D rfl rfl rfl fun D =>
    j_pf (pc := 59) (a := x0.toNat) D rfl rfl rfl hk rfl rfl gn (gy rfl) fun h3 eh3 S D =>
    have T := fj_hs_ok H.1 S
    have ht206 := fin_st H.1 T.2 hk (by decide) (by decide +kernel) ht206 (by decide)
    have hk := cls_st H.1 T.2 hk (by decide)
    have H := shp_st H T
    j_aldn (pc := 62) D rfl rfl rfl fun D =>
    j_aldn (pc := 63) D rfl rfl rfl fun D =>
    j_gfc (pc := 64) (a := x0.toNat) D rfl rfl (nz_cls H.2.1 hk (by decide)) rfl hk rfl ht206 fun D =>
    j_gf (pc := 67) (a := 303) D rfl rfl (by decide) rfl (s0_303 H) rfl fun D =>
    j_pf (pc := 70) (a := x0.toNat) D rfl rfl rfl hk rfl rfl gn (gy rfl) fun h4 eh4 S D =>
    have T := fj_hs_ok H.1 S
    have ht206 := fin_st H.1 T.2 hk (by decide) (by decide +kernel) ht206 (by decide)
    have hk := cls_st H.1 T.2 hk (by decide)
    have H := shp_st H T
    j_aldn (pc := 73) D rfl rfl rfl fun D =>
    j_ic (pc := 74) D rfl fun D =>
    j_pf (pc := 75) (a := x0.toNat) D rfl rfl rfl hk rfl rfl gn (gy rfl) fun h5 eh5 S D =>
    have T := fj_hs_ok H.1 S
    have ht206 := fin_st H.1 T.2 hk (by decide) (by decide +kernel) ht206 (by decide)
    have hk := cls_st H.1 T.2 hk (by decide)
    have H := shp_st H T
    j_aldn (pc := 78) D rfl rfl rfl fun D =>
    j_ldc (pc := 79) D rfl fun D =>
    j_pf (pc := 81) (a := x0.toNat) D rfl rfl rfl hk rfl rfl gn (gy rfl) fun h6 eh6 S D =>
    have T := fj_hs_ok H.1 S
    have ht206 := fin_st H.1 T.2 hk (by decide) (by decide +kernel) ht206 (by decide)
    have hk := cls_st H.1 T.2 hk (by decide)
    have H := shp_st H T
    have D : fk_D 4 [(84, none, .aload_n 0, 1, 0, 0, 0), (85, none, .iconst 0, 1, 0, 0, 0), (86, none, .putfield 64, 3, 198, 120, 10), (89, none, .aconst_null, 1, 0, 0, 0), (90, none, .astore 4, 2, 0, 0, 0), (92, none, .iconst 0, 1, 0, 0, 0), (93, none, .istore 5, 2, 0, 0, 0)] := fq_of2 cd_4 ow_4 cl_4 rfl (pc := 84) (by decide +kernel)
    j_aldn (pc := 84) D rfl rfl rfl fun D =>
    j_ic (pc := 85) D rfl fun D =>
    j_pf (pc := 86) (a := x0.toNat) D rfl rfl rfl hk rfl rfl gn (gy rfl) fun h7 eh7 S D =>
    have T := fj_hs_ok H.1 S
    have ht206 := fin_st H.1 T.2 hk (by decide) (by decide +kernel) ht206 (by decide)
    have hk := cls_st H.1 T.2 hk (by decide)
    have H := shp_st H T
    j_c0 (pc := 89) (v := (4, 0)) D rfl rfl (by decide +kernel) fun D =>
    j_ast (pc := 90) (L' := [(4, (4, 0)), (0, (4, x0)), (1, (4, x1)), (2, (0, x2)), (3, (0, x3))]) D rfl nl_4 rfl rfl fun D =>
    j_ic (pc := 92) D rfl fun D =>
    j_ist (pc := 93) (L' := [(5, (0, 0)), (4, (4, 0)), (0, (4, x0)), (1, (4, x1)), (2, (0, x2)), (3, (0, x3))]) D rfl nl_4 rfl rfl fun D =>
    fk_jump cut_4_95 rfl rfl
theorem e_4_95 (d : Nat) (x0 x1 x2 x3 x4 x5 : Int) {h : fi_H} (H : Shp h) (hk : h 0 x0.toNat 0 = 120) (ht206 : h 206 x0.toNat 0 = 303) : c_4_95 d x0 x1 x2 x3 x4 x5 h =
  if h 0 x1.toNat 0 = 110 then
  if x5 < h 190 x1.toNat 0 then
    if h 0 (h 189 x1.toNat 0).toNat 0 = 9 ∧ 0 ≤ x5 ∧ x5 < h 1 (h 189 x1.toNat 0).toNat 0 then
    if (20 ≤ h 0 (h 187 x1.toNat 0).toNat 0 ∧ h 0 (h 187 x1.toNat 0).toNat 0 < 30) ∧ 0 ≤ h 9 (h 189 x1.toNat 0).toNat x5.toNat ∧ h 9 (h 189 x1.toNat 0).toNat x5.toNat < h 1 (h 187 x1.toNat 0).toNat 0 then
    lt_ (h 12 (h 187 x1.toNat 0).toNat (h 9 (h 189 x1.toNat 0).toNat x5.toNat).toNat) fun y2 =>
    if x4 = 0 then
      c_4_144 d x0 x1 x2 x3 x4 x5 y2 h
    else
      if h 0 x4.toNat 0 = 126 then
      if h 0 y2.toNat 0 = 126 then
      if h 372 x4.toNat 0 = h 372 y2.toNat 0 then
        c_4_144 d x0 x1 x2 x3 x4 x5 y2 h
      else
        ca_ (fj_run d 5 h [(4, x0), (4, x4)]) 4
          (fun v6 h5 =>
          c_4_144 d x0 x1 x2 x3 v6 x5 y2 h5)
          (fun q7 h5 => tx_ q7 h5)
      else none
      else none
    else none
    else none
  else
    if x4 = 0 then
      c_4_230 d x0 x2 x3 h
    else
      ca_ (fj_run d 5 h [(4, x0), (4, x4)]) 4
        (fun v9 h8 =>
        c_4_230 d x0 x2 x3 h8)
        (fun q10 h8 => tx_ q10 h8)
  else none := by
  unfold c_4_95
  exact
    have D : fk_D 4 [(95, some [0, 1, 2, 3, 4, 5], .iload 5, 2, 0, 0, 0), (97, none, .aload_n 1, 1, 0, 0, 0), (98, none, .getfield 67, 3, 190, (-110), 10), (101, none, .if_icmp .ge 116, 3, 217, 0, 0), (104, none, .aload_n 1, 1, 0, 0, 0), (105, none, .getfield 70, 3, 187, 110, 12), (108, none, .aload_n 1, 1, 0, 0, 0), (109, none, .getfield 73, 3, 189, 110, 12), (112, none, .iload 5, 2, 0, 0, 0), (114, none, .saload, 1, 0, 0, 0), (115, none, .aaload, 1, 0, 0, 0), (116, none, .astore 6, 2, 0, 0, 0), (118, none, .aload 4, 2, 0, 0, 0), (120, none, .ifnull 24, 3, 144, 0, 0), (123, none, .aload 4, 2, 0, 0, 0), (125, none, .getfield 76, 3, 372, (-126), 10), (128, none, .aload 6, 2, 0, 0, 0), (130, none, .getfield 76, 3, 372, (-126), 10), (133, none, .if_icmp .eq 11, 3, 144, 0, 0), (136, none, .aload_n 0, 1, 0, 0, 0)] := fq_of2 cd_4 ow_4 cl_4 rfl (pc := 95) (by decide +kernel)
    j_ild (pc := 95) D rfl rfl rfl fun D =>
    j_aldn (pc := 97) D rfl rfl rfl fun D =>
    j_gfo (pc := 98) H.2.1 D rfl rfl rfl rfl fun kc1 D =>
    j_ige (pc := 101) D rfl (fun q D =>
      j_aldn (pc := 104) D rfl rfl rfl fun D =>
      j_gf (pc := 105) (a := x1.toNat) D rfl rfl (nz_cls H.2.1 kc1 (by decide)) rfl kc1 rfl fun D =>
      j_aldn (pc := 108) D rfl rfl rfl fun D =>
      j_gf (pc := 109) (a := x1.toNat) D rfl rfl (nz_cls H.2.1 kc1 (by decide)) rfl kc1 rfl fun D =>
      j_ild (pc := 112) D rfl rfl rfl fun D =>
      j_alp (pc := 114) (e := 9) H.2.1 D rfl rfl ⟨rfl, rfl, rfl⟩ rfl fun q q2 D =>
      j_alr (pc := 115) H.2.1 D rfl rfl fun q q2 D =>
      j_stl (pc := 116) (L' := fun y2 => [(6, (4, y2)), (0, (4, x0)), (1, (4, x1)), (2, (0, x2)), (3, (0, x3)), (4, (4, x4)), (5, (0, x5))]) D rfl ⟨rfl, rfl, rfl, rfl⟩ nl_4 rfl (fun _ => rfl) fun y2 ey2 D =>
      j_ald (pc := 118) D rfl rfl rfl fun D =>
      j_null (pc := 120) D rfl (fun q =>
        fk_jump cut_4_144 rfl rfl) (fun q D =>
        j_ald (pc := 123) D rfl rfl rfl fun D =>
        j_gfo (pc := 125) H.2.1 D rfl rfl rfl rfl fun kc3 D =>
        j_ald (pc := 128) D rfl rfl rfl fun D =>
        j_gfo (pc := 130) H.2.1 D rfl rfl rfl rfl fun kc4 D =>
        j_ieq (pc := 133) D rfl (fun q =>
          fk_jump cut_4_144 rfl rfl) (fun q D =>
          j_aldn (pc := 136) D rfl rfl rfl fun D =>
          have D : fk_D 4 [(137, none, .aload 4, 2, 0, 0, 0), (139, none, .invokevirtual 79, 3, 1, 202, 5), (142, none, .astore 4, 2, 0, 0, 0)] := fq_of2 cd_4 ow_4 cl_4 rfl (pc := 137) (by decide +kernel)
          j_ald (pc := 137) D rfl rfl rfl fun D =>
          j_iv (pc := 139) (m := 5) (dd := 202) (a := [(4, x4)]) (rest := []) D rfl rfl rfl rfl rfl (nz_cls H.2.1 hk (by decide)) hk (by decide +kernel) (fun v6 h5 e1 D =>
            have T := fj_run_ok _ _ _ _ _ _ H.1 e1
            have ht206 := fin_st H.1 T.2 hk (by decide) (by decide +kernel) ht206 (by decide)
            have hk := cls_st H.1 T.2 hk (by decide)
            have kc1 := cls_st H.1 T.2 kc1 (by decide)
            have kc3 := cls_st H.1 T.2 kc3 (by decide)
            have kc4 := cls_st H.1 T.2 kc4 (by decide)
            have H := shp_st H T
            j_ast (pc := 142) (L' := [(4, (4, v6)), (6, (4, y2)), (0, (4, x0)), (1, (4, x1)), (2, (0, x2)), (3, (0, x3)), (5, (0, x5))]) D rfl nl_4 rfl rfl fun D =>
            fk_jump cut_4_144 rfl rfl) (fun q7 h5 e1 =>
            j_tx (hx_4 _))))) (fun q =>
      have D : fk_D 4 [(217, none, .aload 4, 2, 0, 0, 0), (219, none, .ifnull 11, 3, 230, 0, 0), (222, none, .aload_n 0, 1, 0, 0, 0), (223, none, .aload 4, 2, 0, 0, 0), (225, none, .invokevirtual 79, 3, 1, 202, 5), (228, none, .astore 4, 2, 0, 0, 0)] := fq_of2 cd_4 ow_4 cl_4 rfl (pc := 217) (by decide +kernel)
      j_ald (pc := 217) D rfl rfl rfl fun D =>
      j_null (pc := 219) D rfl (fun q =>
        fk_jump cut_4_230 rfl rfl) (fun q D =>
        j_aldn (pc := 222) D rfl rfl rfl fun D =>
        j_ald (pc := 223) D rfl rfl rfl fun D =>
        j_iv (pc := 225) (m := 5) (dd := 202) (a := [(4, x4)]) (rest := []) D rfl rfl rfl rfl rfl (nz_cls H.2.1 hk (by decide)) hk (by decide +kernel) (fun v9 h8 e1 D =>
          have T := fj_run_ok _ _ _ _ _ _ H.1 e1
          have ht206 := fin_st H.1 T.2 hk (by decide) (by decide +kernel) ht206 (by decide)
          have hk := cls_st H.1 T.2 hk (by decide)
          have kc1 := cls_st H.1 T.2 kc1 (by decide)
          have H := shp_st H T
          j_ast (pc := 228) (L' := [(4, (4, v9)), (0, (4, x0)), (1, (4, x1)), (2, (0, x2)), (3, (0, x3)), (5, (0, x5))]) D rfl nl_4 rfl rfl fun D =>
          fk_jump cut_4_230 rfl rfl) (fun q10 h8 e1 =>
          j_tx (hx_4 _))))
theorem e_4_144 (d : Nat) (x0 x1 x2 x3 x4 x5 x6 : Int) {h : fi_H} (H : Shp h) (hk : h 0 x0.toNat 0 = 120) (ht206 : h 206 x0.toNat 0 = 303) : c_4_144 d x0 x1 x2 x3 x4 x5 x6 h =
  if h 0 x1.toNat 0 = 110 then
  if h 0 (h 189 x1.toNat 0).toNat 0 = 9 ∧ 0 ≤ x5 ∧ x5 < h 1 (h 189 x1.toNat 0).toNat 0 then
  if h 0 (h 188 x1.toNat 0).toNat 0 = 5 ∧ 0 ≤ h 9 (h 189 x1.toNat 0).toNat x5.toNat ∧ h 9 (h 189 x1.toNat 0).toNat x5.toNat < h 1 (h 188 x1.toNat 0).toNat 0 then
  if x2 < h 5 (h 188 x1.toNat 0).toNat (h 9 (h 189 x1.toNat 0).toNat x5.toNat).toNat then
    c_4_211 d x0 x1 x2 x3 x4 x5 h
  else
    if h 0 x6.toNat 0 = 126 then
    if x3 < h 373 x6.toNat 0 then
      ca_ (fj_run d 7 h [(0, h 196 x0.toNat 0), (0, h 373 x6.toNat 0)]) 0
        (fun v4 h3 =>
        if 302 < x0 then
        lt_ (fi_upd h3 196 x0.toNat 0 v4) fun h6 =>
        c_4_211 d x0 x1 x2 x3 x4 x5 h6
        else none)
        (fun q5 h3 => tx_ q5 h3)
    else
      ca_ (fj_run d 6 h [(0, h 195 x0.toNat 0), (0, h 373 x6.toNat 0)]) 0
        (fun v8 h7 =>
        if 302 < x0 then
        lt_ (fi_upd h7 195 x0.toNat 0 v8) fun h10 =>
        c_4_211 d x0 x1 x2 x3 x6 x5 h10
        else none)
        (fun q9 h7 => tx_ q9 h7)
    else none
  else none
  else none
  else none := by
  unfold c_4_144
  exact
    have D : fk_D 4 [(144, some [0, 1, 2, 3, 4, 5, 6], .aload_n 1, 1, 0, 0, 0), (145, none, .getfield 83, 3, 188, (-110), 12), (148, none, .aload_n 1, 1, 0, 0, 0), (149, none, .getfield 73, 3, 189, 110, 12), (152, none, .iload 5, 2, 0, 0, 0), (154, none, .saload, 1, 0, 0, 0), (155, none, .caload, 1, 0, 0, 0), (156, none, .iload_n 2, 1, 0, 0, 0), (157, none, .if_icmp .le 6, 3, 163, 0, 0), (160, none, .goto 51, 3, 211, 0, 0)] := fq_of2 cd_4 ow_4 cl_4 rfl (pc := 144) (by decide +kernel)
    j_aldn (pc := 144) D rfl rfl rfl fun D =>
    j_gfo (pc := 145) H.2.1 D rfl rfl rfl rfl fun kc1 D =>
    j_aldn (pc := 148) D rfl rfl rfl fun D =>
    j_gf (pc := 149) (a := x1.toNat) D rfl rfl (nz_cls H.2.1 kc1 (by decide)) rfl kc1 rfl fun D =>
    j_ild (pc := 152) D rfl rfl rfl fun D =>
    j_alp (pc := 154) (e := 9) H.2.1 D rfl rfl ⟨rfl, rfl, rfl⟩ rfl fun q q2 D =>
    j_alp (pc := 155) (e := 5) H.2.1 D rfl rfl ⟨rfl, rfl, rfl⟩ rfl fun q q2 D =>
    j_ildn (pc := 156) D rfl rfl rfl fun D =>
    j_ile (pc := 157) D rfl (fun q D =>
      j_goto (pc := 160) D rfl <|
      fk_jump cut_4_211 rfl rfl) (fun q =>
      have D : fk_D 4 [(163, none, .aload 6, 2, 0, 0, 0), (165, none, .getfield 87, 3, 373, (-126), 10), (168, none, .iload_n 3, 1, 0, 0, 0), (169, none, .if_icmp .gt 26, 3, 195, 0, 0), (172, none, .aload 6, 2, 0, 0, 0), (174, none, .astore 4, 2, 0, 0, 0), (176, none, .aload_n 0, 1, 0, 0, 0), (177, none, .aload_n 0, 1, 0, 0, 0), (178, none, .getfield 54, 3, 195, 120, 10), (181, none, .aload 6, 2, 0, 0, 0), (183, none, .getfield 87, 3, 373, 126, 10), (186, none, .invokestatic 90, 3, 2, 6, 1), (189, none, .putfield 54, 3, 195, 120, 10), (192, none, .goto 19, 3, 211, 0, 0)] := fq_of2 cd_4 ow_4 cl_4 rfl (pc := 163) (by decide +kernel)
      j_ald (pc := 163) D rfl rfl rfl fun D =>
      j_gfo (pc := 165) H.2.1 D rfl rfl rfl rfl fun kc2 D =>
      j_ildn (pc := 168) D rfl rfl rfl fun D =>
      j_igt (pc := 169) D rfl (fun q =>
        have D : fk_D 4 [(195, none, .aload_n 0, 1, 0, 0, 0), (196, none, .aload_n 0, 1, 0, 0, 0), (197, none, .getfield 57, 3, 196, 120, 10), (200, none, .aload 6, 2, 0, 0, 0), (202, none, .getfield 87, 3, 373, 126, 10), (205, none, .invokestatic 96, 3, 2, 7, 1), (208, none, .putfield 57, 3, 196, 120, 10)] := fq_of2 cd_4 ow_4 cl_4 rfl (pc := 195) (by decide +kernel)
        j_aldn (pc := 195) D rfl rfl rfl fun D =>
        j_aldn (pc := 196) D rfl rfl rfl fun D =>
        j_gf (pc := 197) (a := x0.toNat) D rfl rfl (nz_cls H.2.1 hk (by decide)) rfl hk rfl fun D =>
        j_ald (pc := 200) D rfl rfl rfl fun D =>
        j_gf (pc := 202) (a := x6.toNat) D rfl rfl (nz_cls H.2.1 kc2 (by decide)) rfl kc2 rfl fun D =>
        j_is (pc := 205) (m := 7) (a := [(0, h 196 x0.toNat 0), (0, h 373 x6.toNat 0)]) (rest := [(4, x0)]) D rfl rfl rfl rfl (fun v4 h3 e1 D =>
          have T := fj_run_ok _ _ _ _ _ _ H.1 e1
          have ht206 := fin_st H.1 T.2 hk (by decide) (by decide +kernel) ht206 (by decide)
          have hk := cls_st H.1 T.2 hk (by decide)
          have kc1 := cls_st H.1 T.2 kc1 (by decide)
          have kc2 := cls_st H.1 T.2 kc2 (by decide)
          have H := shp_st H T
          j_pf (pc := 208) (a := x0.toNat) D rfl rfl rfl hk rfl rfl gn (gy rfl) fun h6 eh6 S D =>
          have T := fj_hs_ok H.1 S
          have ht206 := fin_st H.1 T.2 hk (by decide) (by decide +kernel) ht206 (by decide)
          have hk := cls_st H.1 T.2 hk (by decide)
          have kc1 := cls_st H.1 T.2 kc1 (by decide)
          have kc2 := cls_st H.1 T.2 kc2 (by decide)
          have H := shp_st H T
          fk_jump cut_4_211 rfl rfl) (fun q5 h3 e1 =>
          j_tx (hx_4 _))) (fun q D =>
        j_ald (pc := 172) D rfl rfl rfl fun D =>
        j_ast (pc := 174) (L' := [(4, (4, x6)), (0, (4, x0)), (1, (4, x1)), (2, (0, x2)), (3, (0, x3)), (5, (0, x5)), (6, (4, x6))]) D rfl nl_4 rfl rfl fun D =>
        j_aldn (pc := 176) D rfl rfl rfl fun D =>
        j_aldn (pc := 177) D rfl rfl rfl fun D =>
        j_gf (pc := 178) (a := x0.toNat) D rfl rfl (nz_cls H.2.1 hk (by decide)) rfl hk rfl fun D =>
        j_ald (pc := 181) D rfl rfl rfl fun D =>
        j_gf (pc := 183) (a := x6.toNat) D rfl rfl (nz_cls H.2.1 kc2 (by decide)) rfl kc2 rfl fun D =>
        j_is (pc := 186) (m := 6) (a := [(0, h 195 x0.toNat 0), (0, h 373 x6.toNat 0)]) (rest := [(4, x0)]) D rfl rfl rfl rfl (fun v8 h7 e1 D =>
          have T := fj_run_ok _ _ _ _ _ _ H.1 e1
          have ht206 := fin_st H.1 T.2 hk (by decide) (by decide +kernel) ht206 (by decide)
          have hk := cls_st H.1 T.2 hk (by decide)
          have kc1 := cls_st H.1 T.2 kc1 (by decide)
          have kc2 := cls_st H.1 T.2 kc2 (by decide)
          have H := shp_st H T
          j_pf (pc := 189) (a := x0.toNat) D rfl rfl rfl hk rfl rfl gn (gy rfl) fun h10 eh10 S D =>
          have T := fj_hs_ok H.1 S
          have ht206 := fin_st H.1 T.2 hk (by decide) (by decide +kernel) ht206 (by decide)
          have hk := cls_st H.1 T.2 hk (by decide)
          have kc1 := cls_st H.1 T.2 kc1 (by decide)
          have kc2 := cls_st H.1 T.2 kc2 (by decide)
          have H := shp_st H T
          j_goto (pc := 192) D rfl <|
          fk_jump cut_4_211 rfl rfl) (fun q9 h7 e1 =>
          j_tx (hx_4 _))))
theorem e_4_211 (d : Nat) (x0 x1 x2 x3 x4 x5 : Int) {h : fi_H} (H : Shp h) (hk : h 0 x0.toNat 0 = 120) (ht206 : h 206 x0.toNat 0 = 303) : c_4_211 d x0 x1 x2 x3 x4 x5 h =
  c_4_95 d x0 x1 x2 x3 x4 (wI (x5 + 1)) h := by
  unfold c_4_211
  exact
    have D : fk_D 4 [(211, some [0, 1, 2, 3, 4, 5], .iinc 5 1, 3, 0, 1, 0), (214, none, .goto (-119), 3, 95, 0, 0)] := fq_of2 cd_4 ow_4 cl_4 rfl (pc := 211) (by decide +kernel)
    j_inc (pc := 211) (L' := [(5, (0, wI (x5 + 1))), (0, (4, x0)), (1, (4, x1)), (2, (0, x2)), (3, (0, x3)), (4, (4, x4))]) D rfl rfl rfl (by decide +kernel) rfl fun D =>
    j_goto (pc := 214) D rfl <|
    fk_jump cut_4_95 rfl rfl
theorem e_4_230 (d : Nat) (x0 x2 x3 : Int) {h : fi_H} (H : Shp h) (hk : h 0 x0.toNat 0 = 120) (ht206 : h 206 x0.toNat 0 = 303) : c_4_230 d x0 x2 x3 h =
  c_4_233 d x0 x2 x3 0 h := by
  unfold c_4_230
  exact
    have D : fk_D 4 [(230, some [0, 2, 3], .iconst 0, 1, 0, 0, 0), (231, none, .istore 5, 2, 0, 0, 0)] := fq_of2 cd_4 ow_4 cl_4 rfl (pc := 230) (by decide +kernel)
    j_ic (pc := 230) D rfl fun D =>
    j_ist (pc := 231) (L' := [(5, (0, 0)), (0, (4, x0)), (2, (0, x2)), (3, (0, x3))]) D rfl nl_4 rfl rfl fun D =>
    fk_jump cut_4_233 rfl rfl
theorem e_4_233 (d : Nat) (x0 x2 x3 x5 : Int) {h : fi_H} (H : Shp h) (hk : h 0 x0.toNat 0 = 120) (ht206 : h 206 x0.toNat 0 = 303) : c_4_233 d x0 x2 x3 x5 h =
  if x5 < h 238 303 0 then
    if 0 ≤ x5 ∧ x5 < 40 then
    if x2 < h 5 359 x5.toNat then
      c_4_321 d x0 x2 x3 x5 h
    else
      if x3 < h 5 358 x5.toNat then
        ca_ (fj_run d 7 h [(0, h 196 x0.toNat 0), (0, h 5 358 x5.toNat)]) 0
          (fun v3 h2 =>
          if 302 < x0 then
          lt_ (fi_upd h2 196 x0.toNat 0 v3) fun h5 =>
          c_4_321 d x0 x2 x3 x5 h5
          else none)
          (fun q4 h2 => tx_ q4 h2)
      else
        ca_ (fj_run d 6 h [(0, h 195 x0.toNat 0), (0, h 5 358 x5.toNat)]) 0
          (fun v7 h6 =>
          if 302 < x0 then
          lt_ (fi_upd h6 195 x0.toNat 0 v7) fun h9 =>
          c_4_321 d x0 x2 x3 x5 h9
          else none)
          (fun q8 h6 => tx_ q8 h6)
    else none
  else
    c_4_330 d x0 0 h := by
  unfold c_4_233
  exact
    have D : fk_D 4 [(233, some [0, 2, 3, 5], .iload 5, 2, 0, 0, 0), (235, none, .aload_n 0, 1, 0, 0, 0), (236, none, .getfield 3, 3, 206, 120, 12), (239, none, .getfield 99, 3, 238, 100, 10), (242, none, .if_icmp .ge 85, 3, 327, 0, 0), (245, none, .aload_n 0, 1, 0, 0, 0), (246, none, .getfield 3, 3, 206, 120, 12), (249, none, .getfield 102, 3, 237, 100, 12), (252, none, .iload 5, 2, 0, 0, 0), (254, none, .caload, 1, 0, 0, 0), (255, none, .iload_n 2, 1, 0, 0, 0), (256, none, .if_icmp .le 6, 3, 262, 0, 0), (259, none, .goto 62, 3, 321, 0, 0)] := fq_of2 cd_4 ow_4 cl_4 rfl (pc := 233) (by decide +kernel)
    j_ild (pc := 233) D rfl rfl rfl fun D =>
    j_aldn (pc := 235) D rfl rfl rfl fun D =>
    j_gfc (pc := 236) (a := x0.toNat) D rfl rfl (nz_cls H.2.1 hk (by decide)) rfl hk rfl ht206 fun D =>
    j_gf (pc := 239) (a := 303) D rfl rfl (by decide) rfl (s0_303 H) rfl fun D =>
    j_ige (pc := 242) D rfl (fun q D =>
      j_aldn (pc := 245) D rfl rfl rfl fun D =>
      j_gfc (pc := 246) (a := x0.toNat) D rfl rfl (nz_cls H.2.1 hk (by decide)) rfl hk rfl ht206 fun D =>
      j_gfc (pc := 249) (a := 303) D rfl rfl (by decide) rfl (s0_303 H) rfl (sf_237_303 H) fun D =>
      j_ild (pc := 252) D rfl rfl rfl fun D =>
      j_al (pc := 254) (a := 359) (e := 5) D rfl rfl rfl (by decide) (s0_359 H) (s1_359 H) ⟨rfl, rfl, rfl⟩ rfl gn fun qb1 D =>
      j_ildn (pc := 255) D rfl rfl rfl fun D =>
      j_ile (pc := 256) D rfl (fun q D =>
        j_goto (pc := 259) D rfl <|
        fk_jump cut_4_321 rfl rfl) (fun q =>
        have D : fk_D 4 [(262, none, .aload_n 0, 1, 0, 0, 0), (263, none, .getfield 3, 3, 206, 120, 12), (266, none, .getfield 105, 3, 236, 100, 12), (269, none, .iload 5, 2, 0, 0, 0), (271, none, .caload, 1, 0, 0, 0), (272, none, .iload_n 3, 1, 0, 0, 0), (273, none, .if_icmp .gt 27, 3, 300, 0, 0), (276, none, .aload_n 0, 1, 0, 0, 0), (277, none, .aload_n 0, 1, 0, 0, 0), (278, none, .getfield 54, 3, 195, 120, 10), (281, none, .aload_n 0, 1, 0, 0, 0), (282, none, .getfield 3, 3, 206, 120, 12), (285, none, .getfield 105, 3, 236, 100, 12), (288, none, .iload 5, 2, 0, 0, 0), (290, none, .caload, 1, 0, 0, 0), (291, none, .invokestatic 90, 3, 2, 6, 1), (294, none, .putfield 54, 3, 195, 120, 10), (297, none, .goto 24, 3, 321, 0, 0)] := fq_of2 cd_4 ow_4 cl_4 rfl (pc := 262) (by decide +kernel)
        j_aldn (pc := 262) D rfl rfl rfl fun D =>
        j_gfc (pc := 263) (a := x0.toNat) D rfl rfl (nz_cls H.2.1 hk (by decide)) rfl hk rfl ht206 fun D =>
        j_gfc (pc := 266) (a := 303) D rfl rfl (by decide) rfl (s0_303 H) rfl (sf_236_303 H) fun D =>
        j_ild (pc := 269) D rfl rfl rfl fun D =>
        j_al (pc := 271) (a := 358) (e := 5) D rfl rfl rfl (by decide) (s0_358 H) (s1_358 H) ⟨rfl, rfl, rfl⟩ rfl (gy qb1) fun q D =>
        j_ildn (pc := 272) D rfl rfl rfl fun D =>
        j_igt (pc := 273) D rfl (fun q =>
          have D : fk_D 4 [(300, none, .aload_n 0, 1, 0, 0, 0), (301, none, .aload_n 0, 1, 0, 0, 0), (302, none, .getfield 57, 3, 196, 120, 10), (305, none, .aload_n 0, 1, 0, 0, 0), (306, none, .getfield 3, 3, 206, 120, 12), (309, none, .getfield 105, 3, 236, 100, 12), (312, none, .iload 5, 2, 0, 0, 0), (314, none, .caload, 1, 0, 0, 0), (315, none, .invokestatic 96, 3, 2, 7, 1), (318, none, .putfield 57, 3, 196, 120, 10)] := fq_of2 cd_4 ow_4 cl_4 rfl (pc := 300) (by decide +kernel)
          j_aldn (pc := 300) D rfl rfl rfl fun D =>
          j_aldn (pc := 301) D rfl rfl rfl fun D =>
          j_gf (pc := 302) (a := x0.toNat) D rfl rfl (nz_cls H.2.1 hk (by decide)) rfl hk rfl fun D =>
          j_aldn (pc := 305) D rfl rfl rfl fun D =>
          j_gfc (pc := 306) (a := x0.toNat) D rfl rfl (nz_cls H.2.1 hk (by decide)) rfl hk rfl ht206 fun D =>
          j_gfc (pc := 309) (a := 303) D rfl rfl (by decide) rfl (s0_303 H) rfl (sf_236_303 H) fun D =>
          j_ild (pc := 312) D rfl rfl rfl fun D =>
          j_al (pc := 314) (a := 358) (e := 5) D rfl rfl rfl (by decide) (s0_358 H) (s1_358 H) ⟨rfl, rfl, rfl⟩ rfl (gy qb1) fun q D =>
          j_is (pc := 315) (m := 7) (a := [(0, h 196 x0.toNat 0), (0, h 5 358 x5.toNat)]) (rest := [(4, x0)]) D rfl rfl rfl rfl (fun v3 h2 e1 D =>
            have T := fj_run_ok _ _ _ _ _ _ H.1 e1
            have ht206 := fin_st H.1 T.2 hk (by decide) (by decide +kernel) ht206 (by decide)
            have hk := cls_st H.1 T.2 hk (by decide)
            have H := shp_st H T
            j_pf (pc := 318) (a := x0.toNat) D rfl rfl rfl hk rfl rfl gn (gy rfl) fun h5 eh5 S D =>
            have T := fj_hs_ok H.1 S
            have ht206 := fin_st H.1 T.2 hk (by decide) (by decide +kernel) ht206 (by decide)
            have hk := cls_st H.1 T.2 hk (by decide)
            have H := shp_st H T
            fk_jump cut_4_321 rfl rfl) (fun q4 h2 e1 =>
            j_tx (hx_4 _))) (fun q D =>
          j_aldn (pc := 276) D rfl rfl rfl fun D =>
          j_aldn (pc := 277) D rfl rfl rfl fun D =>
          j_gf (pc := 278) (a := x0.toNat) D rfl rfl (nz_cls H.2.1 hk (by decide)) rfl hk rfl fun D =>
          j_aldn (pc := 281) D rfl rfl rfl fun D =>
          j_gfc (pc := 282) (a := x0.toNat) D rfl rfl (nz_cls H.2.1 hk (by decide)) rfl hk rfl ht206 fun D =>
          j_gfc (pc := 285) (a := 303) D rfl rfl (by decide) rfl (s0_303 H) rfl (sf_236_303 H) fun D =>
          j_ild (pc := 288) D rfl rfl rfl fun D =>
          j_al (pc := 290) (a := 358) (e := 5) D rfl rfl rfl (by decide) (s0_358 H) (s1_358 H) ⟨rfl, rfl, rfl⟩ rfl (gy qb1) fun q D =>
          j_is (pc := 291) (m := 6) (a := [(0, h 195 x0.toNat 0), (0, h 5 358 x5.toNat)]) (rest := [(4, x0)]) D rfl rfl rfl rfl (fun v7 h6 e1 D =>
            have T := fj_run_ok _ _ _ _ _ _ H.1 e1
            have ht206 := fin_st H.1 T.2 hk (by decide) (by decide +kernel) ht206 (by decide)
            have hk := cls_st H.1 T.2 hk (by decide)
            have H := shp_st H T
            j_pf (pc := 294) (a := x0.toNat) D rfl rfl rfl hk rfl rfl gn (gy rfl) fun h9 eh9 S D =>
            have T := fj_hs_ok H.1 S
            have ht206 := fin_st H.1 T.2 hk (by decide) (by decide +kernel) ht206 (by decide)
            have hk := cls_st H.1 T.2 hk (by decide)
            have H := shp_st H T
            j_goto (pc := 297) D rfl <|
            fk_jump cut_4_321 rfl rfl) (fun q8 h6 e1 =>
            j_tx (hx_4 _))))) (fun q =>
      have D : fk_D 4 [(327, none, .iconst 0, 1, 0, 0, 0), (328, none, .istore 5, 2, 0, 0, 0)] := fq_of2 cd_4 ow_4 cl_4 rfl (pc := 327) (by decide +kernel)
      j_ic (pc := 327) D rfl fun D =>
      j_ist (pc := 328) (L' := [(5, (0, 0)), (0, (4, x0)), (2, (0, x2)), (3, (0, x3))]) D rfl nl_4 rfl rfl fun D =>
      fk_jump cut_4_330 rfl rfl)
theorem e_4_321 (d : Nat) (x0 x2 x3 x5 : Int) {h : fi_H} (H : Shp h) (hk : h 0 x0.toNat 0 = 120) (ht206 : h 206 x0.toNat 0 = 303) : c_4_321 d x0 x2 x3 x5 h =
  c_4_233 d x0 x2 x3 (wI (x5 + 1)) h := by
  unfold c_4_321
  exact
    have D : fk_D 4 [(321, some [0, 2, 3, 5], .iinc 5 1, 3, 0, 1, 0), (324, none, .goto (-91), 3, 233, 0, 0)] := fq_of2 cd_4 ow_4 cl_4 rfl (pc := 321) (by decide +kernel)
    j_inc (pc := 321) (L' := [(5, (0, wI (x5 + 1))), (0, (4, x0)), (2, (0, x2)), (3, (0, x3))]) D rfl rfl rfl (by decide +kernel) rfl fun D =>
    j_goto (pc := 324) D rfl <|
    fk_jump cut_4_233 rfl rfl
theorem e_4_330 (d : Nat) (x0 x5 : Int) {h : fi_H} (H : Shp h) (hk : h 0 x0.toNat 0 = 120) (ht206 : h 206 x0.toNat 0 = 303) : c_4_330 d x0 x5 h =
  if x5 < 40 then
    if 302 < h 200 x0.toNat 0 ∧ h 0 (h 200 x0.toNat 0).toNat 0 = 9 then
    if 0 ≤ x5 ∧ x5 < h 1 (h 200 x0.toNat 0).toNat 0 then
    lt_ (fi_upd h 9 (h 200 x0.toNat 0).toNat x5.toNat (-1)) fun h1 =>
    if 302 < h1 202 x0.toNat 0 ∧ h1 0 (h1 202 x0.toNat 0).toNat 0 = 9 then
    if 0 ≤ x5 ∧ x5 < h1 1 (h1 202 x0.toNat 0).toNat 0 then
    lt_ (fi_upd h1 9 (h1 202 x0.toNat 0).toNat x5.toNat (-1)) fun h2 =>
    c_4_330 d x0 (wI (x5 + 1)) h2
    else none
    else none
    else none
    else none
  else
    c_4_362 d x0 0 h := by
  unfold c_4_330
  exact
    have D : fk_D 4 [(330, some [0, 5], .iload 5, 2, 0, 0, 0), (332, none, .bipush 40, 2, 0, 40, 0), (334, none, .if_icmp .ge 25, 3, 359, 0, 0), (337, none, .aload_n 0, 1, 0, 0, 0), (338, none, .getfield 25, 3, 200, 120, 12), (341, none, .iload 5, 2, 0, 0, 0), (343, none, .iconst (-1), 1, 0, (-1), 0), (344, none, .sastore, 1, 0, 0, 0), (345, none, .aload_n 0, 1, 0, 0, 0), (346, none, .getfield 32, 3, 202, 120, 12), (349, none, .iload 5, 2, 0, 0, 0), (351, none, .iconst (-1), 1, 0, (-1), 0), (352, none, .sastore, 1, 0, 0, 0), (353, none, .iinc 5 1, 3, 0, 1, 0), (356, none, .goto (-26), 3, 330, 0, 0)] := fq_of2 cd_4 ow_4 cl_4 rfl (pc := 330) (by decide +kernel)
    j_ild (pc := 330) D rfl rfl rfl fun D =>
    j_bp (pc := 332) D rfl fun D =>
    j_ige (pc := 334) D rfl (fun q D =>
      j_aldn (pc := 337) D rfl rfl rfl fun D =>
      j_gf (pc := 338) (a := x0.toNat) D rfl rfl (nz_cls H.2.1 hk (by decide)) rfl hk rfl fun D =>
      j_ild (pc := 341) D rfl rfl rfl fun D =>
      j_ic (pc := 343) D rfl fun D =>
      j_asu (pc := 344) (e := 9) D rfl rfl ⟨rfl, rfl, rfl⟩ rfl gn gn (gy (by decide)) fun h1 eh1 S q q2 D =>
      have T := fj_hs_ok H.1 S
      have ht206 := fin_st H.1 T.2 hk (by decide) (by decide +kernel) ht206 (by decide)
      have hk := cls_st H.1 T.2 hk (by decide)
      have H := shp_st H T
      j_aldn (pc := 345) D rfl rfl rfl fun D =>
      j_gf (pc := 346) (a := x0.toNat) D rfl rfl (nz_cls H.2.1 hk (by decide)) rfl hk rfl fun D =>
      j_ild (pc := 349) D rfl rfl rfl fun D =>
      j_ic (pc := 351) D rfl fun D =>
      j_asu (pc := 352) (e := 9) D rfl rfl ⟨rfl, rfl, rfl⟩ rfl gn gn (gy (by decide)) fun h2 eh2 S q q2 D =>
      have T := fj_hs_ok H.1 S
      have ht206 := fin_st H.1 T.2 hk (by decide) (by decide +kernel) ht206 (by decide)
      have hk := cls_st H.1 T.2 hk (by decide)
      have H := shp_st H T
      j_inc (pc := 353) (L' := [(5, (0, wI (x5 + 1))), (0, (4, x0))]) D rfl rfl rfl (by decide +kernel) rfl fun D =>
      j_goto (pc := 356) D rfl <|
      fk_jump cut_4_330 rfl rfl) (fun q =>
      have D : fk_D 4 [(359, none, .iconst 0, 1, 0, 0, 0), (360, none, .istore 5, 2, 0, 0, 0)] := fq_of2 cd_4 ow_4 cl_4 rfl (pc := 359) (by decide +kernel)
      j_ic (pc := 359) D rfl fun D =>
      j_ist (pc := 360) (L' := [(5, (0, 0)), (0, (4, x0))]) D rfl nl_4 rfl rfl fun D =>
      fk_jump cut_4_362 rfl rfl)
theorem e_4_362 (d : Nat) (x0 x5 : Int) {h : fi_H} (H : Shp h) (hk : h 0 x0.toNat 0 = 120) (ht206 : h 206 x0.toNat 0 = 303) : c_4_362 d x0 x5 h =
  if x5 < h 198 x0.toNat 0 then
    if (20 ≤ h 0 (h 199 x0.toNat 0).toNat 0 ∧ h 0 (h 199 x0.toNat 0).toNat 0 < 30) ∧ 0 ≤ x5 ∧ x5 < h 1 (h 199 x0.toNat 0).toNat 0 then
    if h 0 (h 12 (h 199 x0.toNat 0).toNat x5.toNat).toNat 0 = 126 then
    lt_ (h 374 (h 12 (h 199 x0.toNat 0).toNat x5.toNat).toNat 0) fun y2 =>
    if fk_isA (h 0 y2.toNat 0) = true then
    c_4_391 d x0 x5 y2 (h 1 y2.toNat 0) 0 h
    else none
    else none
    else none
  else
    c_4_443 d x0 0 h := by
  unfold c_4_362
  exact
    have D : fk_D 4 [(362, some [0, 5], .iload 5, 2, 0, 0, 0), (364, none, .aload_n 0, 1, 0, 0, 0), (365, none, .getfield 64, 3, 198, 120, 10), (368, none, .if_icmp .ge 72, 3, 440, 0, 0), (371, none, .aload_n 0, 1, 0, 0, 0), (372, none, .getfield 21, 3, 199, 120, 12), (375, none, .iload 5, 2, 0, 0, 0), (377, none, .aaload, 1, 0, 0, 0), (378, none, .getfield 108, 3, 374, (-126), 12), (381, none, .astore 6, 2, 0, 0, 0), (383, none, .aload 6, 2, 0, 0, 0), (385, none, .arraylength, 1, 0, 0, 0), (386, none, .istore 7, 2, 0, 0, 0), (388, none, .iconst 0, 1, 0, 0, 0), (389, none, .istore 8, 2, 0, 0, 0)] := fq_of2 cd_4 ow_4 cl_4 rfl (pc := 362) (by decide +kernel)
    j_ild (pc := 362) D rfl rfl rfl fun D =>
    j_aldn (pc := 364) D rfl rfl rfl fun D =>
    j_gf (pc := 365) (a := x0.toNat) D rfl rfl (nz_cls H.2.1 hk (by decide)) rfl hk rfl fun D =>
    j_ige (pc := 368) D rfl (fun q D =>
      j_aldn (pc := 371) D rfl rfl rfl fun D =>
      j_gf (pc := 372) (a := x0.toNat) D rfl rfl (nz_cls H.2.1 hk (by decide)) rfl hk rfl fun D =>
      j_ild (pc := 375) D rfl rfl rfl fun D =>
      j_alr (pc := 377) H.2.1 D rfl rfl fun q q2 D =>
      j_gfo (pc := 378) H.2.1 D rfl rfl rfl rfl fun kc1 D =>
      j_stl (pc := 381) (L' := fun y2 => [(6, (4, y2)), (0, (4, x0)), (5, (0, x5))]) D rfl ⟨rfl, rfl, rfl, rfl⟩ nl_4 rfl (fun _ => rfl) fun y2 ey2 D =>
      j_ald (pc := 383) D rfl rfl rfl fun D =>
      j_lenu (pc := 385) H.2.1 D rfl fun q D =>
      j_ist (pc := 386) (L' := [(7, (0, h 1 y2.toNat 0)), (6, (4, y2)), (0, (4, x0)), (5, (0, x5))]) D rfl nl_4 rfl rfl fun D =>
      j_ic (pc := 388) D rfl fun D =>
      j_ist (pc := 389) (L' := [(8, (0, 0)), (7, (0, h 1 y2.toNat 0)), (6, (4, y2)), (0, (4, x0)), (5, (0, x5))]) D rfl nl_4 rfl rfl fun D =>
      fk_jump cut_4_391 rfl rfl) (fun q =>
      have D : fk_D 4 [(440, none, .iconst 0, 1, 0, 0, 0), (441, none, .istore 5, 2, 0, 0, 0)] := fq_of2 cd_4 ow_4 cl_4 rfl (pc := 440) (by decide +kernel)
      j_ic (pc := 440) D rfl fun D =>
      j_ist (pc := 441) (L' := [(5, (0, 0)), (0, (4, x0))]) D rfl nl_4 rfl rfl fun D =>
      fk_jump cut_4_443 rfl rfl)
theorem e_4_391 (d : Nat) (x0 x5 x6 x7 x8 : Int) {h : fi_H} (H : Shp h) (hk : h 0 x0.toNat 0 = 120) (ht206 : h 206 x0.toNat 0 = 303) : c_4_391 d x0 x5 x6 x7 x8 h =
  if x8 < x7 then
    if (20 ≤ h 0 x6.toNat 0 ∧ h 0 x6.toNat 0 < 30) ∧ 0 ≤ x8 ∧ x8 < h 1 x6.toNat 0 then
    if h 12 x6.toNat x8.toNat = 356 then
      c_4_428 d x0 x5 x6 x7 x8 h
    else
      if h 0 (h 12 x6.toNat x8.toNat).toNat 0 = 117 then
      if 302 < h 204 x0.toNat 0 ∧ h 0 (h 204 x0.toNat 0).toNat 0 = 9 then
      if 0 ≤ h 134 (h 12 x6.toNat x8.toNat).toNat 0 ∧ h 134 (h 12 x6.toNat x8.toNat).toNat 0 < h 1 (h 204 x0.toNat 0).toNat 0 then
      lt_ (fi_upd h 9 (h 204 x0.toNat 0).toNat (h 134 (h 12 x6.toNat x8.toNat).toNat 0).toNat (-1)) fun h2 =>
      c_4_428 d x0 x5 x6 x7 x8 h2
      else none
      else none
      else none
    else none
  else
    c_4_362 d x0 (wI (x5 + 1)) h := by
  unfold c_4_391
  exact
    have D : fk_D 4 [(391, some [0, 5, 6, 7, 8], .iload 8, 2, 0, 0, 0), (393, none, .iload 7, 2, 0, 0, 0), (395, none, .if_icmp .ge 39, 3, 434, 0, 0), (398, none, .aload 6, 2, 0, 0, 0), (400, none, .iload 8, 2, 0, 0, 0), (402, none, .aaload, 1, 0, 0, 0), (403, none, .astore 9, 2, 0, 0, 0), (405, none, .aload 9, 2, 0, 0, 0), (407, none, .aload_n 0, 1, 0, 0, 0), (408, none, .getfield 3, 3, 206, 120, 12), (411, none, .getfield 112, 3, 234, 100, 12), (414, none, .if_acmp .eq 14, 3, 428, 0, 0), (417, none, .aload_n 0, 1, 0, 0, 0), (418, none, .getfield 38, 3, 204, 120, 12), (421, none, .aload 9, 2, 0, 0, 0), (423, none, .getfield 116, 3, 134, (-117), 10), (426, none, .iconst (-1), 1, 0, (-1), 0), (427, none, .sastore, 1, 0, 0, 0)] := fq_of2 cd_4 ow_4 cl_4 rfl (pc := 391) (by decide +kernel)
    j_ild (pc := 391) D rfl rfl rfl fun D =>
    j_ild (pc := 393) D rfl rfl rfl fun D =>
    j_ige (pc := 395) D rfl (fun q D =>
      j_ald (pc := 398) D rfl rfl rfl fun D =>
      j_ild (pc := 400) D rfl rfl rfl fun D =>
      j_alr (pc := 402) H.2.1 D rfl rfl fun q q2 D =>
      j_ast (pc := 403) (L' := [(9, (4, h 12 x6.toNat x8.toNat)), (0, (4, x0)), (5, (0, x5)), (6, (4, x6)), (7, (0, x7)), (8, (0, x8))]) D rfl nl_4 rfl rfl fun D =>
      j_ald (pc := 405) D rfl rfl rfl fun D =>
      j_aldn (pc := 407) D rfl rfl rfl fun D =>
      j_gfc (pc := 408) (a := x0.toNat) D rfl rfl (nz_cls H.2.1 hk (by decide)) rfl hk rfl ht206 fun D =>
      j_gfc (pc := 411) (a := 303) D rfl rfl (by decide) rfl (s0_303 H) rfl (sf_234_303 H) fun D =>
      j_aeq (pc := 414) D rfl (fun q =>
        fk_jump cut_4_428 rfl rfl) (fun q D =>
        j_aldn (pc := 417) D rfl rfl rfl fun D =>
        j_gf (pc := 418) (a := x0.toNat) D rfl rfl (nz_cls H.2.1 hk (by decide)) rfl hk rfl fun D =>
        j_ald (pc := 421) D rfl rfl rfl fun D =>
        j_gfo (pc := 423) H.2.1 D rfl rfl rfl rfl fun kc1 D =>
        j_ic (pc := 426) D rfl fun D =>
        j_asu (pc := 427) (e := 9) D rfl rfl ⟨rfl, rfl, rfl⟩ rfl gn gn (gy (by decide)) fun h2 eh2 S q q2 D =>
        have T := fj_hs_ok H.1 S
        have ht206 := fin_st H.1 T.2 hk (by decide) (by decide +kernel) ht206 (by decide)
        have hk := cls_st H.1 T.2 hk (by decide)
        have kc1 := cls_st H.1 T.2 kc1 (by decide)
        have H := shp_st H T
        fk_jump cut_4_428 rfl rfl)) (fun q =>
      have D : fk_D 4 [(434, none, .iinc 5 1, 3, 0, 1, 0), (437, none, .goto (-75), 3, 362, 0, 0)] := fq_of2 cd_4 ow_4 cl_4 rfl (pc := 434) (by decide +kernel)
      j_inc (pc := 434) (L' := [(5, (0, wI (x5 + 1))), (0, (4, x0)), (6, (4, x6)), (7, (0, x7)), (8, (0, x8))]) D rfl rfl rfl (by decide +kernel) rfl fun D =>
      j_goto (pc := 437) D rfl <|
      fk_jump cut_4_362 rfl rfl)
theorem e_4_428 (d : Nat) (x0 x5 x6 x7 x8 : Int) {h : fi_H} (H : Shp h) (hk : h 0 x0.toNat 0 = 120) (ht206 : h 206 x0.toNat 0 = 303) : c_4_428 d x0 x5 x6 x7 x8 h =
  c_4_391 d x0 x5 x6 x7 (wI (x8 + 1)) h := by
  unfold c_4_428
  exact
    have D : fk_D 4 [(428, some [0, 5, 6, 7, 8], .iinc 8 1, 3, 0, 1, 0), (431, none, .goto (-40), 3, 391, 0, 0)] := fq_of2 cd_4 ow_4 cl_4 rfl (pc := 428) (by decide +kernel)
    j_inc (pc := 428) (L' := [(8, (0, wI (x8 + 1))), (0, (4, x0)), (5, (0, x5)), (6, (4, x6)), (7, (0, x7))]) D rfl rfl rfl (by decide +kernel) rfl fun D =>
    j_goto (pc := 431) D rfl <|
    fk_jump cut_4_391 rfl rfl
theorem e_4_443 (d : Nat) (x0 x5 : Int) {h : fi_H} (H : Shp h) (hk : h 0 x0.toNat 0 = 120) (ht206 : h 206 x0.toNat 0 = 303) : c_4_443 d x0 x5 h =
  if x5 < h 198 x0.toNat 0 then
    if (20 ≤ h 0 (h 199 x0.toNat 0).toNat 0 ∧ h 0 (h 199 x0.toNat 0).toNat 0 < 30) ∧ 0 ≤ x5 ∧ x5 < h 1 (h 199 x0.toNat 0).toNat 0 then
    if h 0 (h 12 (h 199 x0.toNat 0).toNat x5.toNat).toNat 0 = 126 then
    lt_ (h 374 (h 12 (h 199 x0.toNat 0).toNat x5.toNat).toNat 0) fun y2 =>
    if fk_isA (h 0 y2.toNat 0) = true then
    c_4_472 d x0 x5 y2 (h 1 y2.toNat 0) 0 h
    else none
    else none
    else none
  else
    some (.inl none, h) := by
  unfold c_4_443
  exact
    have D : fk_D 4 [(443, some [0, 5], .iload 5, 2, 0, 0, 0), (445, none, .aload_n 0, 1, 0, 0, 0), (446, none, .getfield 64, 3, 198, 120, 10), (449, none, .if_icmp .ge 64, 3, 513, 0, 0), (452, none, .aload_n 0, 1, 0, 0, 0), (453, none, .getfield 21, 3, 199, 120, 12), (456, none, .iload 5, 2, 0, 0, 0), (458, none, .aaload, 1, 0, 0, 0), (459, none, .getfield 108, 3, 374, (-126), 12), (462, none, .astore 6, 2, 0, 0, 0), (464, none, .aload 6, 2, 0, 0, 0), (466, none, .arraylength, 1, 0, 0, 0), (467, none, .istore 7, 2, 0, 0, 0), (469, none, .iconst 0, 1, 0, 0, 0), (470, none, .istore 8, 2, 0, 0, 0)] := fq_of2 cd_4 ow_4 cl_4 rfl (pc := 443) (by decide +kernel)
    j_ild (pc := 443) D rfl rfl rfl fun D =>
    j_aldn (pc := 445) D rfl rfl rfl fun D =>
    j_gf (pc := 446) (a := x0.toNat) D rfl rfl (nz_cls H.2.1 hk (by decide)) rfl hk rfl fun D =>
    j_ige (pc := 449) D rfl (fun q D =>
      j_aldn (pc := 452) D rfl rfl rfl fun D =>
      j_gf (pc := 453) (a := x0.toNat) D rfl rfl (nz_cls H.2.1 hk (by decide)) rfl hk rfl fun D =>
      j_ild (pc := 456) D rfl rfl rfl fun D =>
      j_alr (pc := 458) H.2.1 D rfl rfl fun q q2 D =>
      j_gfo (pc := 459) H.2.1 D rfl rfl rfl rfl fun kc1 D =>
      j_stl (pc := 462) (L' := fun y2 => [(6, (4, y2)), (0, (4, x0)), (5, (0, x5))]) D rfl ⟨rfl, rfl, rfl, rfl⟩ nl_4 rfl (fun _ => rfl) fun y2 ey2 D =>
      j_ald (pc := 464) D rfl rfl rfl fun D =>
      j_lenu (pc := 466) H.2.1 D rfl fun q D =>
      j_ist (pc := 467) (L' := [(7, (0, h 1 y2.toNat 0)), (6, (4, y2)), (0, (4, x0)), (5, (0, x5))]) D rfl nl_4 rfl rfl fun D =>
      j_ic (pc := 469) D rfl fun D =>
      j_ist (pc := 470) (L' := [(8, (0, 0)), (7, (0, h 1 y2.toNat 0)), (6, (4, y2)), (0, (4, x0)), (5, (0, x5))]) D rfl nl_4 rfl rfl fun D =>
      fk_jump cut_4_472 rfl rfl) (fun q =>
      have D : fk_D 4 [(513, none, .return_, 1, 0, 0, 0)] := fq_of2 cd_4 ow_4 cl_4 rfl (pc := 513) (by decide +kernel)
      j_vret D rt_4)
theorem e_4_472 (d : Nat) (x0 x5 x6 x7 x8 : Int) {h : fi_H} (H : Shp h) (hk : h 0 x0.toNat 0 = 120) (ht206 : h 206 x0.toNat 0 = 303) : c_4_472 d x0 x5 x6 x7 x8 h =
  if x8 < x7 then
    if (20 ≤ h 0 x6.toNat 0 ∧ h 0 x6.toNat 0 < 30) ∧ 0 ≤ x8 ∧ x8 < h 1 x6.toNat 0 then
    ca_ (fj_run d 8 h [(4, x0), (4, h 12 x6.toNat x8.toNat)]) 0
      (fun v2 h1 =>
      if v2 = 0 then
        cv_ (fj_run d 9 h1 [(4, x0), (4, h 12 x6.toNat x8.toNat)])
          (fun h4 =>
          c_4_501 d x0 x5 x6 x7 x8 h4)
          (fun q6 h4 => tx_ q6 h4)
      else
        c_4_501 d x0 x5 x6 x7 x8 h1)
      (fun q3 h1 => tx_ q3 h1)
    else none
  else
    c_4_443 d x0 (wI (x5 + 1)) h := by
  unfold c_4_472
  exact
    have D : fk_D 4 [(472, some [0, 5, 6, 7, 8], .iload 8, 2, 0, 0, 0), (474, none, .iload 7, 2, 0, 0, 0), (476, none, .if_icmp .ge 31, 3, 507, 0, 0), (479, none, .aload 6, 2, 0, 0, 0), (481, none, .iload 8, 2, 0, 0, 0), (483, none, .aaload, 1, 0, 0, 0), (484, none, .astore 9, 2, 0, 0, 0), (486, none, .aload_n 0, 1, 0, 0, 0), (487, none, .aload 9, 2, 0, 0, 0), (489, none, .invokevirtual 121, 3, 1, 142, 1), (492, none, .ifCond .ne 9, 3, 501, 0, 0), (495, none, .aload_n 0, 1, 0, 0, 0), (496, none, .aload 9, 2, 0, 0, 0), (498, none, .invokevirtual 125, 3, 1, 203, 0)] := fq_of2 cd_4 ow_4 cl_4 rfl (pc := 472) (by decide +kernel)
    j_ild (pc := 472) D rfl rfl rfl fun D =>
    j_ild (pc := 474) D rfl rfl rfl fun D =>
    j_ige (pc := 476) D rfl (fun q D =>
      j_ald (pc := 479) D rfl rfl rfl fun D =>
      j_ild (pc := 481) D rfl rfl rfl fun D =>
      j_alr (pc := 483) H.2.1 D rfl rfl fun q q2 D =>
      j_ast (pc := 484) (L' := [(9, (4, h 12 x6.toNat x8.toNat)), (0, (4, x0)), (5, (0, x5)), (6, (4, x6)), (7, (0, x7)), (8, (0, x8))]) D rfl nl_4 rfl rfl fun D =>
      j_aldn (pc := 486) D rfl rfl rfl fun D =>
      j_ald (pc := 487) D rfl rfl rfl fun D =>
      j_iv (pc := 489) (m := 8) (dd := 142) (a := [(4, h 12 x6.toNat x8.toNat)]) (rest := []) D rfl rfl rfl rfl rfl (nz_cls H.2.1 hk (by decide)) hk (by decide +kernel) (fun v2 h1 e1 D =>
        have T := fj_run_ok _ _ _ _ _ _ H.1 e1
        have ht206 := fin_st H.1 T.2 hk (by decide) (by decide +kernel) ht206 (by decide)
        have hk := cls_st H.1 T.2 hk (by decide)
        have H := shp_st H T
        j_ifne (pc := 492) D rfl (fun q D =>
          j_aldn (pc := 495) D rfl rfl rfl fun D =>
          j_ald (pc := 496) D rfl rfl rfl fun D =>
          j_ivv (pc := 498) (m := 9) (dd := 203) (a := [(4, h 12 x6.toNat x8.toNat)]) (rest := []) D rfl rfl rfl rfl rfl (nz_cls H.2.1 hk (by decide)) hk (by decide +kernel) (fun h4 e1 D =>
            have T := fj_run_ok _ _ _ _ _ _ H.1 e1
            have ht206 := fin_st H.1 T.2 hk (by decide) (by decide +kernel) ht206 (by decide)
            have hk := cls_st H.1 T.2 hk (by decide)
            have H := shp_st H T
            fk_jump cut_4_501 rfl rfl) (fun q6 h4 e1 =>
            j_tx (hx_4 _))) (fun q =>
          fk_jump cut_4_501 rfl rfl)) (fun q3 h1 e1 =>
        j_tx (hx_4 _))) (fun q =>
      have D : fk_D 4 [(507, none, .iinc 5 1, 3, 0, 1, 0), (510, none, .goto (-67), 3, 443, 0, 0)] := fq_of2 cd_4 ow_4 cl_4 rfl (pc := 507) (by decide +kernel)
      j_inc (pc := 507) (L' := [(5, (0, wI (x5 + 1))), (0, (4, x0)), (6, (4, x6)), (7, (0, x7)), (8, (0, x8))]) D rfl rfl rfl (by decide +kernel) rfl fun D =>
      j_goto (pc := 510) D rfl <|
      fk_jump cut_4_443 rfl rfl)
theorem e_4_501 (d : Nat) (x0 x5 x6 x7 x8 : Int) {h : fi_H} (H : Shp h) (hk : h 0 x0.toNat 0 = 120) (ht206 : h 206 x0.toNat 0 = 303) : c_4_501 d x0 x5 x6 x7 x8 h =
  c_4_472 d x0 x5 x6 x7 (wI (x8 + 1)) h := by
  unfold c_4_501
  exact
    have D : fk_D 4 [(501, some [0, 5, 6, 7, 8], .iinc 8 1, 3, 0, 1, 0), (504, none, .goto (-32), 3, 472, 0, 0)] := fq_of2 cd_4 ow_4 cl_4 rfl (pc := 501) (by decide +kernel)
    j_inc (pc := 501) (L' := [(8, (0, wI (x8 + 1))), (0, (4, x0)), (5, (0, x5)), (6, (4, x6)), (7, (0, x7))]) D rfl rfl rfl (by decide +kernel) rfl fun D =>
    j_goto (pc := 504) D rfl <|
    fk_jump cut_4_472 rfl rfl
theorem m_4 (d : Nat) (x0 x1 x2 x3 : Int) {h : fi_H} (H : Shp h) (hk : h 0 x0.toNat 0 = 120) (ht206 : h 206 x0.toNat 0 = 303) : fj_run (d + 1) 4 h [(4, x0), (4, x1), (0, x2), (0, x3)] =
  if h 192 x0.toNat 0 = x1 then
    if h 193 x0.toNat 0 = x2 then
      if h 197 x0.toNat 0 = h 233 303 0 then
        if x3 < h 195 x0.toNat 0 then
          c_4_47 d x0 x1 x2 x3 h
        else
          if x3 < h 196 x0.toNat 0 then
            some (.inl none, h)
          else
            c_4_47 d x0 x1 x2 x3 h
      else
        c_4_47 d x0 x1 x2 x3 h
    else
      c_4_47 d x0 x1 x2 x3 h
  else
    c_4_47 d x0 x1 x2 x3 h := by
  rw [fj_run_eq d (by decide) h [(4, x0), (4, x1), (0, x2), (0, x3)] (Nat.le_of_ble_eq_true (by rw [nl_4]; rfl))]
  show gG (fj_run d) 4 0 [(0, (4, x0)), (1, (4, x1)), (2, (0, x2)), (3, (0, x3))] [] h = _
  exact
    have D : fk_D 4 [(0, none, .aload_n 0, 1, 0, 0, 0), (1, none, .getfield 44, 3, 192, 120, 12), (4, none, .aload_n 1, 1, 0, 0, 0), (5, none, .if_acmp .ne 42, 3, 47, 0, 0), (8, none, .aload_n 0, 1, 0, 0, 0), (9, none, .getfield 48, 3, 193, 120, 10), (12, none, .iload_n 2, 1, 0, 0, 0), (13, none, .if_icmp .ne 34, 3, 47, 0, 0), (16, none, .aload_n 0, 1, 0, 0, 0), (17, none, .getfield 15, 3, 197, 120, 10), (20, none, .aload_n 0, 1, 0, 0, 0), (21, none, .getfield 3, 3, 206, 120, 12), (24, none, .getfield 51, 3, 233, 100, 10), (27, none, .if_icmp .ne 20, 3, 47, 0, 0), (30, none, .iload_n 3, 1, 0, 0, 0), (31, none, .aload_n 0, 1, 0, 0, 0), (32, none, .getfield 54, 3, 195, 120, 10), (35, none, .if_icmp .lt 12, 3, 47, 0, 0), (38, none, .iload_n 3, 1, 0, 0, 0), (39, none, .aload_n 0, 1, 0, 0, 0)] := fq_of2 cd_4 ow_4 cl_4 rfl (pc := 0) (by decide +kernel)
    j_aldn (pc := 0) D rfl rfl rfl fun D =>
    j_gf (pc := 1) (a := x0.toNat) D rfl rfl (nz_cls H.2.1 hk (by decide)) rfl hk rfl fun D =>
    j_aldn (pc := 4) D rfl rfl rfl fun D =>
    j_ane (pc := 5) D rfl (fun q D =>
      j_aldn (pc := 8) D rfl rfl rfl fun D =>
      j_gf (pc := 9) (a := x0.toNat) D rfl rfl (nz_cls H.2.1 hk (by decide)) rfl hk rfl fun D =>
      j_ildn (pc := 12) D rfl rfl rfl fun D =>
      j_ine (pc := 13) D rfl (fun q D =>
        j_aldn (pc := 16) D rfl rfl rfl fun D =>
        j_gf (pc := 17) (a := x0.toNat) D rfl rfl (nz_cls H.2.1 hk (by decide)) rfl hk rfl fun D =>
        j_aldn (pc := 20) D rfl rfl rfl fun D =>
        j_gfc (pc := 21) (a := x0.toNat) D rfl rfl (nz_cls H.2.1 hk (by decide)) rfl hk rfl ht206 fun D =>
        j_gf (pc := 24) (a := 303) D rfl rfl (by decide) rfl (s0_303 H) rfl fun D =>
        j_ine (pc := 27) D rfl (fun q D =>
          j_ildn (pc := 30) D rfl rfl rfl fun D =>
          j_aldn (pc := 31) D rfl rfl rfl fun D =>
          j_gf (pc := 32) (a := x0.toNat) D rfl rfl (nz_cls H.2.1 hk (by decide)) rfl hk rfl fun D =>
          j_ilt (pc := 35) D rfl (fun q =>
            fk_jump cut_4_47 rfl rfl) (fun q D =>
            j_ildn (pc := 38) D rfl rfl rfl fun D =>
            j_aldn (pc := 39) D rfl rfl rfl fun D =>
            have D : fk_D 4 [(40, none, .getfield 57, 3, 196, 120, 10), (43, none, .if_icmp .ge 4, 3, 47, 0, 0), (46, none, .return_, 1, 0, 0, 0)] := fq_of2 cd_4 ow_4 cl_4 rfl (pc := 40) (by decide +kernel)
            j_gf (pc := 40) (a := x0.toNat) D rfl rfl (nz_cls H.2.1 hk (by decide)) rfl hk rfl fun D =>
            j_ige (pc := 43) D rfl (fun q D =>
              j_vret D rt_4) (fun q =>
              fk_jump cut_4_47 rfl rfl))) (fun q =>
          fk_jump cut_4_47 rfl rfl)) (fun q =>
        fk_jump cut_4_47 rfl rfl)) (fun q =>
      fk_jump cut_4_47 rfl rfl)
/-! 5 StatuteHouse$Sight.keep(LStatuteHouse$Version;)LStatuteHouse$Version; -/
theorem cd_5 : fi_code 5 = prog_58_method_4_code := rfl
theorem hx_5 : ∀ pc, fi_hat 5 pc = none := fun pc => by unfold fi_hat; rw [show fi_hh 5 = [] from rfl]; rfl
theorem rt_5 : fj_ft (fi_ret 5) = 5 := rfl
theorem nl_5 : fi_nl 5 = 2 := rfl
theorem ow_5 : fi_ow 5 = 20 := rfl
theorem cl_5 : fj_cutT.getD 5 [] = [] := rfl
theorem m_5 (d : Nat) (x0 x1 : Int) {h : fi_H} (H : Shp h) (hk : h 0 x0.toNat 0 = 120) (ht206 : h 206 x0.toNat 0 = 303) : fj_run (d + 1) 5 h [(4, x0), (4, x1)] =
  if 302 < h 199 x0.toNat 0 ∧ (20 ≤ h 0 (h 199 x0.toNat 0).toNat 0 ∧ h 0 (h 199 x0.toNat 0).toNat 0 < 30) then
  if 0 ≤ h 198 x0.toNat 0 ∧ h 198 x0.toNat 0 < h 1 (h 199 x0.toNat 0).toNat 0 then
  if h 0 (h 199 x0.toNat 0).toNat 0 ≠ 28 ∧ (x1 = 0 ∨ (fi_sup (h 0 x1.toNat 0)).contains (fi_comp (h 0 (h 199 x0.toNat 0).toNat 0)) = true) then
  lt_ (fi_upd h 12 (h 199 x0.toNat 0).toNat (h 198 x0.toNat 0).toNat x1) fun h1 =>
  if 302 < x0 then
  lt_ (fi_upd h1 198 x0.toNat 0 (wI ((h1 198 x0.toNat 0) + 1))) fun h2 =>
  some (.inl (some (4, 0)), h2)
  else none
  else none
  else none
  else none := by
  rw [fj_run_eq d (by decide) h [(4, x0), (4, x1)] (Nat.le_of_ble_eq_true (by rw [nl_5]; rfl))]
  show gG (fj_run d) 5 0 [(0, (4, x0)), (1, (4, x1))] [] h = _
  exact
    have D : fk_D 5 [(0, none, .aload_n 0, 1, 0, 0, 0), (1, none, .getfield 21, 3, 199, 120, 12), (4, none, .aload_n 0, 1, 0, 0, 0), (5, none, .getfield 64, 3, 198, 120, 10), (8, none, .aload_n 1, 1, 0, 0, 0), (9, none, .aastore, 1, 0, 0, 0), (10, none, .aload_n 0, 1, 0, 0, 0), (11, none, .dup, 1, 0, 0, 0), (12, none, .getfield 64, 3, 198, 120, 10), (15, none, .iconst 1, 1, 0, 1, 0), (16, none, .iadd, 1, 0, 0, 0), (17, none, .putfield 64, 3, 198, 120, 10), (20, none, .aconst_null, 1, 0, 0, 0), (21, none, .areturn, 1, 0, 0, 0)] := fq_of2 cd_5 ow_5 cl_5 rfl (pc := 0) (by decide +kernel)
    j_aldn (pc := 0) D rfl rfl rfl fun D =>
    j_gf (pc := 1) (a := x0.toNat) D rfl rfl (nz_cls H.2.1 hk (by decide)) rfl hk rfl fun D =>
    j_aldn (pc := 4) D rfl rfl rfl fun D =>
    j_gf (pc := 5) (a := x0.toNat) D rfl rfl (nz_cls H.2.1 hk (by decide)) rfl hk rfl fun D =>
    j_aldn (pc := 8) D rfl rfl rfl fun D =>
    j_asur (pc := 9) D rfl rfl gn gn gn fun h1 eh1 S q q2 D =>
    have T := fj_hs_ok H.1 S
    have ht206 := fin_st H.1 T.2 hk (by decide) (by decide +kernel) ht206 (by decide)
    have hk := cls_st H.1 T.2 hk (by decide)
    have H := shp_st H T
    j_aldn (pc := 10) D rfl rfl rfl fun D =>
    j_sh (pc := 11) D rfl rfl rfl fun D =>
    j_gf (pc := 12) (a := x0.toNat) D rfl rfl (nz_cls H.2.1 hk (by decide)) rfl hk rfl fun D =>
    j_ic (pc := 15) D rfl fun D =>
    j_iadd (pc := 16) D rfl fun D =>
    j_pf (pc := 17) (a := x0.toNat) D rfl rfl rfl hk rfl rfl gn (gy rfl) fun h2 eh2 S D =>
    have T := fj_hs_ok H.1 S
    have ht206 := fin_st H.1 T.2 hk (by decide) (by decide +kernel) ht206 (by decide)
    have hk := cls_st H.1 T.2 hk (by decide)
    have H := shp_st H T
    j_c0 (pc := 20) (v := (4, 0)) D rfl rfl (by decide +kernel) fun D =>
    j_aret D rt_5
/-! 6 java/lang/Math.max(II)I -/
theorem cd_6 : fi_code 6 = prog_82_method_65_code := rfl
theorem hx_6 : ∀ pc, fi_hat 6 pc = none := fun pc => by unfold fi_hat; rw [show fi_hh 6 = [] from rfl]; rfl
theorem rt_6 : fi_ret 6 = some .int := rfl
theorem nl_6 : fi_nl 6 = 2 := rfl
theorem ow_6 : fi_ow 6 = 75 := rfl
theorem cl_6 : fj_cutT.getD 6 [] = [] := rfl
theorem m_6 (d : Nat) (x0 x1 : Int) {h : fi_H} (H : Shp h) : fj_run (d + 1) 6 h [(0, x0), (0, x1)] =
  if x0 < x1 then
    some (.inl (some (0, x1)), h)
  else
    some (.inl (some (0, x0)), h) := by
  rw [fj_run_eq d (by decide) h [(0, x0), (0, x1)] (Nat.le_of_ble_eq_true (by rw [nl_6]; rfl))]
  show gG (fj_run d) 6 0 [(0, (0, x0)), (1, (0, x1))] [] h = _
  exact
    have D : fk_D 6 [(0, none, .iload_n 0, 1, 0, 0, 0), (1, none, .iload_n 1, 1, 0, 0, 0), (2, none, .if_icmp .lt 7, 3, 9, 0, 0), (5, none, .iload_n 0, 1, 0, 0, 0), (6, none, .goto 4, 3, 10, 0, 0)] := fq_of2 cd_6 ow_6 cl_6 rfl (pc := 0) (by decide +kernel)
    j_ildn (pc := 0) D rfl rfl rfl fun D =>
    j_ildn (pc := 1) D rfl rfl rfl fun D =>
    j_ilt (pc := 2) D rfl (fun q =>
      have D : fk_D 6 [(9, none, .iload_n 1, 1, 0, 0, 0), (10, none, .ireturn, 1, 0, 0, 0)] := fq_of2 cd_6 ow_6 cl_6 rfl (pc := 9) (by decide +kernel)
      j_ildn (pc := 9) D rfl rfl rfl fun D =>
      j_iret D rt_6) (fun q D =>
      j_ildn (pc := 5) D rfl rfl rfl fun D =>
      j_goto (pc := 6) D rfl <|
      have D : fk_D 6 [(10, none, .ireturn, 1, 0, 0, 0)] := fq_of2 cd_6 ow_6 cl_6 rfl (pc := 10) (by decide +kernel)
      j_iret D rt_6)
/-! 7 java/lang/Math.min(II)I -/
theorem cd_7 : fi_code 7 = prog_82_method_69_code := rfl
theorem hx_7 : ∀ pc, fi_hat 7 pc = none := fun pc => by unfold fi_hat; rw [show fi_hh 7 = [] from rfl]; rfl
theorem rt_7 : fi_ret 7 = some .int := rfl
theorem nl_7 : fi_nl 7 = 2 := rfl
theorem ow_7 : fi_ow 7 = 75 := rfl
theorem cl_7 : fj_cutT.getD 7 [] = [] := rfl
theorem m_7 (d : Nat) (x0 x1 : Int) {h : fi_H} (H : Shp h) : fj_run (d + 1) 7 h [(0, x0), (0, x1)] =
  if x1 < x0 then
    some (.inl (some (0, x1)), h)
  else
    some (.inl (some (0, x0)), h) := by
  rw [fj_run_eq d (by decide) h [(0, x0), (0, x1)] (Nat.le_of_ble_eq_true (by rw [nl_7]; rfl))]
  show gG (fj_run d) 7 0 [(0, (0, x0)), (1, (0, x1))] [] h = _
  exact
    have D : fk_D 7 [(0, none, .iload_n 0, 1, 0, 0, 0), (1, none, .iload_n 1, 1, 0, 0, 0), (2, none, .if_icmp .gt 7, 3, 9, 0, 0), (5, none, .iload_n 0, 1, 0, 0, 0), (6, none, .goto 4, 3, 10, 0, 0)] := fq_of2 cd_7 ow_7 cl_7 rfl (pc := 0) (by decide +kernel)
    j_ildn (pc := 0) D rfl rfl rfl fun D =>
    j_ildn (pc := 1) D rfl rfl rfl fun D =>
    j_igt (pc := 2) D rfl (fun q =>
      have D : fk_D 7 [(9, none, .iload_n 1, 1, 0, 0, 0), (10, none, .ireturn, 1, 0, 0, 0)] := fq_of2 cd_7 ow_7 cl_7 rfl (pc := 9) (by decide +kernel)
      j_ildn (pc := 9) D rfl rfl rfl fun D =>
      j_iret D rt_7) (fun q D =>
      j_ildn (pc := 5) D rfl rfl rfl fun D =>
      j_goto (pc := 6) D rfl <|
      have D : fk_D 7 [(10, none, .ireturn, 1, 0, 0, 0)] := fq_of2 cd_7 ow_7 cl_7 rfl (pc := 10) (by decide +kernel)
      j_iret D rt_7)
/-! 8 StatuteHouse$Sight.isOut(LStatuteHouse$Rule;)Z -/
theorem cd_8 : fi_code 8 = prog_58_method_3_code := rfl
theorem hx_8 : ∀ pc, fi_hat 8 pc = none := fun pc => by unfold fi_hat; rw [show fi_hh 8 = [] from rfl]; rfl
theorem rt_8 : fi_ret 8 = some .boolean := rfl
theorem nl_8 : fi_nl 8 = 4 := rfl
theorem ow_8 : fi_ow 8 = 20 := rfl
theorem cl_8 : fj_cutT.getD 8 [] = [(16, [0, 1]), (19, [0, 1, 2, 3]), (83, [0, 1, 3]), (84, [0, 1, 3])] := rfl
theorem cut_8_16 : fj_cut 8 16 = some [0, 1] := by decide +kernel
noncomputable def c_8_16 (d : Nat) (x0 x1 s0 : Int) (h : fi_H) : fk_R := gG (fj_run d) 8 16 [(0, (4, x0)), (1, (4, x1))] [(0, s0)] h
theorem cut_8_19 : fj_cut 8 19 = some [0, 1, 2, 3] := by decide +kernel
noncomputable def c_8_19 (d : Nat) (x0 x1 x2 x3 : Int) (h : fi_H) : fk_R := gG (fj_run d) 8 19 [(0, (4, x0)), (1, (4, x1)), (2, (0, x2)), (3, (0, x3))] [] h
theorem cut_8_83 : fj_cut 8 83 = some [0, 1, 3] := by decide +kernel
noncomputable def c_8_83 (d : Nat) (x0 x1 x3 : Int) (h : fi_H) : fk_R := gG (fj_run d) 8 83 [(0, (4, x0)), (1, (4, x1)), (3, (0, x3))] [] h
theorem cut_8_84 : fj_cut 8 84 = some [0, 1, 3] := by decide +kernel
noncomputable def c_8_84 (d : Nat) (x0 x1 x3 s0 : Int) (h : fi_H) : fk_R := gG (fj_run d) 8 84 [(0, (4, x0)), (1, (4, x1)), (3, (0, x3))] [(0, s0)] h
theorem e_8_16 (d : Nat) (x0 x1 s0 : Int) {h : fi_H} (H : Shp h) (hk : h 0 x0.toNat 0 = 120) (ht206 : h 206 x0.toNat 0 = 303) : c_8_16 d x0 x1 s0 h =
  c_8_19 d x0 x1 s0 0 h := by
  unfold c_8_16
  exact
    have D : fk_D 8 [(16, some [0, 1], .istore_n 2, 1, 0, 0, 0), (17, none, .iconst 0, 1, 0, 0, 0), (18, none, .istore_n 3, 1, 0, 0, 0)] := fq_of2 cd_8 ow_8 cl_8 rfl (pc := 16) (by decide +kernel)
    j_istn (pc := 16) (L' := [(2, (0, s0)), (0, (4, x0)), (1, (4, x1))]) D rfl nl_8 rfl rfl fun D =>
    j_ic (pc := 17) D rfl fun D =>
    j_istn (pc := 18) (L' := [(3, (0, 0)), (2, (0, s0)), (0, (4, x0)), (1, (4, x1))]) D rfl nl_8 rfl rfl fun D =>
    fk_jump cut_8_19 rfl rfl
theorem e_8_19 (d : Nat) (x0 x1 x2 x3 : Int) {h : fi_H} (H : Shp h) (hk : h 0 x0.toNat 0 = 120) (ht206 : h 206 x0.toNat 0 = 303) : c_8_19 d x0 x1 x2 x3 h =
  if x3 < h 238 303 0 then
    if x2 = 0 then
      if 0 ≤ x3 ∧ x3 < 40 then
      if h 12 357 x3.toNat = x1 then
        if h 193 x0.toNat 0 < h 5 359 x3.toNat then
          c_8_83 d x0 x1 x3 h
        else
          if h 194 x0.toNat 0 < h 5 358 x3.toNat then
            c_8_83 d x0 x1 x3 h
          else
            c_8_84 d x0 x1 x3 1 h
      else
        c_8_83 d x0 x1 x3 h
      else none
    else
      if x2 = 0 ∨ x2 = 1 then some (.inl (some (0, x2)), h) else none
  else
    if x2 = 0 ∨ x2 = 1 then some (.inl (some (0, x2)), h) else none := by
  unfold c_8_19
  exact
    have D : fk_D 8 [(19, some [0, 1, 2, 3], .iload_n 3, 1, 0, 0, 0), (20, none, .aload_n 0, 1, 0, 0, 0), (21, none, .getfield 3, 3, 206, 120, 12), (24, none, .getfield 99, 3, 238, 100, 10), (27, none, .if_icmp .ge 64, 3, 91, 0, 0), (30, none, .iload_n 2, 1, 0, 0, 0), (31, none, .ifCond .ne 60, 3, 91, 0, 0), (34, none, .aload_n 0, 1, 0, 0, 0), (35, none, .getfield 3, 3, 206, 120, 12), (38, none, .getfield 129, 3, 235, 100, 12), (41, none, .iload_n 3, 1, 0, 0, 0), (42, none, .aaload, 1, 0, 0, 0), (43, none, .aload_n 1, 1, 0, 0, 0), (44, none, .if_acmp .ne 39, 3, 83, 0, 0), (47, none, .aload_n 0, 1, 0, 0, 0), (48, none, .getfield 3, 3, 206, 120, 12), (51, none, .getfield 102, 3, 237, 100, 12), (54, none, .iload_n 3, 1, 0, 0, 0), (55, none, .caload, 1, 0, 0, 0), (56, none, .aload_n 0, 1, 0, 0, 0)] := fq_of2 cd_8 ow_8 cl_8 rfl (pc := 19) (by decide +kernel)
    j_ildn (pc := 19) D rfl rfl rfl fun D =>
    j_aldn (pc := 20) D rfl rfl rfl fun D =>
    j_gfc (pc := 21) (a := x0.toNat) D rfl rfl (nz_cls H.2.1 hk (by decide)) rfl hk rfl ht206 fun D =>
    j_gf (pc := 24) (a := 303) D rfl rfl (by decide) rfl (s0_303 H) rfl fun D =>
    j_ige (pc := 27) D rfl (fun q D =>
      j_ildn (pc := 30) D rfl rfl rfl fun D =>
      j_ifne (pc := 31) D rfl (fun q D =>
        j_aldn (pc := 34) D rfl rfl rfl fun D =>
        j_gfc (pc := 35) (a := x0.toNat) D rfl rfl (nz_cls H.2.1 hk (by decide)) rfl hk rfl ht206 fun D =>
        j_gfc (pc := 38) (a := 303) D rfl rfl (by decide) rfl (s0_303 H) rfl (sf_235_303 H) fun D =>
        j_ildn (pc := 41) D rfl rfl rfl fun D =>
        j_al (pc := 42) (a := 357) (e := 12) D rfl rfl rfl (by decide) (s0_357 H) (s1_357 H) ⟨rfl, rfl, rfl⟩ rfl gn fun qb1 D =>
        j_aldn (pc := 43) D rfl rfl rfl fun D =>
        j_ane (pc := 44) D rfl (fun q D =>
          j_aldn (pc := 47) D rfl rfl rfl fun D =>
          j_gfc (pc := 48) (a := x0.toNat) D rfl rfl (nz_cls H.2.1 hk (by decide)) rfl hk rfl ht206 fun D =>
          j_gfc (pc := 51) (a := 303) D rfl rfl (by decide) rfl (s0_303 H) rfl (sf_237_303 H) fun D =>
          j_ildn (pc := 54) D rfl rfl rfl fun D =>
          j_al (pc := 55) (a := 359) (e := 5) D rfl rfl rfl (by decide) (s0_359 H) (s1_359 H) ⟨rfl, rfl, rfl⟩ rfl (gy qb1) fun q D =>
          j_aldn (pc := 56) D rfl rfl rfl fun D =>
          have D : fk_D 8 [(57, none, .getfield 48, 3, 193, 120, 10), (60, none, .if_icmp .gt 23, 3, 83, 0, 0), (63, none, .aload_n 0, 1, 0, 0, 0), (64, none, .getfield 3, 3, 206, 120, 12), (67, none, .getfield 105, 3, 236, 100, 12), (70, none, .iload_n 3, 1, 0, 0, 0), (71, none, .caload, 1, 0, 0, 0), (72, none, .aload_n 0, 1, 0, 0, 0), (73, none, .getfield 60, 3, 194, 120, 10), (76, none, .if_icmp .gt 7, 3, 83, 0, 0), (79, none, .iconst 1, 1, 0, 1, 0), (80, none, .goto 4, 3, 84, 0, 0)] := fq_of2 cd_8 ow_8 cl_8 rfl (pc := 57) (by decide +kernel)
          j_gf (pc := 57) (a := x0.toNat) D rfl rfl (nz_cls H.2.1 hk (by decide)) rfl hk rfl fun D =>
          j_igt (pc := 60) D rfl (fun q =>
            fk_jump cut_8_83 rfl rfl) (fun q D =>
            j_aldn (pc := 63) D rfl rfl rfl fun D =>
            j_gfc (pc := 64) (a := x0.toNat) D rfl rfl (nz_cls H.2.1 hk (by decide)) rfl hk rfl ht206 fun D =>
            j_gfc (pc := 67) (a := 303) D rfl rfl (by decide) rfl (s0_303 H) rfl (sf_236_303 H) fun D =>
            j_ildn (pc := 70) D rfl rfl rfl fun D =>
            j_al (pc := 71) (a := 358) (e := 5) D rfl rfl rfl (by decide) (s0_358 H) (s1_358 H) ⟨rfl, rfl, rfl⟩ rfl (gy qb1) fun q D =>
            j_aldn (pc := 72) D rfl rfl rfl fun D =>
            j_gf (pc := 73) (a := x0.toNat) D rfl rfl (nz_cls H.2.1 hk (by decide)) rfl hk rfl fun D =>
            j_igt (pc := 76) D rfl (fun q =>
              fk_jump cut_8_83 rfl rfl) (fun q D =>
              j_ic (pc := 79) D rfl fun D =>
              j_goto (pc := 80) D rfl <|
              fk_jump cut_8_84 rfl rfl))) (fun q =>
          fk_jump cut_8_83 rfl rfl)) (fun q =>
        have D : fk_D 8 [(91, none, .iload_n 2, 1, 0, 0, 0), (92, none, .ireturn, 1, 0, 0, 0)] := fq_of2 cd_8 ow_8 cl_8 rfl (pc := 91) (by decide +kernel)
        j_ildn (pc := 91) D rfl rfl rfl fun D =>
        j_zret D rt_8 gn)) (fun q =>
      have D : fk_D 8 [(91, none, .iload_n 2, 1, 0, 0, 0), (92, none, .ireturn, 1, 0, 0, 0)] := fq_of2 cd_8 ow_8 cl_8 rfl (pc := 91) (by decide +kernel)
      j_ildn (pc := 91) D rfl rfl rfl fun D =>
      j_zret D rt_8 gn)
theorem e_8_83 (d : Nat) (x0 x1 x3 : Int) {h : fi_H} (H : Shp h) (hk : h 0 x0.toNat 0 = 120) (ht206 : h 206 x0.toNat 0 = 303) : c_8_83 d x0 x1 x3 h =
  c_8_84 d x0 x1 x3 0 h := by
  unfold c_8_83
  exact
    have D : fk_D 8 [(83, some [0, 1, 3], .iconst 0, 1, 0, 0, 0)] := fq_of2 cd_8 ow_8 cl_8 rfl (pc := 83) (by decide +kernel)
    j_ic (pc := 83) D rfl fun D =>
    fk_jump cut_8_84 rfl rfl
theorem e_8_84 (d : Nat) (x0 x1 x3 s0 : Int) {h : fi_H} (H : Shp h) (hk : h 0 x0.toNat 0 = 120) (ht206 : h 206 x0.toNat 0 = 303) : c_8_84 d x0 x1 x3 s0 h =
  c_8_19 d x0 x1 s0 (wI (x3 + 1)) h := by
  unfold c_8_84
  exact
    have D : fk_D 8 [(84, some [0, 1, 3], .istore_n 2, 1, 0, 0, 0), (85, none, .iinc 3 1, 3, 0, 1, 0), (88, none, .goto (-69), 3, 19, 0, 0)] := fq_of2 cd_8 ow_8 cl_8 rfl (pc := 84) (by decide +kernel)
    j_istn (pc := 84) (L' := [(2, (0, s0)), (0, (4, x0)), (1, (4, x1)), (3, (0, x3))]) D rfl nl_8 rfl rfl fun D =>
    j_inc (pc := 85) (L' := [(3, (0, wI (x3 + 1))), (2, (0, s0)), (0, (4, x0)), (1, (4, x1))]) D rfl rfl rfl (by decide +kernel) rfl fun D =>
    j_goto (pc := 88) D rfl <|
    fk_jump cut_8_19 rfl rfl
theorem m_8 (d : Nat) (x0 x1 : Int) {h : fi_H} (H : Shp h) (hk : h 0 x0.toNat 0 = 120) (ht206 : h 206 x0.toNat 0 = 303) : fj_run (d + 1) 8 h [(4, x0), (4, x1)] =
  if x1 = 356 then
    c_8_16 d x0 x1 1 h
  else
    c_8_16 d x0 x1 0 h := by
  rw [fj_run_eq d (by decide) h [(4, x0), (4, x1)] (Nat.le_of_ble_eq_true (by rw [nl_8]; rfl))]
  show gG (fj_run d) 8 0 [(0, (4, x0)), (1, (4, x1))] [] h = _
  exact
    have D : fk_D 8 [(0, none, .aload_n 1, 1, 0, 0, 0), (1, none, .aload_n 0, 1, 0, 0, 0), (2, none, .getfield 3, 3, 206, 120, 12), (5, none, .getfield 112, 3, 234, 100, 12), (8, none, .if_acmp .ne 7, 3, 15, 0, 0), (11, none, .iconst 1, 1, 0, 1, 0), (12, none, .goto 4, 3, 16, 0, 0)] := fq_of2 cd_8 ow_8 cl_8 rfl (pc := 0) (by decide +kernel)
    j_aldn (pc := 0) D rfl rfl rfl fun D =>
    j_aldn (pc := 1) D rfl rfl rfl fun D =>
    j_gfc (pc := 2) (a := x0.toNat) D rfl rfl (nz_cls H.2.1 hk (by decide)) rfl hk rfl ht206 fun D =>
    j_gfc (pc := 5) (a := 303) D rfl rfl (by decide) rfl (s0_303 H) rfl (sf_234_303 H) fun D =>
    j_ane (pc := 8) D rfl (fun q D =>
      j_ic (pc := 11) D rfl fun D =>
      j_goto (pc := 12) D rfl <|
      fk_jump cut_8_16 rfl rfl) (fun q =>
      have D : fk_D 8 [(15, none, .iconst 0, 1, 0, 0, 0)] := fq_of2 cd_8 ow_8 cl_8 rfl (pc := 15) (by decide +kernel)
      j_ic (pc := 15) D rfl fun D =>
      fk_jump cut_8_16 rfl rfl)
/-! 9 StatuteHouse$Sight.hang(LStatuteHouse$Rule;)V -/
theorem cd_9 : fi_code 9 = prog_58_method_5_code := rfl
theorem hx_9 : ∀ pc, fi_hat 9 pc = none := fun pc => by unfold fi_hat; rw [show fi_hh 9 = [] from rfl]; rfl
theorem rt_9 : fi_ret 9 = none := rfl
theorem nl_9 : fi_nl 9 = 3 := rfl
theorem ow_9 : fi_ow 9 = 20 := rfl
theorem cl_9 : fj_cutT.getD 9 [] = [(89, [0, 1]), (190, [0, 1, 2])] := rfl
theorem cut_9_89 : fj_cut 9 89 = some [0, 1] := by decide +kernel
noncomputable def c_9_89 (d : Nat) (x0 x1 : Int) (h : fi_H) : fk_R := gG (fj_run d) 9 89 [(0, (4, x0)), (1, (4, x1))] [] h
theorem cut_9_190 : fj_cut 9 190 = some [0, 1, 2] := by decide +kernel
noncomputable def c_9_190 (d : Nat) (x0 x1 x2 : Int) (h : fi_H) : fk_R := gG (fj_run d) 9 190 [(0, (4, x0)), (1, (4, x1)), (2, (4, x2))] [] h
theorem e_9_89 (d : Nat) (x0 x1 : Int) {h : fi_H} (H : Shp h) (hk : h 0 x0.toNat 0 = 120) (ht206 : h 206 x0.toNat 0 = 303) : c_9_89 d x0 x1 h =
  if h 0 x1.toNat 0 = 117 then
  if 302 < h 201 x0.toNat 0 ∧ h 0 (h 201 x0.toNat 0).toNat 0 = 9 then
  if 0 ≤ h 137 x1.toNat 0 ∧ h 137 x1.toNat 0 < h 1 (h 201 x0.toNat 0).toNat 0 then
  lt_ (fi_upd h 9 (h 201 x0.toNat 0).toNat (h 137 x1.toNat 0).toNat (wS (h 134 x1.toNat 0))) fun h2 =>
  some (.inl none, h2)
  else none
  else none
  else none := by
  unfold c_9_89
  exact
    have D : fk_D 9 [(89, some [0, 1], .aload_n 0, 1, 0, 0, 0), (90, none, .getfield 29, 3, 201, 120, 12), (93, none, .aload_n 1, 1, 0, 0, 0), (94, none, .getfield 136, 3, 137, (-117), 10), (97, none, .aload_n 1, 1, 0, 0, 0), (98, none, .getfield 116, 3, 134, 117, 10), (101, none, .i2s, 1, 0, 0, 0), (102, none, .sastore, 1, 0, 0, 0), (103, none, .return_, 1, 0, 0, 0)] := fq_of2 cd_9 ow_9 cl_9 rfl (pc := 89) (by decide +kernel)
    j_aldn (pc := 89) D rfl rfl rfl fun D =>
    j_gf (pc := 90) (a := x0.toNat) D rfl rfl (nz_cls H.2.1 hk (by decide)) rfl hk rfl fun D =>
    j_aldn (pc := 93) D rfl rfl rfl fun D =>
    j_gfo (pc := 94) H.2.1 D rfl rfl rfl rfl fun kc1 D =>
    j_aldn (pc := 97) D rfl rfl rfl fun D =>
    j_gf (pc := 98) (a := x1.toNat) D rfl rfl (nz_cls H.2.1 kc1 (by decide)) rfl kc1 rfl fun D =>
    j_i2s (pc := 101) D rfl fun D =>
    j_asu (pc := 102) (e := 9) D rfl rfl ⟨rfl, rfl, rfl⟩ rfl gn gn (gy (fk_rgS _)) fun h2 eh2 S q q2 D =>
    have T := fj_hs_ok H.1 S
    have ht206 := fin_st H.1 T.2 hk (by decide) (by decide +kernel) ht206 (by decide)
    have hk := cls_st H.1 T.2 hk (by decide)
    have kc1 := cls_st H.1 T.2 kc1 (by decide)
    have H := shp_st H T
    j_vret D rt_9
theorem e_9_190 (d : Nat) (x0 x1 x2 : Int) {h : fi_H} (H : Shp h) (hk : h 0 x0.toNat 0 = 120) (ht206 : h 206 x0.toNat 0 = 303) : c_9_190 d x0 x1 x2 h =
  if h 0 x2.toNat 0 = 117 then
  if h 0 x1.toNat 0 = 117 then
  if 302 < h 205 x0.toNat 0 ∧ h 0 (h 205 x0.toNat 0).toNat 0 = 9 then
  if 0 ≤ h 134 x2.toNat 0 ∧ h 134 x2.toNat 0 < h 1 (h 205 x0.toNat 0).toNat 0 then
  lt_ (fi_upd h 9 (h 205 x0.toNat 0).toNat (h 134 x2.toNat 0).toNat (wS (h 134 x1.toNat 0))) fun h3 =>
  some (.inl none, h3)
  else none
  else none
  else none
  else none := by
  unfold c_9_190
  exact
    have D : fk_D 9 [(190, some [0, 1, 2], .aload_n 0, 1, 0, 0, 0), (191, none, .getfield 41, 3, 205, 120, 12), (194, none, .aload_n 2, 1, 0, 0, 0), (195, none, .getfield 116, 3, 134, (-117), 10), (198, none, .aload_n 1, 1, 0, 0, 0), (199, none, .getfield 116, 3, 134, (-117), 10), (202, none, .i2s, 1, 0, 0, 0), (203, none, .sastore, 1, 0, 0, 0), (204, none, .return_, 1, 0, 0, 0)] := fq_of2 cd_9 ow_9 cl_9 rfl (pc := 190) (by decide +kernel)
    j_aldn (pc := 190) D rfl rfl rfl fun D =>
    j_gf (pc := 191) (a := x0.toNat) D rfl rfl (nz_cls H.2.1 hk (by decide)) rfl hk rfl fun D =>
    j_aldn (pc := 194) D rfl rfl rfl fun D =>
    j_gfo (pc := 195) H.2.1 D rfl rfl rfl rfl fun kc1 D =>
    j_aldn (pc := 198) D rfl rfl rfl fun D =>
    j_gfo (pc := 199) H.2.1 D rfl rfl rfl rfl fun kc2 D =>
    j_i2s (pc := 202) D rfl fun D =>
    j_asu (pc := 203) (e := 9) D rfl rfl ⟨rfl, rfl, rfl⟩ rfl gn gn (gy (fk_rgS _)) fun h3 eh3 S q q2 D =>
    have T := fj_hs_ok H.1 S
    have ht206 := fin_st H.1 T.2 hk (by decide) (by decide +kernel) ht206 (by decide)
    have hk := cls_st H.1 T.2 hk (by decide)
    have kc1 := cls_st H.1 T.2 kc1 (by decide)
    have kc2 := cls_st H.1 T.2 kc2 (by decide)
    have H := shp_st H T
    j_vret D rt_9
theorem m_9 (d : Nat) (x0 x1 : Int) {h : fi_H} (H : Shp h) (hk : h 0 x0.toNat 0 = 120) (ht206 : h 206 x0.toNat 0 = 303) : fj_run (d + 1) 9 h [(4, x0), (4, x1)] =
  if h 0 x1.toNat 0 = 117 then
  if 302 < h 203 x0.toNat 0 ∧ h 0 (h 203 x0.toNat 0).toNat 0 = 9 then
  if 0 ≤ h 134 x1.toNat 0 ∧ h 134 x1.toNat 0 < h 1 (h 203 x0.toNat 0).toNat 0 then
  lt_ (fi_upd h 9 (h 203 x0.toNat 0).toNat (h 134 x1.toNat 0).toNat (-1)) fun h2 =>
  if h2 142 x1.toNat 0 = 0 then
    if h2 138 x1.toNat 0 = (-1) then
      if h2 0 (h2 200 x0.toNat 0).toNat 0 = 9 ∧ 0 ≤ h2 137 x1.toNat 0 ∧ h2 137 x1.toNat 0 < h2 1 (h2 200 x0.toNat 0).toNat 0 then
      if h2 9 (h2 200 x0.toNat 0).toNat (h2 137 x1.toNat 0).toNat = (-1) then
        if 302 < h2 200 x0.toNat 0 ∧ h2 0 (h2 200 x0.toNat 0).toNat 0 = 9 then
        if 0 ≤ h2 137 x1.toNat 0 ∧ h2 137 x1.toNat 0 < h2 1 (h2 200 x0.toNat 0).toNat 0 then
        lt_ (fi_upd h2 9 (h2 200 x0.toNat 0).toNat (h2 137 x1.toNat 0).toNat (wS (h2 134 x1.toNat 0))) fun h3 =>
        c_9_89 d x0 x1 h3
        else none
        else none
      else
        if h2 0 (h2 201 x0.toNat 0).toNat 0 = 9 ∧ 0 ≤ h2 137 x1.toNat 0 ∧ h2 137 x1.toNat 0 < h2 1 (h2 201 x0.toNat 0).toNat 0 then
        if 302 < h2 203 x0.toNat 0 ∧ h2 0 (h2 203 x0.toNat 0).toNat 0 = 9 then
        if 0 ≤ h2 9 (h2 201 x0.toNat 0).toNat (h2 137 x1.toNat 0).toNat ∧ h2 9 (h2 201 x0.toNat 0).toNat (h2 137 x1.toNat 0).toNat < h2 1 (h2 203 x0.toNat 0).toNat 0 then
        lt_ (fi_upd h2 9 (h2 203 x0.toNat 0).toNat (h2 9 (h2 201 x0.toNat 0).toNat (h2 137 x1.toNat 0).toNat).toNat (wS (h2 134 x1.toNat 0))) fun h4 =>
        c_9_89 d x0 x1 h4
        else none
        else none
        else none
      else none
    else
      ca_ (fj_run d 10 h2 [(4, x0), (0, h2 138 x1.toNat 0), (0, h2 139 x1.toNat 0)]) 4
        (fun v6 h5 =>
        if v6 = 0 then
          some (.inl none, h5)
        else
          if h5 0 v6.toNat 0 = 117 then
          if h5 137 v6.toNat 0 = h5 137 x1.toNat 0 then
            ca_ (fj_run d 8 h5 [(4, x0), (4, v6)]) 0
              (fun v10 h9 =>
              if v10 = 0 then
                if h9 0 (h9 204 x0.toNat 0).toNat 0 = 9 ∧ 0 ≤ h9 134 v6.toNat 0 ∧ h9 134 v6.toNat 0 < h9 1 (h9 204 x0.toNat 0).toNat 0 then
                if h9 9 (h9 204 x0.toNat 0).toNat (h9 134 v6.toNat 0).toNat = (-1) then
                  if 302 < h9 204 x0.toNat 0 ∧ h9 0 (h9 204 x0.toNat 0).toNat 0 = 9 then
                  if 0 ≤ h9 134 v6.toNat 0 ∧ h9 134 v6.toNat 0 < h9 1 (h9 204 x0.toNat 0).toNat 0 then
                  lt_ (fi_upd h9 9 (h9 204 x0.toNat 0).toNat (h9 134 v6.toNat 0).toNat (wS (h9 134 x1.toNat 0))) fun h12 =>
                  c_9_190 d x0 x1 v6 h12
                  else none
                  else none
                else
                  if h9 0 (h9 205 x0.toNat 0).toNat 0 = 9 ∧ 0 ≤ h9 134 v6.toNat 0 ∧ h9 134 v6.toNat 0 < h9 1 (h9 205 x0.toNat 0).toNat 0 then
                  if 302 < h9 203 x0.toNat 0 ∧ h9 0 (h9 203 x0.toNat 0).toNat 0 = 9 then
                  if 0 ≤ h9 9 (h9 205 x0.toNat 0).toNat (h9 134 v6.toNat 0).toNat ∧ h9 9 (h9 205 x0.toNat 0).toNat (h9 134 v6.toNat 0).toNat < h9 1 (h9 203 x0.toNat 0).toNat 0 then
                  lt_ (fi_upd h9 9 (h9 203 x0.toNat 0).toNat (h9 9 (h9 205 x0.toNat 0).toNat (h9 134 v6.toNat 0).toNat).toNat (wS (h9 134 x1.toNat 0))) fun h13 =>
                  c_9_190 d x0 x1 v6 h13
                  else none
                  else none
                  else none
                else none
              else
                some (.inl none, h9))
              (fun q11 h9 => tx_ q11 h9)
          else
            some (.inl none, h5)
          else none)
        (fun q7 h5 => tx_ q7 h5)
  else
    if 302 < h2 202 x0.toNat 0 ∧ h2 0 (h2 202 x0.toNat 0).toNat 0 = 9 then
    if 0 ≤ h2 137 x1.toNat 0 ∧ h2 137 x1.toNat 0 < h2 1 (h2 202 x0.toNat 0).toNat 0 then
    lt_ (fi_upd h2 9 (h2 202 x0.toNat 0).toNat (h2 137 x1.toNat 0).toNat (wS (h2 134 x1.toNat 0))) fun h14 =>
    some (.inl none, h14)
    else none
    else none
  else none
  else none
  else none := by
  rw [fj_run_eq d (by decide) h [(4, x0), (4, x1)] (Nat.le_of_ble_eq_true (by rw [nl_9]; rfl))]
  show gG (fj_run d) 9 0 [(0, (4, x0)), (1, (4, x1))] [] h = _
  exact
    have D : fk_D 9 [(0, none, .aload_n 0, 1, 0, 0, 0), (1, none, .getfield 35, 3, 203, 120, 12), (4, none, .aload_n 1, 1, 0, 0, 0), (5, none, .getfield 116, 3, 134, (-117), 10), (8, none, .iconst (-1), 1, 0, (-1), 0), (9, none, .sastore, 1, 0, 0, 0), (10, none, .aload_n 1, 1, 0, 0, 0), (11, none, .getfield 132, 3, 142, 117, 12), (14, none, .ifnull 18, 3, 32, 0, 0), (17, none, .aload_n 0, 1, 0, 0, 0), (18, none, .getfield 32, 3, 202, 120, 12), (21, none, .aload_n 1, 1, 0, 0, 0), (22, none, .getfield 136, 3, 137, 117, 10), (25, none, .aload_n 1, 1, 0, 0, 0), (26, none, .getfield 116, 3, 134, 117, 10), (29, none, .i2s, 1, 0, 0, 0), (30, none, .sastore, 1, 0, 0, 0), (31, none, .return_, 1, 0, 0, 0)] := fq_of2 cd_9 ow_9 cl_9 rfl (pc := 0) (by decide +kernel)
    j_aldn (pc := 0) D rfl rfl rfl fun D =>
    j_gf (pc := 1) (a := x0.toNat) D rfl rfl (nz_cls H.2.1 hk (by decide)) rfl hk rfl fun D =>
    j_aldn (pc := 4) D rfl rfl rfl fun D =>
    j_gfo (pc := 5) H.2.1 D rfl rfl rfl rfl fun kc1 D =>
    j_ic (pc := 8) D rfl fun D =>
    j_asu (pc := 9) (e := 9) D rfl rfl ⟨rfl, rfl, rfl⟩ rfl gn gn (gy (by decide)) fun h2 eh2 S q q2 D =>
    have T := fj_hs_ok H.1 S
    have ht206 := fin_st H.1 T.2 hk (by decide) (by decide +kernel) ht206 (by decide)
    have hk := cls_st H.1 T.2 hk (by decide)
    have kc1 := cls_st H.1 T.2 kc1 (by decide)
    have H := shp_st H T
    j_aldn (pc := 10) D rfl rfl rfl fun D =>
    j_gf (pc := 11) (a := x1.toNat) D rfl rfl (nz_cls H.2.1 kc1 (by decide)) rfl kc1 rfl fun D =>
    j_null (pc := 14) D rfl (fun q =>
      have D : fk_D 9 [(32, none, .aload_n 1, 1, 0, 0, 0), (33, none, .getfield 139, 3, 138, 117, 10), (36, none, .iconst (-1), 1, 0, (-1), 0), (37, none, .if_icmp .ne 67, 3, 104, 0, 0), (40, none, .aload_n 0, 1, 0, 0, 0), (41, none, .getfield 25, 3, 200, 120, 12), (44, none, .aload_n 1, 1, 0, 0, 0), (45, none, .getfield 136, 3, 137, 117, 10), (48, none, .saload, 1, 0, 0, 0), (49, none, .iconst (-1), 1, 0, (-1), 0), (50, none, .if_icmp .ne 20, 3, 70, 0, 0), (53, none, .aload_n 0, 1, 0, 0, 0), (54, none, .getfield 25, 3, 200, 120, 12), (57, none, .aload_n 1, 1, 0, 0, 0), (58, none, .getfield 136, 3, 137, 117, 10), (61, none, .aload_n 1, 1, 0, 0, 0), (62, none, .getfield 116, 3, 134, 117, 10), (65, none, .i2s, 1, 0, 0, 0), (66, none, .sastore, 1, 0, 0, 0), (67, none, .goto 22, 3, 89, 0, 0)] := fq_of2 cd_9 ow_9 cl_9 rfl (pc := 32) (by decide +kernel)
      j_aldn (pc := 32) D rfl rfl rfl fun D =>
      j_gf (pc := 33) (a := x1.toNat) D rfl rfl (nz_cls H.2.1 kc1 (by decide)) rfl kc1 rfl fun D =>
      j_ic (pc := 36) D rfl fun D =>
      j_ine (pc := 37) D rfl (fun q D =>
        j_aldn (pc := 40) D rfl rfl rfl fun D =>
        j_gf (pc := 41) (a := x0.toNat) D rfl rfl (nz_cls H.2.1 hk (by decide)) rfl hk rfl fun D =>
        j_aldn (pc := 44) D rfl rfl rfl fun D =>
        j_gf (pc := 45) (a := x1.toNat) D rfl rfl (nz_cls H.2.1 kc1 (by decide)) rfl kc1 rfl fun D =>
        j_alp (pc := 48) (e := 9) H.2.1 D rfl rfl ⟨rfl, rfl, rfl⟩ rfl fun q q2 D =>
        j_ic (pc := 49) D rfl fun D =>
        j_ine (pc := 50) D rfl (fun q D =>
          j_aldn (pc := 53) D rfl rfl rfl fun D =>
          j_gf (pc := 54) (a := x0.toNat) D rfl rfl (nz_cls H.2.1 hk (by decide)) rfl hk rfl fun D =>
          j_aldn (pc := 57) D rfl rfl rfl fun D =>
          j_gf (pc := 58) (a := x1.toNat) D rfl rfl (nz_cls H.2.1 kc1 (by decide)) rfl kc1 rfl fun D =>
          j_aldn (pc := 61) D rfl rfl rfl fun D =>
          j_gf (pc := 62) (a := x1.toNat) D rfl rfl (nz_cls H.2.1 kc1 (by decide)) rfl kc1 rfl fun D =>
          j_i2s (pc := 65) D rfl fun D =>
          j_asu (pc := 66) (e := 9) D rfl rfl ⟨rfl, rfl, rfl⟩ rfl gn gn (gy (fk_rgS _)) fun h3 eh3 S q q2 D =>
          have T := fj_hs_ok H.1 S
          have ht206 := fin_st H.1 T.2 hk (by decide) (by decide +kernel) ht206 (by decide)
          have hk := cls_st H.1 T.2 hk (by decide)
          have kc1 := cls_st H.1 T.2 kc1 (by decide)
          have H := shp_st H T
          j_goto (pc := 67) D rfl <|
          fk_jump cut_9_89 rfl rfl) (fun q =>
          have D : fk_D 9 [(70, none, .aload_n 0, 1, 0, 0, 0), (71, none, .getfield 35, 3, 203, 120, 12), (74, none, .aload_n 0, 1, 0, 0, 0), (75, none, .getfield 29, 3, 201, 120, 12), (78, none, .aload_n 1, 1, 0, 0, 0), (79, none, .getfield 136, 3, 137, 117, 10), (82, none, .saload, 1, 0, 0, 0), (83, none, .aload_n 1, 1, 0, 0, 0), (84, none, .getfield 116, 3, 134, 117, 10), (87, none, .i2s, 1, 0, 0, 0), (88, none, .sastore, 1, 0, 0, 0)] := fq_of2 cd_9 ow_9 cl_9 rfl (pc := 70) (by decide +kernel)
          j_aldn (pc := 70) D rfl rfl rfl fun D =>
          j_gf (pc := 71) (a := x0.toNat) D rfl rfl (nz_cls H.2.1 hk (by decide)) rfl hk rfl fun D =>
          j_aldn (pc := 74) D rfl rfl rfl fun D =>
          j_gf (pc := 75) (a := x0.toNat) D rfl rfl (nz_cls H.2.1 hk (by decide)) rfl hk rfl fun D =>
          j_aldn (pc := 78) D rfl rfl rfl fun D =>
          j_gf (pc := 79) (a := x1.toNat) D rfl rfl (nz_cls H.2.1 kc1 (by decide)) rfl kc1 rfl fun D =>
          j_alp (pc := 82) (e := 9) H.2.1 D rfl rfl ⟨rfl, rfl, rfl⟩ rfl fun q q2 D =>
          j_aldn (pc := 83) D rfl rfl rfl fun D =>
          j_gf (pc := 84) (a := x1.toNat) D rfl rfl (nz_cls H.2.1 kc1 (by decide)) rfl kc1 rfl fun D =>
          j_i2s (pc := 87) D rfl fun D =>
          j_asu (pc := 88) (e := 9) D rfl rfl ⟨rfl, rfl, rfl⟩ rfl gn gn (gy (fk_rgS _)) fun h4 eh4 S q q2 D =>
          have T := fj_hs_ok H.1 S
          have ht206 := fin_st H.1 T.2 hk (by decide) (by decide +kernel) ht206 (by decide)
          have hk := cls_st H.1 T.2 hk (by decide)
          have kc1 := cls_st H.1 T.2 kc1 (by decide)
          have H := shp_st H T
          fk_jump cut_9_89 rfl rfl)) (fun q =>
        have D : fk_D 9 [(104, none, .aload_n 0, 1, 0, 0, 0), (105, none, .aload_n 1, 1, 0, 0, 0), (106, none, .getfield 139, 3, 138, 117, 10), (109, none, .aload_n 1, 1, 0, 0, 0), (110, none, .getfield 142, 3, 139, 117, 10), (113, none, .invokevirtual 145, 3, 2, 201, 5), (116, none, .astore_n 2, 1, 0, 0, 0), (117, none, .aload_n 2, 1, 0, 0, 0), (118, none, .ifnull 22, 3, 140, 0, 0), (121, none, .aload_n 2, 1, 0, 0, 0), (122, none, .getfield 136, 3, 137, (-117), 10), (125, none, .aload_n 1, 1, 0, 0, 0), (126, none, .getfield 136, 3, 137, 117, 10), (129, none, .if_icmp .ne 11, 3, 140, 0, 0), (132, none, .aload_n 0, 1, 0, 0, 0), (133, none, .aload_n 2, 1, 0, 0, 0), (134, none, .invokevirtual 121, 3, 1, 142, 1), (137, none, .ifCond .eq 4, 3, 141, 0, 0), (140, none, .return_, 1, 0, 0, 0)] := fq_of2 cd_9 ow_9 cl_9 rfl (pc := 104) (by decide +kernel)
        j_aldn (pc := 104) D rfl rfl rfl fun D =>
        j_aldn (pc := 105) D rfl rfl rfl fun D =>
        j_gf (pc := 106) (a := x1.toNat) D rfl rfl (nz_cls H.2.1 kc1 (by decide)) rfl kc1 rfl fun D =>
        j_aldn (pc := 109) D rfl rfl rfl fun D =>
        j_gf (pc := 110) (a := x1.toNat) D rfl rfl (nz_cls H.2.1 kc1 (by decide)) rfl kc1 rfl fun D =>
        j_iv (pc := 113) (m := 10) (dd := 201) (a := [(0, h2 138 x1.toNat 0), (0, h2 139 x1.toNat 0)]) (rest := []) D rfl rfl rfl rfl rfl (nz_cls H.2.1 hk (by decide)) hk (by decide +kernel) (fun v6 h5 e1 D =>
          have T := fj_run_ok _ _ _ _ _ _ H.1 e1
          have ht206 := fin_st H.1 T.2 hk (by decide) (by decide +kernel) ht206 (by decide)
          have hk := cls_st H.1 T.2 hk (by decide)
          have kc1 := cls_st H.1 T.2 kc1 (by decide)
          have H := shp_st H T
          j_astn (pc := 116) (L' := [(2, (4, v6)), (0, (4, x0)), (1, (4, x1))]) D rfl nl_9 rfl rfl fun D =>
          j_aldn (pc := 117) D rfl rfl rfl fun D =>
          j_null (pc := 118) D rfl (fun q =>
            have D : fk_D 9 [(140, none, .return_, 1, 0, 0, 0)] := fq_of2 cd_9 ow_9 cl_9 rfl (pc := 140) (by decide +kernel)
            j_vret D rt_9) (fun q D =>
            j_aldn (pc := 121) D rfl rfl rfl fun D =>
            j_gfo (pc := 122) H.2.1 D rfl rfl rfl rfl fun kc8 D =>
            j_aldn (pc := 125) D rfl rfl rfl fun D =>
            j_gf (pc := 126) (a := x1.toNat) D rfl rfl (nz_cls H.2.1 kc1 (by decide)) rfl kc1 rfl fun D =>
            j_ine (pc := 129) D rfl (fun q D =>
              j_aldn (pc := 132) D rfl rfl rfl fun D =>
              j_aldn (pc := 133) D rfl rfl rfl fun D =>
              j_iv (pc := 134) (m := 8) (dd := 142) (a := [(4, v6)]) (rest := []) D rfl rfl rfl rfl rfl (nz_cls H.2.1 hk (by decide)) hk (by decide +kernel) (fun v10 h9 e1 D =>
                have T := fj_run_ok _ _ _ _ _ _ H.1 e1
                have ht206 := fin_st H.1 T.2 hk (by decide) (by decide +kernel) ht206 (by decide)
                have hk := cls_st H.1 T.2 hk (by decide)
                have kc1 := cls_st H.1 T.2 kc1 (by decide)
                have kc8 := cls_st H.1 T.2 kc8 (by decide)
                have H := shp_st H T
                j_ifeq (pc := 137) D rfl (fun q =>
                  have D : fk_D 9 [(141, none, .aload_n 0, 1, 0, 0, 0), (142, none, .getfield 38, 3, 204, 120, 12), (145, none, .aload_n 2, 1, 0, 0, 0), (146, none, .getfield 116, 3, 134, 117, 10), (149, none, .saload, 1, 0, 0, 0), (150, none, .iconst (-1), 1, 0, (-1), 0), (151, none, .if_icmp .ne 20, 3, 171, 0, 0), (154, none, .aload_n 0, 1, 0, 0, 0), (155, none, .getfield 38, 3, 204, 120, 12), (158, none, .aload_n 2, 1, 0, 0, 0), (159, none, .getfield 116, 3, 134, 117, 10), (162, none, .aload_n 1, 1, 0, 0, 0), (163, none, .getfield 116, 3, 134, 117, 10), (166, none, .i2s, 1, 0, 0, 0), (167, none, .sastore, 1, 0, 0, 0), (168, none, .goto 22, 3, 190, 0, 0)] := fq_of2 cd_9 ow_9 cl_9 rfl (pc := 141) (by decide +kernel)
                  j_aldn (pc := 141) D rfl rfl rfl fun D =>
                  j_gf (pc := 142) (a := x0.toNat) D rfl rfl (nz_cls H.2.1 hk (by decide)) rfl hk rfl fun D =>
                  j_aldn (pc := 145) D rfl rfl rfl fun D =>
                  j_gf (pc := 146) (a := v6.toNat) D rfl rfl (nz_cls H.2.1 kc8 (by decide)) rfl kc8 rfl fun D =>
                  j_alp (pc := 149) (e := 9) H.2.1 D rfl rfl ⟨rfl, rfl, rfl⟩ rfl fun q q2 D =>
                  j_ic (pc := 150) D rfl fun D =>
                  j_ine (pc := 151) D rfl (fun q D =>
                    j_aldn (pc := 154) D rfl rfl rfl fun D =>
                    j_gf (pc := 155) (a := x0.toNat) D rfl rfl (nz_cls H.2.1 hk (by decide)) rfl hk rfl fun D =>
                    j_aldn (pc := 158) D rfl rfl rfl fun D =>
                    j_gf (pc := 159) (a := v6.toNat) D rfl rfl (nz_cls H.2.1 kc8 (by decide)) rfl kc8 rfl fun D =>
                    j_aldn (pc := 162) D rfl rfl rfl fun D =>
                    j_gf (pc := 163) (a := x1.toNat) D rfl rfl (nz_cls H.2.1 kc1 (by decide)) rfl kc1 rfl fun D =>
                    j_i2s (pc := 166) D rfl fun D =>
                    j_asu (pc := 167) (e := 9) D rfl rfl ⟨rfl, rfl, rfl⟩ rfl gn gn (gy (fk_rgS _)) fun h12 eh12 S q q2 D =>
                    have T := fj_hs_ok H.1 S
                    have ht206 := fin_st H.1 T.2 hk (by decide) (by decide +kernel) ht206 (by decide)
                    have hk := cls_st H.1 T.2 hk (by decide)
                    have kc1 := cls_st H.1 T.2 kc1 (by decide)
                    have kc8 := cls_st H.1 T.2 kc8 (by decide)
                    have H := shp_st H T
                    j_goto (pc := 168) D rfl <|
                    fk_jump cut_9_190 rfl rfl) (fun q =>
                    have D : fk_D 9 [(171, none, .aload_n 0, 1, 0, 0, 0), (172, none, .getfield 35, 3, 203, 120, 12), (175, none, .aload_n 0, 1, 0, 0, 0), (176, none, .getfield 41, 3, 205, 120, 12), (179, none, .aload_n 2, 1, 0, 0, 0), (180, none, .getfield 116, 3, 134, 117, 10), (183, none, .saload, 1, 0, 0, 0), (184, none, .aload_n 1, 1, 0, 0, 0), (185, none, .getfield 116, 3, 134, 117, 10), (188, none, .i2s, 1, 0, 0, 0), (189, none, .sastore, 1, 0, 0, 0)] := fq_of2 cd_9 ow_9 cl_9 rfl (pc := 171) (by decide +kernel)
                    j_aldn (pc := 171) D rfl rfl rfl fun D =>
                    j_gf (pc := 172) (a := x0.toNat) D rfl rfl (nz_cls H.2.1 hk (by decide)) rfl hk rfl fun D =>
                    j_aldn (pc := 175) D rfl rfl rfl fun D =>
                    j_gf (pc := 176) (a := x0.toNat) D rfl rfl (nz_cls H.2.1 hk (by decide)) rfl hk rfl fun D =>
                    j_aldn (pc := 179) D rfl rfl rfl fun D =>
                    j_gf (pc := 180) (a := v6.toNat) D rfl rfl (nz_cls H.2.1 kc8 (by decide)) rfl kc8 rfl fun D =>
                    j_alp (pc := 183) (e := 9) H.2.1 D rfl rfl ⟨rfl, rfl, rfl⟩ rfl fun q q2 D =>
                    j_aldn (pc := 184) D rfl rfl rfl fun D =>
                    j_gf (pc := 185) (a := x1.toNat) D rfl rfl (nz_cls H.2.1 kc1 (by decide)) rfl kc1 rfl fun D =>
                    j_i2s (pc := 188) D rfl fun D =>
                    j_asu (pc := 189) (e := 9) D rfl rfl ⟨rfl, rfl, rfl⟩ rfl gn gn (gy (fk_rgS _)) fun h13 eh13 S q q2 D =>
                    have T := fj_hs_ok H.1 S
                    have ht206 := fin_st H.1 T.2 hk (by decide) (by decide +kernel) ht206 (by decide)
                    have hk := cls_st H.1 T.2 hk (by decide)
                    have kc1 := cls_st H.1 T.2 kc1 (by decide)
                    have kc8 := cls_st H.1 T.2 kc8 (by decide)
                    have H := shp_st H T
                    fk_jump cut_9_190 rfl rfl)) (fun q D =>
                  j_vret D rt_9)) (fun q11 h9 e1 =>
                j_tx (hx_9 _))) (fun q =>
              have D : fk_D 9 [(140, none, .return_, 1, 0, 0, 0)] := fq_of2 cd_9 ow_9 cl_9 rfl (pc := 140) (by decide +kernel)
              j_vret D rt_9))) (fun q7 h5 e1 =>
          j_tx (hx_9 _)))) (fun q D =>
      j_aldn (pc := 17) D rfl rfl rfl fun D =>
      j_gf (pc := 18) (a := x0.toNat) D rfl rfl (nz_cls H.2.1 hk (by decide)) rfl hk rfl fun D =>
      j_aldn (pc := 21) D rfl rfl rfl fun D =>
      j_gf (pc := 22) (a := x1.toNat) D rfl rfl (nz_cls H.2.1 kc1 (by decide)) rfl kc1 rfl fun D =>
      j_aldn (pc := 25) D rfl rfl rfl fun D =>
      j_gf (pc := 26) (a := x1.toNat) D rfl rfl (nz_cls H.2.1 kc1 (by decide)) rfl kc1 rfl fun D =>
      j_i2s (pc := 29) D rfl fun D =>
      j_asu (pc := 30) (e := 9) D rfl rfl ⟨rfl, rfl, rfl⟩ rfl gn gn (gy (fk_rgS _)) fun h14 eh14 S q q2 D =>
      have T := fj_hs_ok H.1 S
      have ht206 := fin_st H.1 T.2 hk (by decide) (by decide +kernel) ht206 (by decide)
      have hk := cls_st H.1 T.2 hk (by decide)
      have kc1 := cls_st H.1 T.2 kc1 (by decide)
      have H := shp_st H T
      j_vret D rt_9)
/-! 10 StatuteHouse$Sight.find(II)LStatuteHouse$Rule; -/
theorem cd_10 : fi_code 10 = prog_58_method_6_code := rfl
theorem hx_10 : ∀ pc, fi_hat 10 pc = none := fun pc => by unfold fi_hat; rw [show fi_hh 10 = [] from rfl]; rfl
theorem rt_10 : fj_ft (fi_ret 10) = 5 := rfl
theorem nl_10 : fi_nl 10 = 6 := rfl
theorem ow_10 : fi_ow 10 = 20 := rfl
theorem cl_10 : fj_cutT.getD 10 [] = [(10, [0, 1, 2, 3, 4]), (100, [0, 1, 2, 3, 4])] := rfl
theorem cut_10_10 : fj_cut 10 10 = some [0, 1, 2, 3, 4] := by decide +kernel
noncomputable def c_10_10 (d : Nat) (x0 x1 x2 x3 x4 : Int) (h : fi_H) : fk_R := gG (fj_run d) 10 10 [(0, (4, x0)), (1, (0, x1)), (2, (0, x2)), (3, (0, x3)), (4, (0, x4))] [] h
theorem cut_10_100 : fj_cut 10 100 = some [0, 1, 2, 3, 4] := by decide +kernel
noncomputable def c_10_100 (d : Nat) (x0 x1 x2 x3 x4 : Int) (h : fi_H) : fk_R := gG (fj_run d) 10 100 [(0, (4, x0)), (1, (0, x1)), (2, (0, x2)), (3, (0, x3)), (4, (0, x4))] [] h
theorem e_10_10 (d : Nat) (x0 x1 x2 x3 x4 : Int) {h : fi_H} (H : Shp h) (hk : h 0 x0.toNat 0 = 120) (ht206 : h 206 x0.toNat 0 = 303) : c_10_10 d x0 x1 x2 x3 x4 h =
  if x4 < x3 then
    some (.inl (some (4, 0)), h)
  else
    if (20 ≤ h 0 (h 199 x0.toNat 0).toNat 0 ∧ h 0 (h 199 x0.toNat 0).toNat 0 < 30) ∧ 0 ≤ iq_ (wI (x3 + x4)) 2 ∧ iq_ (wI (x3 + x4)) 2 < h 1 (h 199 x0.toNat 0).toNat 0 then
    if h 0 (h 12 (h 199 x0.toNat 0).toNat (iq_ (wI (x3 + x4)) 2).toNat).toNat 0 = 126 then
    if h 372 (h 12 (h 199 x0.toNat 0).toNat (iq_ (wI (x3 + x4)) 2).toNat).toNat 0 = x1 then
      if (20 ≤ h 0 (h 199 x0.toNat 0).toNat 0 ∧ h 0 (h 199 x0.toNat 0).toNat 0 < 30) ∧ 0 ≤ iq_ (wI (x3 + x4)) 2 ∧ iq_ (wI (x3 + x4)) 2 < h 1 (h 199 x0.toNat 0).toNat 0 then
      if fk_isA (h 0 (h 374 (h 12 (h 199 x0.toNat 0).toNat (iq_ (wI (x3 + x4)) 2).toNat).toNat 0).toNat 0) = true then
      if h 1 (h 374 (h 12 (h 199 x0.toNat 0).toNat (iq_ (wI (x3 + x4)) 2).toNat).toNat 0).toNat 0 < x2 then
        some (.inl (some (4, 0)), h)
      else
        if (20 ≤ h 0 (h 199 x0.toNat 0).toNat 0 ∧ h 0 (h 199 x0.toNat 0).toNat 0 < 30) ∧ 0 ≤ iq_ (wI (x3 + x4)) 2 ∧ iq_ (wI (x3 + x4)) 2 < h 1 (h 199 x0.toNat 0).toNat 0 then
        if (20 ≤ h 0 (h 374 (h 12 (h 199 x0.toNat 0).toNat (iq_ (wI (x3 + x4)) 2).toNat).toNat 0).toNat 0 ∧ h 0 (h 374 (h 12 (h 199 x0.toNat 0).toNat (iq_ (wI (x3 + x4)) 2).toNat).toNat 0).toNat 0 < 30) ∧ 0 ≤ wI (x2 - 1) ∧ wI (x2 - 1) < h 1 (h 374 (h 12 (h 199 x0.toNat 0).toNat (iq_ (wI (x3 + x4)) 2).toNat).toNat 0).toNat 0 then
        some (.inl (some (4, h 12 (h 374 (h 12 (h 199 x0.toNat 0).toNat (iq_ (wI (x3 + x4)) 2).toNat).toNat 0).toNat (wI (x2 - 1)).toNat)), h)
        else none
        else none
      else none
      else none
    else
      if (20 ≤ h 0 (h 199 x0.toNat 0).toNat 0 ∧ h 0 (h 199 x0.toNat 0).toNat 0 < 30) ∧ 0 ≤ iq_ (wI (x3 + x4)) 2 ∧ iq_ (wI (x3 + x4)) 2 < h 1 (h 199 x0.toNat 0).toNat 0 then
      if h 372 (h 12 (h 199 x0.toNat 0).toNat (iq_ (wI (x3 + x4)) 2).toNat).toNat 0 < x1 then
        c_10_100 d x0 x1 x2 (wI ((iq_ (wI (x3 + x4)) 2) + 1)) x4 h
      else
        c_10_100 d x0 x1 x2 x3 (wI ((iq_ (wI (x3 + x4)) 2) - 1)) h
      else none
    else none
    else none := by
  unfold c_10_10
  exact
    have D : fk_D 10 [(10, some [0, 1, 2, 3, 4], .iload_n 3, 1, 0, 0, 0), (11, none, .iload 4, 2, 0, 0, 0), (13, none, .if_icmp .gt 90, 3, 103, 0, 0), (16, none, .iload_n 3, 1, 0, 0, 0), (17, none, .iload 4, 2, 0, 0, 0), (19, none, .iadd, 1, 0, 0, 0), (20, none, .iconst 2, 1, 0, 2, 0), (21, none, .idiv, 1, 0, 0, 0), (22, none, .istore 5, 2, 0, 0, 0), (24, none, .aload_n 0, 1, 0, 0, 0), (25, none, .getfield 21, 3, 199, 120, 12), (28, none, .iload 5, 2, 0, 0, 0), (30, none, .aaload, 1, 0, 0, 0), (31, none, .getfield 76, 3, 372, (-126), 10), (34, none, .iload_n 1, 1, 0, 0, 0), (35, none, .if_icmp .ne 37, 3, 72, 0, 0), (38, none, .iload_n 2, 1, 0, 0, 0), (39, none, .aload_n 0, 1, 0, 0, 0), (40, none, .getfield 21, 3, 199, 120, 12), (43, none, .iload 5, 2, 0, 0, 0)] := fq_of2 cd_10 ow_10 cl_10 rfl (pc := 10) (by decide +kernel)
    j_ildn (pc := 10) D rfl rfl rfl fun D =>
    j_ild (pc := 11) D rfl rfl rfl fun D =>
    j_igt (pc := 13) D rfl (fun q =>
      have D : fk_D 10 [(103, none, .aconst_null, 1, 0, 0, 0), (104, none, .areturn, 1, 0, 0, 0)] := fq_of2 cd_10 ow_10 cl_10 rfl (pc := 103) (by decide +kernel)
      j_c0 (pc := 103) (v := (4, 0)) D rfl rfl (by decide +kernel) fun D =>
      j_aret D rt_10) (fun q D =>
      j_ildn (pc := 16) D rfl rfl rfl fun D =>
      j_ild (pc := 17) D rfl rfl rfl fun D =>
      j_iadd (pc := 19) D rfl fun D =>
      j_ic (pc := 20) D rfl fun D =>
      j_idivk (pc := 21) D rfl (by decide) fun D =>
      j_ist (pc := 22) (L' := [(5, (0, iq_ (wI (x3 + x4)) 2)), (0, (4, x0)), (1, (0, x1)), (2, (0, x2)), (3, (0, x3)), (4, (0, x4))]) D rfl nl_10 rfl rfl fun D =>
      j_aldn (pc := 24) D rfl rfl rfl fun D =>
      j_gf (pc := 25) (a := x0.toNat) D rfl rfl (nz_cls H.2.1 hk (by decide)) rfl hk rfl fun D =>
      j_ild (pc := 28) D rfl rfl rfl fun D =>
      j_alr (pc := 30) H.2.1 D rfl rfl fun q q2 D =>
      j_gfo (pc := 31) H.2.1 D rfl rfl rfl rfl fun kc1 D =>
      j_ildn (pc := 34) D rfl rfl rfl fun D =>
      j_ine (pc := 35) D rfl (fun q D =>
        j_ildn (pc := 38) D rfl rfl rfl fun D =>
        j_aldn (pc := 39) D rfl rfl rfl fun D =>
        j_gf (pc := 40) (a := x0.toNat) D rfl rfl (nz_cls H.2.1 hk (by decide)) rfl hk rfl fun D =>
        j_ild (pc := 43) D rfl rfl rfl fun D =>
        have D : fk_D 10 [(45, none, .aaload, 1, 0, 0, 0), (46, none, .getfield 108, 3, 374, 126, 12), (49, none, .arraylength, 1, 0, 0, 0), (50, none, .if_icmp .gt 20, 3, 70, 0, 0), (53, none, .aload_n 0, 1, 0, 0, 0), (54, none, .getfield 21, 3, 199, 120, 12), (57, none, .iload 5, 2, 0, 0, 0), (59, none, .aaload, 1, 0, 0, 0), (60, none, .getfield 108, 3, 374, 126, 12), (63, none, .iload_n 2, 1, 0, 0, 0), (64, none, .iconst 1, 1, 0, 1, 0), (65, none, .isub, 1, 0, 0, 0), (66, none, .aaload, 1, 0, 0, 0), (67, none, .goto 4, 3, 71, 0, 0)] := fq_of2 cd_10 ow_10 cl_10 rfl (pc := 45) (by decide +kernel)
        j_alr (pc := 45) H.2.1 D rfl rfl fun q q2 D =>
        j_gf (pc := 46) (a := (h 12 (h 199 x0.toNat 0).toNat (iq_ (wI (x3 + x4)) 2).toNat).toNat) D rfl rfl (nz_cls H.2.1 kc1 (by decide)) rfl kc1 rfl fun D =>
        j_lenu (pc := 49) H.2.1 D rfl fun q D =>
        j_igt (pc := 50) D rfl (fun q =>
          have D : fk_D 10 [(70, none, .aconst_null, 1, 0, 0, 0), (71, none, .areturn, 1, 0, 0, 0)] := fq_of2 cd_10 ow_10 cl_10 rfl (pc := 70) (by decide +kernel)
          j_c0 (pc := 70) (v := (4, 0)) D rfl rfl (by decide +kernel) fun D =>
          j_aret D rt_10) (fun q D =>
          j_aldn (pc := 53) D rfl rfl rfl fun D =>
          j_gf (pc := 54) (a := x0.toNat) D rfl rfl (nz_cls H.2.1 hk (by decide)) rfl hk rfl fun D =>
          j_ild (pc := 57) D rfl rfl rfl fun D =>
          j_alr (pc := 59) H.2.1 D rfl rfl fun q q2 D =>
          j_gf (pc := 60) (a := (h 12 (h 199 x0.toNat 0).toNat (iq_ (wI (x3 + x4)) 2).toNat).toNat) D rfl rfl (nz_cls H.2.1 kc1 (by decide)) rfl kc1 rfl fun D =>
          j_ildn (pc := 63) D rfl rfl rfl fun D =>
          j_ic (pc := 64) D rfl fun D =>
          j_isub (pc := 65) D rfl fun D =>
          j_alr (pc := 66) H.2.1 D rfl rfl fun q q2 D =>
          j_goto (pc := 67) D rfl <|
          have D : fk_D 10 [(71, none, .areturn, 1, 0, 0, 0)] := fq_of2 cd_10 ow_10 cl_10 rfl (pc := 71) (by decide +kernel)
          j_aret D rt_10)) (fun q =>
        have D : fk_D 10 [(72, none, .aload_n 0, 1, 0, 0, 0), (73, none, .getfield 21, 3, 199, 120, 12), (76, none, .iload 5, 2, 0, 0, 0), (78, none, .aaload, 1, 0, 0, 0), (79, none, .getfield 76, 3, 372, 126, 10), (82, none, .iload_n 1, 1, 0, 0, 0), (83, none, .if_icmp .ge 11, 3, 94, 0, 0), (86, none, .iload 5, 2, 0, 0, 0), (88, none, .iconst 1, 1, 0, 1, 0), (89, none, .iadd, 1, 0, 0, 0), (90, none, .istore_n 3, 1, 0, 0, 0), (91, none, .goto 9, 3, 100, 0, 0)] := fq_of2 cd_10 ow_10 cl_10 rfl (pc := 72) (by decide +kernel)
        j_aldn (pc := 72) D rfl rfl rfl fun D =>
        j_gf (pc := 73) (a := x0.toNat) D rfl rfl (nz_cls H.2.1 hk (by decide)) rfl hk rfl fun D =>
        j_ild (pc := 76) D rfl rfl rfl fun D =>
        j_alr (pc := 78) H.2.1 D rfl rfl fun q q2 D =>
        j_gf (pc := 79) (a := (h 12 (h 199 x0.toNat 0).toNat (iq_ (wI (x3 + x4)) 2).toNat).toNat) D rfl rfl (nz_cls H.2.1 kc1 (by decide)) rfl kc1 rfl fun D =>
        j_ildn (pc := 82) D rfl rfl rfl fun D =>
        j_ige (pc := 83) D rfl (fun q D =>
          j_ild (pc := 86) D rfl rfl rfl fun D =>
          j_ic (pc := 88) D rfl fun D =>
          j_iadd (pc := 89) D rfl fun D =>
          j_istn (pc := 90) (L' := [(3, (0, wI ((iq_ (wI (x3 + x4)) 2) + 1))), (5, (0, iq_ (wI (x3 + x4)) 2)), (0, (4, x0)), (1, (0, x1)), (2, (0, x2)), (4, (0, x4))]) D rfl nl_10 rfl rfl fun D =>
          j_goto (pc := 91) D rfl <|
          fk_jump cut_10_100 rfl rfl) (fun q =>
          have D : fk_D 10 [(94, none, .iload 5, 2, 0, 0, 0), (96, none, .iconst 1, 1, 0, 1, 0), (97, none, .isub, 1, 0, 0, 0), (98, none, .istore 4, 2, 0, 0, 0)] := fq_of2 cd_10 ow_10 cl_10 rfl (pc := 94) (by decide +kernel)
          j_ild (pc := 94) D rfl rfl rfl fun D =>
          j_ic (pc := 96) D rfl fun D =>
          j_isub (pc := 97) D rfl fun D =>
          j_ist (pc := 98) (L' := [(4, (0, wI ((iq_ (wI (x3 + x4)) 2) - 1))), (5, (0, iq_ (wI (x3 + x4)) 2)), (0, (4, x0)), (1, (0, x1)), (2, (0, x2)), (3, (0, x3))]) D rfl nl_10 rfl rfl fun D =>
          fk_jump cut_10_100 rfl rfl)))
theorem e_10_100 (d : Nat) (x0 x1 x2 x3 x4 : Int) {h : fi_H} (H : Shp h) (hk : h 0 x0.toNat 0 = 120) (ht206 : h 206 x0.toNat 0 = 303) : c_10_100 d x0 x1 x2 x3 x4 h =
  c_10_10 d x0 x1 x2 x3 x4 h := by
  unfold c_10_100
  exact
    have D : fk_D 10 [(100, some [0, 1, 2, 3, 4], .goto (-90), 3, 10, 0, 0)] := fq_of2 cd_10 ow_10 cl_10 rfl (pc := 100) (by decide +kernel)
    j_goto (pc := 100) D rfl <|
    fk_jump cut_10_10 rfl rfl
theorem m_10 (d : Nat) (x0 x1 x2 : Int) {h : fi_H} (H : Shp h) (hk : h 0 x0.toNat 0 = 120) (ht206 : h 206 x0.toNat 0 = 303) : fj_run (d + 1) 10 h [(4, x0), (0, x1), (0, x2)] =
  c_10_10 d x0 x1 x2 0 (wI ((h 198 x0.toNat 0) - 1)) h := by
  rw [fj_run_eq d (by decide) h [(4, x0), (0, x1), (0, x2)] (Nat.le_of_ble_eq_true (by rw [nl_10]; rfl))]
  show gG (fj_run d) 10 0 [(0, (4, x0)), (1, (0, x1)), (2, (0, x2))] [] h = _
  exact
    have D : fk_D 10 [(0, none, .iconst 0, 1, 0, 0, 0), (1, none, .istore_n 3, 1, 0, 0, 0), (2, none, .aload_n 0, 1, 0, 0, 0), (3, none, .getfield 64, 3, 198, 120, 10), (6, none, .iconst 1, 1, 0, 1, 0), (7, none, .isub, 1, 0, 0, 0), (8, none, .istore 4, 2, 0, 0, 0)] := fq_of2 cd_10 ow_10 cl_10 rfl (pc := 0) (by decide +kernel)
    j_ic (pc := 0) D rfl fun D =>
    j_istn (pc := 1) (L' := [(3, (0, 0)), (0, (4, x0)), (1, (0, x1)), (2, (0, x2))]) D rfl nl_10 rfl rfl fun D =>
    j_aldn (pc := 2) D rfl rfl rfl fun D =>
    j_gf (pc := 3) (a := x0.toNat) D rfl rfl (nz_cls H.2.1 hk (by decide)) rfl hk rfl fun D =>
    j_ic (pc := 6) D rfl fun D =>
    j_isub (pc := 7) D rfl fun D =>
    j_ist (pc := 8) (L' := [(4, (0, wI ((h 198 x0.toNat 0) - 1))), (3, (0, 0)), (0, (4, x0)), (1, (0, x1)), (2, (0, x2))]) D rfl nl_10 rfl rfl fun D =>
    fk_jump cut_10_10 rfl rfl
/-! 11 StatuteHouse$Pen.begin()V -/
theorem cd_11 : fi_code 11 = prog_51_method_2_code := rfl
theorem hx_11 : ∀ pc, fi_hat 11 pc = none := fun pc => by unfold fi_hat; rw [show fi_hh 11 = [] from rfl]; rfl
theorem rt_11 : fi_ret 11 = none := rfl
theorem nl_11 : fi_nl 11 = 1 := rfl
theorem ow_11 : fi_ow 11 = 13 := rfl
theorem cl_11 : fj_cutT.getD 11 [] = [] := rfl
theorem m_11 (d : Nat) (x0 : Int) {h : fi_H} (H : Shp h) (hk : h 0 x0.toNat 0 = 113) : fj_run (d + 1) 11 h [(4, x0)] =
  if 302 < x0 then
  lt_ (fi_upd h 185 x0.toNat 0 0) fun h1 =>
  if 302 < x0 then
  lt_ (fi_upd h1 186 x0.toNat 0 0) fun h2 =>
  some (.inl none, h2)
  else none
  else none := by
  rw [fj_run_eq d (by decide) h [(4, x0)] (Nat.le_of_ble_eq_true (by rw [nl_11]; rfl))]
  show gG (fj_run d) 11 0 [(0, (4, x0))] [] h = _
  exact
    have D : fk_D 11 [(0, none, .aload_n 0, 1, 0, 0, 0), (1, none, .iconst 0, 1, 0, 0, 0), (2, none, .putfield 22, 3, 185, 113, 10), (5, none, .aload_n 0, 1, 0, 0, 0), (6, none, .iconst 0, 1, 0, 0, 0), (7, none, .putfield 26, 3, 186, 113, 4), (10, none, .return_, 1, 0, 0, 0)] := fq_of2 cd_11 ow_11 cl_11 rfl (pc := 0) (by decide +kernel)
    j_aldn (pc := 0) D rfl rfl rfl fun D =>
    j_ic (pc := 1) D rfl fun D =>
    j_pf (pc := 2) (a := x0.toNat) D rfl rfl rfl hk rfl rfl gn (gy rfl) fun h1 eh1 S D =>
    have T := fj_hs_ok H.1 S
    have hk := cls_st H.1 T.2 hk (by decide)
    have H := shp_st H T
    j_aldn (pc := 5) D rfl rfl rfl fun D =>
    j_ic (pc := 6) D rfl fun D =>
    j_pf (pc := 7) (a := x0.toNat) D rfl rfl rfl hk rfl rfl gn (gy (by decide)) fun h2 eh2 S D =>
    have T := fj_hs_ok H.1 S
    have hk := cls_st H.1 T.2 hk (by decide)
    have H := shp_st H T
    j_vret D rt_11
/-! 12 StatuteHouse$Sight.iterator()Ljava/util/Iterator; -/
theorem cd_12 : fi_code 12 = prog_58_method_7_code := rfl
theorem hx_12 : ∀ pc, fi_hat 12 pc = none := fun pc => by unfold fi_hat; rw [show fi_hh 12 = [] from rfl]; rfl
theorem rt_12 : fj_ft (fi_ret 12) = 5 := rfl
theorem nl_12 : fi_nl 12 = 1 := rfl
theorem ow_12 : fi_ow 12 = 20 := rfl
theorem cl_12 : fj_cutT.getD 12 [] = [] := rfl
theorem m_12 (d : Nat) (x0 : Int) {h : fi_H} (H : Shp h) (hk : h 0 x0.toNat 0 = 120) (ht206 : h 206 x0.toNat 0 = 303) : fj_run (d + 1) 12 h [(4, x0)] =
  nw_ h 121 2 0 fun r1 h2 =>
  cv_ (fj_run d 13 h2 [(4, r1), (4, x0)])
    (fun h3 =>
    some (.inl (some (4, r1)), h3))
    (fun q5 h3 => tx_ q5 h3) := by
  rw [fj_run_eq d (by decide) h [(4, x0)] (Nat.le_of_ble_eq_true (by rw [nl_12]; rfl))]
  show gG (fj_run d) 12 0 [(0, (4, x0))] [] h = _
  exact
    have D : fk_D 12 [(0, none, .new 149, 3, 121, 2, 0), (3, none, .dup, 1, 0, 0, 0), (4, none, .aload_n 0, 1, 0, 0, 0), (5, none, .invokespecial 151, 3, 1, 13, 0), (8, none, .areturn, 1, 0, 0, 0)] := fq_of2 cd_12 ow_12 cl_12 rfl (pc := 0) (by decide +kernel)
    j_new (pc := 0) D rfl fun r1 h2 er eh2 S D =>
    have gt_r1 := nw_gt H.1 er
    have kc_r1 := nw_cls H.1 er eh2
    have T := fj_hs_ok H.1 S
    have ht206 := fin_st H.1 T.2 hk (by decide) (by decide +kernel) ht206 (by decide)
    have hk := cls_st H.1 T.2 hk (by decide)
    have H := shp_st H T
    j_sh (pc := 3) D rfl rfl rfl fun D =>
    j_aldn (pc := 4) D rfl rfl rfl fun D =>
    j_spv (pc := 5) (m := 13) (a := [(4, x0)]) (rest := [(4, r1)]) D rfl rfl rfl rfl (by rw [show h2 0 r1.toNat 0 = 121 from kc_r1]; decide) (gt_nz gt_r1) (fun h3 e1 D =>
      have T := fj_run_ok _ _ _ _ _ _ H.1 e1
      have ht206 := fin_st H.1 T.2 hk (by decide) (by decide +kernel) ht206 (by decide)
      have hk := cls_st H.1 T.2 hk (by decide)
      have kc_r1 := cls_st H.1 T.2 kc_r1 (by decide)
      have H := shp_st H T
      j_aret D rt_12) (fun q5 h3 e1 =>
      j_tx (hx_12 _))
/-! 13 StatuteHouse$Sight$1.<init>(LStatuteHouse$Sight;)V -/
theorem cd_13 : fi_code 13 = prog_59_method_1_code := rfl
theorem hx_13 : ∀ pc, fi_hat 13 pc = none := fun pc => by unfold fi_hat; rw [show fi_hh 13 = [] from rfl]; rfl
theorem rt_13 : fi_ret 13 = none := rfl
theorem nl_13 : fi_nl 13 = 2 := rfl
theorem ow_13 : fi_ow 13 = 21 := rfl
theorem cl_13 : fj_cutT.getD 13 [] = [] := rfl
theorem m_13 (d : Nat) (x0 x1 : Int) {h : fi_H} (H : Shp h) (hk : h 0 x0.toNat 0 = 121) : fj_run (d + 1) 13 h [(4, x0), (4, x1)] =
  if 302 < x0 then
  if h 101 x0.toNat 0 = 0 then
  lt_ (fi_upd h 101 x0.toNat 0 x1) fun h1 =>
  cv_ (fj_run d 1009 h1 [(4, x0)])
    (fun h2 =>
    some (.inl none, h2))
    (fun q4 h2 => tx_ q4 h2)
  else none
  else none := by
  rw [fj_run_eq d (by decide) h [(4, x0), (4, x1)] (Nat.le_of_ble_eq_true (by rw [nl_13]; rfl))]
  show gG (fj_run d) 13 0 [(0, (4, x0)), (1, (4, x1))] [] h = _
  exact
    have D : fk_D 13 [(0, none, .aload_n 0, 1, 0, 0, 0), (1, none, .aload_n 1, 1, 0, 0, 0), (2, none, .putfield 1, 3, 101, 121, 112), (5, none, .aload_n 0, 1, 0, 0, 0), (6, none, .invokespecial 7, 3, 0, 1009, 0), (9, none, .return_, 1, 0, 0, 0)] := fq_of2 cd_13 ow_13 cl_13 rfl (pc := 0) (by decide +kernel)
    j_aldn (pc := 0) D rfl rfl rfl fun D =>
    j_aldn (pc := 1) D rfl rfl rfl fun D =>
    j_pfF (pc := 2) (a := x0.toNat) (ty := 12) D rfl rfl rfl hk ⟨rfl, rfl⟩ rfl gn (gy rfl) gn fun h1 eh1 S D =>
    have T := fj_hs_ok H.1 S
    have hk := cls_st H.1 T.2 hk (by decide)
    have H := shp_st H T
    j_aldn (pc := 5) D rfl rfl rfl fun D =>
    j_spv (pc := 6) (m := 1009) (a := []) (rest := []) D rfl rfl rfl rfl (by rw [show h1 0 x0.toNat 0 = 121 from hk]; decide) (nz_cls H.2.1 hk (by decide)) (fun h2 e1 D =>
      have T := fj_run_ok _ _ _ _ _ _ H.1 e1
      have hk := cls_st H.1 T.2 hk (by decide)
      have H := shp_st H T
      j_vret D rt_13) (fun q4 h2 e1 =>
      j_tx (hx_13 _))
/-! 14 StatuteHouse$Sight$1.hasNext()Z -/
theorem cd_14 : fi_code 14 = prog_59_method_2_code := rfl
theorem hx_14 : ∀ pc, fi_hat 14 pc = none := fun pc => by unfold fi_hat; rw [show fi_hh 14 = [] from rfl]; rfl
theorem rt_14 : fi_ret 14 = some .boolean := rfl
theorem nl_14 : fi_nl 14 = 1 := rfl
theorem ow_14 : fi_ow 14 = 21 := rfl
theorem cl_14 : fj_cutT.getD 14 [] = [] := rfl
theorem m_14 (d : Nat) (x0 : Int) {h : fi_H} (H : Shp h) (hk : h 0 x0.toNat 0 = 121) : fj_run (d + 1) 14 h [(4, x0)] =
  if h 0 (h 101 x0.toNat 0).toNat 0 = 120 then
  if h 100 x0.toNat 0 < h 198 (h 101 x0.toNat 0).toNat 0 then
    some (.inl (some (0, 1)), h)
  else
    some (.inl (some (0, 0)), h)
  else none := by
  rw [fj_run_eq d (by decide) h [(4, x0)] (Nat.le_of_ble_eq_true (by rw [nl_14]; rfl))]
  show gG (fj_run d) 14 0 [(0, (4, x0))] [] h = _
  exact
    have D : fk_D 14 [(0, none, .aload_n 0, 1, 0, 0, 0), (1, none, .getfield 13, 3, 100, 121, 10), (4, none, .aload_n 0, 1, 0, 0, 0), (5, none, .getfield 1, 3, 101, 121, 12), (8, none, .getfield 17, 3, 198, (-120), 10), (11, none, .if_icmp .ge 7, 3, 18, 0, 0), (14, none, .iconst 1, 1, 0, 1, 0), (15, none, .goto 4, 3, 19, 0, 0)] := fq_of2 cd_14 ow_14 cl_14 rfl (pc := 0) (by decide +kernel)
    j_aldn (pc := 0) D rfl rfl rfl fun D =>
    j_gf (pc := 1) (a := x0.toNat) D rfl rfl (nz_cls H.2.1 hk (by decide)) rfl hk rfl fun D =>
    j_aldn (pc := 4) D rfl rfl rfl fun D =>
    j_gf (pc := 5) (a := x0.toNat) D rfl rfl (nz_cls H.2.1 hk (by decide)) rfl hk rfl fun D =>
    j_gfo (pc := 8) H.2.1 D rfl rfl rfl rfl fun kc1 D =>
    j_ige (pc := 11) D rfl (fun q D =>
      j_ic (pc := 14) D rfl fun D =>
      j_goto (pc := 15) D rfl <|
      have D : fk_D 14 [(19, none, .ireturn, 1, 0, 0, 0)] := fq_of2 cd_14 ow_14 cl_14 rfl (pc := 19) (by decide +kernel)
      j_zret D rt_14 (gy (by decide))) (fun q =>
      have D : fk_D 14 [(18, none, .iconst 0, 1, 0, 0, 0), (19, none, .ireturn, 1, 0, 0, 0)] := fq_of2 cd_14 ow_14 cl_14 rfl (pc := 18) (by decide +kernel)
      j_ic (pc := 18) D rfl fun D =>
      j_zret D rt_14 (gy (by decide)))
/-! 15 StatuteHouse$Sight$1.next()Ljava/lang/Object; -/
theorem cd_15 : fi_code 15 = prog_59_method_4_code := rfl
theorem hx_15 : ∀ pc, fi_hat 15 pc = none := fun pc => by unfold fi_hat; rw [show fi_hh 15 = [] from rfl]; rfl
theorem rt_15 : fj_ft (fi_ret 15) = 5 := rfl
theorem nl_15 : fi_nl 15 = 1 := rfl
theorem ow_15 : fi_ow 15 = 21 := rfl
theorem cl_15 : fj_cutT.getD 15 [] = [] := rfl
theorem m_15 (d : Nat) (x0 : Int) {h : fi_H} (H : Shp h) (hk : h 0 x0.toNat 0 = 121) : fj_run (d + 1) 15 h [(4, x0)] =
  ca_ (fj_run d 16 h [(4, x0)]) 4
    (fun v2 h1 =>
    some (.inl (some (4, v2)), h1))
    (fun q3 h1 => tx_ q3 h1) := by
  rw [fj_run_eq d (by decide) h [(4, x0)] (Nat.le_of_ble_eq_true (by rw [nl_15]; rfl))]
  show gG (fj_run d) 15 0 [(0, (4, x0))] [] h = _
  exact
    have D : fk_D 15 [(0, none, .aload_n 0, 1, 0, 0, 0), (1, none, .invokevirtual 26, 3, 0, 204, 5), (4, none, .areturn, 1, 0, 0, 0)] := fq_of2 cd_15 ow_15 cl_15 rfl (pc := 0) (by decide +kernel)
    j_aldn (pc := 0) D rfl rfl rfl fun D =>
    j_iv (pc := 1) (m := 16) (dd := 204) (a := []) (rest := []) D rfl rfl rfl rfl rfl (nz_cls H.2.1 hk (by decide)) hk (by decide +kernel) (fun v2 h1 e1 D =>
      have T := fj_run_ok _ _ _ _ _ _ H.1 e1
      have hk := cls_st H.1 T.2 hk (by decide)
      have H := shp_st H T
      j_aret D rt_15) (fun q3 h1 e1 =>
      j_tx (hx_15 _))
/-! 16 StatuteHouse$Sight$1.next()LStatuteHouse$Version; -/
theorem cd_16 : fi_code 16 = prog_59_method_3_code := rfl
theorem hx_16 : ∀ pc, fi_hat 16 pc = none := fun pc => by unfold fi_hat; rw [show fi_hh 16 = [] from rfl]; rfl
theorem rt_16 : fj_ft (fi_ret 16) = 5 := rfl
theorem nl_16 : fi_nl 16 = 1 := rfl
theorem ow_16 : fi_ow 16 = 21 := rfl
theorem cl_16 : fj_cutT.getD 16 [] = [] := rfl
theorem m_16 (d : Nat) (x0 : Int) {h : fi_H} (H : Shp h) (hk : h 0 x0.toNat 0 = 121) : fj_run (d + 1) 16 h [(4, x0)] =
  if 302 < x0 then
  lt_ (fi_upd h 100 x0.toNat 0 (wI ((h 100 x0.toNat 0) + 1))) fun h1 =>
  if h1 0 (h1 101 x0.toNat 0).toNat 0 = 120 then
  if (20 ≤ h1 0 (h1 199 (h1 101 x0.toNat 0).toNat 0).toNat 0 ∧ h1 0 (h1 199 (h1 101 x0.toNat 0).toNat 0).toNat 0 < 30) ∧ 0 ≤ wI ((h1 100 x0.toNat 0) - 1) ∧ wI ((h1 100 x0.toNat 0) - 1) < h1 1 (h1 199 (h1 101 x0.toNat 0).toNat 0).toNat 0 then
  some (.inl (some (4, h1 12 (h1 199 (h1 101 x0.toNat 0).toNat 0).toNat (wI ((h1 100 x0.toNat 0) - 1)).toNat)), h1)
  else none
  else none
  else none := by
  rw [fj_run_eq d (by decide) h [(4, x0)] (Nat.le_of_ble_eq_true (by rw [nl_16]; rfl))]
  show gG (fj_run d) 16 0 [(0, (4, x0))] [] h = _
  exact
    have D : fk_D 16 [(0, none, .aload_n 0, 1, 0, 0, 0), (1, none, .dup, 1, 0, 0, 0), (2, none, .getfield 13, 3, 100, 121, 10), (5, none, .iconst 1, 1, 0, 1, 0), (6, none, .iadd, 1, 0, 0, 0), (7, none, .putfield 13, 3, 100, 121, 10), (10, none, .aload_n 0, 1, 0, 0, 0), (11, none, .getfield 1, 3, 101, 121, 12), (14, none, .getfield 22, 3, 199, (-120), 12), (17, none, .aload_n 0, 1, 0, 0, 0), (18, none, .getfield 13, 3, 100, 121, 10), (21, none, .iconst 1, 1, 0, 1, 0), (22, none, .isub, 1, 0, 0, 0), (23, none, .aaload, 1, 0, 0, 0), (24, none, .areturn, 1, 0, 0, 0)] := fq_of2 cd_16 ow_16 cl_16 rfl (pc := 0) (by decide +kernel)
    j_aldn (pc := 0) D rfl rfl rfl fun D =>
    j_sh (pc := 1) D rfl rfl rfl fun D =>
    j_gf (pc := 2) (a := x0.toNat) D rfl rfl (nz_cls H.2.1 hk (by decide)) rfl hk rfl fun D =>
    j_ic (pc := 5) D rfl fun D =>
    j_iadd (pc := 6) D rfl fun D =>
    j_pf (pc := 7) (a := x0.toNat) D rfl rfl rfl hk rfl rfl gn (gy rfl) fun h1 eh1 S D =>
    have T := fj_hs_ok H.1 S
    have hk := cls_st H.1 T.2 hk (by decide)
    have H := shp_st H T
    j_aldn (pc := 10) D rfl rfl rfl fun D =>
    j_gf (pc := 11) (a := x0.toNat) D rfl rfl (nz_cls H.2.1 hk (by decide)) rfl hk rfl fun D =>
    j_gfo (pc := 14) H.2.1 D rfl rfl rfl rfl fun kc2 D =>
    j_aldn (pc := 17) D rfl rfl rfl fun D =>
    j_gf (pc := 18) (a := x0.toNat) D rfl rfl (nz_cls H.2.1 hk (by decide)) rfl hk rfl fun D =>
    j_ic (pc := 21) D rfl fun D =>
    j_isub (pc := 22) D rfl fun D =>
    j_alr (pc := 23) H.2.1 D rfl rfl fun q q2 D =>
    j_aret D rt_16
/-! 17 StatuteHouse$Pen.word(Ljava/lang/String;)V -/
theorem cd_17 : fi_code 17 = prog_51_method_4_code := rfl
theorem hx_17 : ∀ pc, fi_hat 17 pc = none := fun pc => by unfold fi_hat; rw [show fi_hh 17 = [] from rfl]; rfl
theorem rt_17 : fi_ret 17 = none := rfl
theorem nl_17 : fi_nl 17 = 3 := rfl
theorem ow_17 : fi_ow 17 = 13 := rfl
theorem cl_17 : fj_cutT.getD 17 [] = [(2, [0, 1, 2])] := rfl
theorem cut_17_2 : fj_cut 17 2 = some [0, 1, 2] := by decide +kernel
noncomputable def c_17_2 (d : Nat) (x0 x1 x2 : Int) (h : fi_H) : fk_R := gG (fj_run d) 17 2 [(0, (4, x0)), (1, (4, x1)), (2, (0, x2))] [] h
theorem e_17_2 (d : Nat) (x0 x1 x2 : Int) {h : fi_H} (H : Shp h) (hk : h 0 x0.toNat 0 = 113) : c_17_2 d x0 x1 x2 h =
  dv_ (fi_vt 174 (h 0 x1.toNat 0)) fun m4 => ca_ (fj_run d m4 h [(4, x1)]) 0
    (fun v2 h1 =>
    if x2 < v2 then
      dv_ (fi_vt 175 (h1 0 x1.toNat 0)) fun m8 => ca_ (fj_run d m8 h1 [(4, x1), (0, x2)]) 0
        (fun v6 h5 =>
        cv_ (fj_run d 29 h5 [(4, x0), (0, v6)])
          (fun h9 =>
          c_17_2 d x0 x1 (wI (x2 + 1)) h9)
          (fun q11 h9 => tx_ q11 h9))
        (fun q7 h5 => tx_ q7 h5)
    else
      some (.inl none, h1))
    (fun q3 h1 => tx_ q3 h1) := by
  unfold c_17_2
  exact
    have D : fk_D 17 [(2, some [0, 1, 2], .iload_n 2, 1, 0, 0, 0), (3, none, .aload_n 1, 1, 0, 0, 0), (4, none, .invokevirtual 30, 3, 0, 174, 1), (7, none, .if_icmp .ge 18, 3, 25, 0, 0), (10, none, .aload_n 0, 1, 0, 0, 0), (11, none, .aload_n 1, 1, 0, 0, 0), (12, none, .iload_n 2, 1, 0, 0, 0), (13, none, .invokevirtual 36, 3, 1, 175, 1), (16, none, .invokevirtual 40, 3, 1, 139, 0), (19, none, .iinc 2 1, 3, 0, 1, 0), (22, none, .goto (-20), 3, 2, 0, 0)] := fq_of2 cd_17 ow_17 cl_17 rfl (pc := 2) (by decide +kernel)
    j_ildn (pc := 2) D rfl rfl rfl fun D =>
    j_aldn (pc := 3) D rfl rfl rfl fun D =>
    j_ivu (pc := 4) (dd := 174) (a := []) (rest := [(0, x2)]) H.2.1 D rfl rfl rfl rfl rfl (fun m4 v2 h1 e1 D =>
      have T := fj_run_ok _ _ _ _ _ _ H.1 e1
      have hk := cls_st H.1 T.2 hk (by decide)
      have H := shp_st H T
      j_ige (pc := 7) D rfl (fun q D =>
        j_aldn (pc := 10) D rfl rfl rfl fun D =>
        j_aldn (pc := 11) D rfl rfl rfl fun D =>
        j_ildn (pc := 12) D rfl rfl rfl fun D =>
        j_ivu (pc := 13) (dd := 175) (a := [(0, x2)]) (rest := [(4, x0)]) H.2.1 D rfl rfl rfl rfl rfl (fun m8 v6 h5 e1 D =>
          have T := fj_run_ok _ _ _ _ _ _ H.1 e1
          have hk := cls_st H.1 T.2 hk (by decide)
          have H := shp_st H T
          j_ivv (pc := 16) (m := 29) (dd := 139) (a := [(0, v6)]) (rest := []) D rfl rfl rfl rfl rfl (nz_cls H.2.1 hk (by decide)) hk (by decide +kernel) (fun h9 e1 D =>
            have T := fj_run_ok _ _ _ _ _ _ H.1 e1
            have hk := cls_st H.1 T.2 hk (by decide)
            have H := shp_st H T
            j_inc (pc := 19) (L' := [(2, (0, wI (x2 + 1))), (0, (4, x0)), (1, (4, x1))]) D rfl rfl rfl (by decide +kernel) rfl fun D =>
            j_goto (pc := 22) D rfl <|
            fk_jump cut_17_2 rfl rfl) (fun q11 h9 e1 =>
            j_tx (hx_17 _))) (fun m8 q7 h5 e1 =>
          j_tx (hx_17 _))) (fun q =>
        have D : fk_D 17 [(25, none, .return_, 1, 0, 0, 0)] := fq_of2 cd_17 ow_17 cl_17 rfl (pc := 25) (by decide +kernel)
        j_vret D rt_17)) (fun m4 q3 h1 e1 =>
      j_tx (hx_17 _))
theorem m_17 (d : Nat) (x0 x1 : Int) {h : fi_H} (H : Shp h) (hk : h 0 x0.toNat 0 = 113) : fj_run (d + 1) 17 h [(4, x0), (4, x1)] =
  c_17_2 d x0 x1 0 h := by
  rw [fj_run_eq d (by decide) h [(4, x0), (4, x1)] (Nat.le_of_ble_eq_true (by rw [nl_17]; rfl))]
  show gG (fj_run d) 17 0 [(0, (4, x0)), (1, (4, x1))] [] h = _
  exact
    have D : fk_D 17 [(0, none, .iconst 0, 1, 0, 0, 0), (1, none, .istore_n 2, 1, 0, 0, 0)] := fq_of2 cd_17 ow_17 cl_17 rfl (pc := 0) (by decide +kernel)
    j_ic (pc := 0) D rfl fun D =>
    j_istn (pc := 1) (L' := [(2, (0, 0)), (0, (4, x0)), (1, (4, x1))]) D rfl nl_17 rfl rfl fun D =>
    fk_jump cut_17_2 rfl rfl
/-! 18 java/lang/String.length()I -/
theorem cd_18 : fi_code 18 = prog_86_method_54_code := rfl
theorem hx_18 : ∀ pc, fi_hat 18 pc = none := fun pc => by unfold fi_hat; rw [show fi_hh 18 = [] from rfl]; rfl
theorem rt_18 : fi_ret 18 = some .int := rfl
theorem nl_18 : fi_nl 18 = 1 := rfl
theorem ow_18 : fi_ow 18 = 31 := rfl
theorem cl_18 : fj_cutT.getD 18 [] = [] := rfl
theorem m_18 (d : Nat) (x0 : Int) {h : fi_H} (H : Shp h) (hk : h 0 x0.toNat 0 = 131) : fj_run (d + 1) 18 h [(4, x0)] =
  if fk_isA (h 0 (h 317 x0.toNat 0).toNat 0) = true then
  ca_ (fj_run d 19 h [(4, x0)]) 0
    (fun v2 h1 =>
    some (.inl (some (0, sr_ (h 1 (h 317 x0.toNat 0).toNat 0) v2)), h1))
    (fun q3 h1 => tx_ q3 h1)
  else none := by
  rw [fj_run_eq d (by decide) h [(4, x0)] (Nat.le_of_ble_eq_true (by rw [nl_18]; rfl))]
  show gG (fj_run d) 18 0 [(0, (4, x0))] [] h = _
  exact
    have D : fk_D 18 [(0, none, .aload_n 0, 1, 0, 0, 0), (1, none, .getfield 9, 3, 317, 131, 12), (4, none, .arraylength, 1, 0, 0, 0), (5, none, .aload_n 0, 1, 0, 0, 0), (6, none, .invokevirtual 335, 3, 0, 205, 1), (9, none, .ishr, 1, 0, 0, 0), (10, none, .ireturn, 1, 0, 0, 0)] := fq_of2 cd_18 ow_18 cl_18 rfl (pc := 0) (by decide +kernel)
    j_aldn (pc := 0) D rfl rfl rfl fun D =>
    j_gf (pc := 1) (a := x0.toNat) D rfl rfl (nz_cls H.2.1 hk (by decide)) rfl hk rfl fun D =>
    j_lenu (pc := 4) H.2.1 D rfl fun q D =>
    j_aldn (pc := 5) D rfl rfl rfl fun D =>
    j_iv (pc := 6) (m := 19) (dd := 205) (a := []) (rest := [(0, h 1 (h 317 x0.toNat 0).toNat 0)]) D rfl rfl rfl rfl rfl (nz_cls H.2.1 hk (by decide)) hk (by decide +kernel) (fun v2 h1 e1 D =>
      have T := fj_run_ok _ _ _ _ _ _ H.1 e1
      have hk := cls_st H.1 T.2 hk (by decide)
      have H := shp_st H T
      j_ishr (pc := 9) D rfl fun D =>
      j_iret D rt_18) (fun q3 h1 e1 =>
      j_tx (hx_18 _))
/-! 19 java/lang/String.coder()B -/
theorem cd_19 : fi_code 19 = prog_86_method_152_code := rfl
theorem hx_19 : ∀ pc, fi_hat 19 pc = none := fun pc => by unfold fi_hat; rw [show fi_hh 19 = [] from rfl]; rfl
theorem rt_19 : fi_ret 19 = some .byte := rfl
theorem nl_19 : fi_nl 19 = 1 := rfl
theorem ow_19 : fi_ow 19 = 31 := rfl
theorem cl_19 : fj_cutT.getD 19 [] = [] := rfl
theorem m_19 (d : Nat) (x0 : Int) {h : fi_H} (H : Shp h) (hk : h 0 x0.toNat 0 = 131) : fj_run (d + 1) 19 h [(4, x0)] =
  if -128 ≤ h 318 x0.toNat 0 ∧ h 318 x0.toNat 0 < 128 then some (.inl (some (0, h 318 x0.toNat 0)), h) else none := by
  rw [fj_run_eq d (by decide) h [(4, x0)] (Nat.le_of_ble_eq_true (by rw [nl_19]; rfl))]
  show gG (fj_run d) 19 0 [(0, (4, x0))] [] h = _
  exact
    have D : fk_D 19 [(0, none, .getstatic 38, 3, 0, 1, 0), (3, none, .ifCond .eq 10, 3, 13, 0, 0)] := fq_of2 cd_19 ow_19 cl_19 rfl (pc := 0) (by decide +kernel)
    j_gs (pc := 0) D rfl fun D =>
    j_known (pc := 3) D rfl rfl (pc' := 6) (st' := []) (by rfl) <|
    have D : fk_D 19 [(6, none, .aload_n 0, 1, 0, 0, 0), (7, none, .getfield 15, 3, 318, 131, 8), (10, none, .goto 4, 3, 14, 0, 0)] := fq_of2 cd_19 ow_19 cl_19 rfl (pc := 6) (by decide +kernel)
    j_aldn (pc := 6) D rfl rfl rfl fun D =>
    j_gf (pc := 7) (a := x0.toNat) D rfl rfl (nz_cls H.2.1 hk (by decide)) rfl hk rfl fun D =>
    j_goto (pc := 10) D rfl <|
    have D : fk_D 19 [(14, none, .ireturn, 1, 0, 0, 0)] := fq_of2 cd_19 ow_19 cl_19 rfl (pc := 14) (by decide +kernel)
    j_bret D rt_19 gn
/-! 20 java/lang/String.charAt(I)C -/
theorem cd_20 : fi_code 20 = prog_86_method_56_code := rfl
theorem hx_20 : ∀ pc, fi_hat 20 pc = none := fun pc => by unfold fi_hat; rw [show fi_hh 20 = [] from rfl]; rfl
theorem rt_20 : fi_ret 20 = some .char := rfl
theorem nl_20 : fi_nl 20 = 2 := rfl
theorem ow_20 : fi_ow 20 = 31 := rfl
theorem cl_20 : fj_cutT.getD 20 [] = [] := rfl
theorem m_20 (d : Nat) (x0 x1 : Int) {h : fi_H} (H : Shp h) (hk : h 0 x0.toNat 0 = 131) : fj_run (d + 1) 20 h [(4, x0), (0, x1)] =
  ca_ (fj_run d 21 h [(4, x0)]) 0
    (fun v2 h1 =>
    if v2 = 0 then
      ca_ (fj_run d 25 h1 [(4, h1 317 x0.toNat 0), (0, x1)]) 0
        (fun v5 h4 =>
        if 0 ≤ v5 ∧ v5 < 65536 then some (.inl (some (0, v5)), h4) else none)
        (fun q6 h4 => tx_ q6 h4)
    else
      ca_ (fj_run d 22 h1 [(4, h1 317 x0.toNat 0), (0, x1)]) 0
        (fun v8 h7 =>
        if 0 ≤ v8 ∧ v8 < 65536 then some (.inl (some (0, v8)), h7) else none)
        (fun q9 h7 => tx_ q9 h7))
    (fun q3 h1 => tx_ q3 h1) := by
  rw [fj_run_eq d (by decide) h [(4, x0), (0, x1)] (Nat.le_of_ble_eq_true (by rw [nl_20]; rfl))]
  show gG (fj_run d) 20 0 [(0, (4, x0)), (1, (0, x1))] [] h = _
  exact
    have D : fk_D 20 [(0, none, .aload_n 0, 1, 0, 0, 0), (1, none, .invokevirtual 492, 3, 0, 206, 1), (4, none, .ifCond .eq 12, 3, 16, 0, 0), (7, none, .aload_n 0, 1, 0, 0, 0), (8, none, .getfield 9, 3, 317, 131, 12), (11, none, .iload_n 1, 1, 0, 0, 0), (12, none, .invokestatic 495, 3, 2, 22, 1), (15, none, .ireturn, 1, 0, 0, 0)] := fq_of2 cd_20 ow_20 cl_20 rfl (pc := 0) (by decide +kernel)
    j_aldn (pc := 0) D rfl rfl rfl fun D =>
    j_iv (pc := 1) (m := 21) (dd := 206) (a := []) (rest := []) D rfl rfl rfl rfl rfl (nz_cls H.2.1 hk (by decide)) hk (by decide +kernel) (fun v2 h1 e1 D =>
      have T := fj_run_ok _ _ _ _ _ _ H.1 e1
      have hk := cls_st H.1 T.2 hk (by decide)
      have H := shp_st H T
      j_ifeq (pc := 4) D rfl (fun q =>
        have D : fk_D 20 [(16, none, .aload_n 0, 1, 0, 0, 0), (17, none, .getfield 9, 3, 317, 131, 12), (20, none, .iload_n 1, 1, 0, 0, 0), (21, none, .invokestatic 498, 3, 2, 25, 1), (24, none, .ireturn, 1, 0, 0, 0)] := fq_of2 cd_20 ow_20 cl_20 rfl (pc := 16) (by decide +kernel)
        j_aldn (pc := 16) D rfl rfl rfl fun D =>
        j_gf (pc := 17) (a := x0.toNat) D rfl rfl (nz_cls H.2.1 hk (by decide)) rfl hk rfl fun D =>
        j_ildn (pc := 20) D rfl rfl rfl fun D =>
        j_is (pc := 21) (m := 25) (a := [(4, h1 317 x0.toNat 0), (0, x1)]) (rest := []) D rfl rfl rfl rfl (fun v5 h4 e1 D =>
          have T := fj_run_ok _ _ _ _ _ _ H.1 e1
          have hk := cls_st H.1 T.2 hk (by decide)
          have H := shp_st H T
          j_cret D rt_20 gn) (fun q6 h4 e1 =>
          j_tx (hx_20 _))) (fun q D =>
        j_aldn (pc := 7) D rfl rfl rfl fun D =>
        j_gf (pc := 8) (a := x0.toNat) D rfl rfl (nz_cls H.2.1 hk (by decide)) rfl hk rfl fun D =>
        j_ildn (pc := 11) D rfl rfl rfl fun D =>
        j_is (pc := 12) (m := 22) (a := [(4, h1 317 x0.toNat 0), (0, x1)]) (rest := []) D rfl rfl rfl rfl (fun v8 h7 e1 D =>
          have T := fj_run_ok _ _ _ _ _ _ H.1 e1
          have hk := cls_st H.1 T.2 hk (by decide)
          have H := shp_st H T
          j_cret D rt_20 gn) (fun q9 h7 e1 =>
          j_tx (hx_20 _)))) (fun q3 h1 e1 =>
      j_tx (hx_20 _))
/-! 21 java/lang/String.isLatin1()Z -/
theorem cd_21 : fi_code 21 = prog_86_method_154_code := rfl
theorem hx_21 : ∀ pc, fi_hat 21 pc = none := fun pc => by unfold fi_hat; rw [show fi_hh 21 = [] from rfl]; rfl
theorem rt_21 : fi_ret 21 = some .boolean := rfl
theorem nl_21 : fi_nl 21 = 1 := rfl
theorem ow_21 : fi_ow 21 = 31 := rfl
theorem cl_21 : fj_cutT.getD 21 [] = [] := rfl
theorem m_21 (d : Nat) (x0 : Int) {h : fi_H} (H : Shp h) (hk : h 0 x0.toNat 0 = 131) : fj_run (d + 1) 21 h [(4, x0)] =
  if h 318 x0.toNat 0 = 0 then
    some (.inl (some (0, 1)), h)
  else
    some (.inl (some (0, 0)), h) := by
  rw [fj_run_eq d (by decide) h [(4, x0)] (Nat.le_of_ble_eq_true (by rw [nl_21]; rfl))]
  show gG (fj_run d) 21 0 [(0, (4, x0))] [] h = _
  exact
    have D : fk_D 21 [(0, none, .getstatic 38, 3, 0, 1, 0), (3, none, .ifCond .eq 14, 3, 17, 0, 0)] := fq_of2 cd_21 ow_21 cl_21 rfl (pc := 0) (by decide +kernel)
    j_gs (pc := 0) D rfl fun D =>
    j_known (pc := 3) D rfl rfl (pc' := 6) (st' := []) (by rfl) <|
    have D : fk_D 21 [(6, none, .aload_n 0, 1, 0, 0, 0), (7, none, .getfield 15, 3, 318, 131, 8), (10, none, .ifCond .ne 7, 3, 17, 0, 0), (13, none, .iconst 1, 1, 0, 1, 0), (14, none, .goto 4, 3, 18, 0, 0)] := fq_of2 cd_21 ow_21 cl_21 rfl (pc := 6) (by decide +kernel)
    j_aldn (pc := 6) D rfl rfl rfl fun D =>
    j_gf (pc := 7) (a := x0.toNat) D rfl rfl (nz_cls H.2.1 hk (by decide)) rfl hk rfl fun D =>
    j_ifne (pc := 10) D rfl (fun q D =>
      j_ic (pc := 13) D rfl fun D =>
      j_goto (pc := 14) D rfl <|
      have D : fk_D 21 [(18, none, .ireturn, 1, 0, 0, 0)] := fq_of2 cd_21 ow_21 cl_21 rfl (pc := 18) (by decide +kernel)
      j_zret D rt_21 (gy (by decide))) (fun q =>
      have D : fk_D 21 [(17, none, .iconst 0, 1, 0, 0, 0), (18, none, .ireturn, 1, 0, 0, 0)] := fq_of2 cd_21 ow_21 cl_21 rfl (pc := 17) (by decide +kernel)
      j_ic (pc := 17) D rfl fun D =>
      j_zret D rt_21 (gy (by decide)))
/-! 22 java/lang/StringLatin1.charAt([BI)C -/
theorem cd_22 : fi_code 22 = prog_88_method_2_code := rfl
theorem hx_22 : ∀ pc, fi_hat 22 pc = none := fun pc => by unfold fi_hat; rw [show fi_hh 22 = [] from rfl]; rfl
theorem rt_22 : fi_ret 22 = some .char := rfl
theorem nl_22 : fi_nl 22 = 2 := rfl
theorem ow_22 : fi_ow 22 = 79 := rfl
theorem cl_22 : fj_cutT.getD 22 [] = [] := rfl
theorem m_22 (d : Nat) (x0 x1 : Int) {h : fi_H} (H : Shp h) : fj_run (d + 1) 22 h [(4, x0), (0, x1)] =
  if fk_isA (h 0 x0.toNat 0) = true then
  cv_ (fj_run d 23 h [(0, x1), (0, h 1 x0.toNat 0)])
    (fun h1 =>
    if fi_et 1 (h1 0 x0.toNat 0) ≠ 0 ∧ 0 ≤ x1 ∧ x1 < h1 1 x0.toNat 0 then
    if 0 ≤ wC (ia_ (h1 (fi_et 1 (h1 0 x0.toNat 0)) x0.toNat x1.toNat) 255) ∧ wC (ia_ (h1 (fi_et 1 (h1 0 x0.toNat 0)) x0.toNat x1.toNat) 255) < 65536 then some (.inl (some (0, wC (ia_ (h1 (fi_et 1 (h1 0 x0.toNat 0)) x0.toNat x1.toNat) 255))), h1) else none
    else none)
    (fun q3 h1 => tx_ q3 h1)
  else none := by
  rw [fj_run_eq d (by decide) h [(4, x0), (0, x1)] (Nat.le_of_ble_eq_true (by rw [nl_22]; rfl))]
  show gG (fj_run d) 22 0 [(0, (4, x0)), (1, (0, x1))] [] h = _
  exact
    have D : fk_D 22 [(0, none, .iload_n 1, 1, 0, 0, 0), (1, none, .aload_n 0, 1, 0, 0, 0), (2, none, .arraylength, 1, 0, 0, 0), (3, none, .invokestatic 9, 3, 2, 23, 0), (6, none, .aload_n 0, 1, 0, 0, 0), (7, none, .iload_n 1, 1, 0, 0, 0), (8, none, .baload, 1, 0, 0, 0), (9, none, .sipush 255, 3, 0, 255, 0), (12, none, .iand, 1, 0, 0, 0), (13, none, .i2c, 1, 0, 0, 0), (14, none, .ireturn, 1, 0, 0, 0)] := fq_of2 cd_22 ow_22 cl_22 rfl (pc := 0) (by decide +kernel)
    j_ildn (pc := 0) D rfl rfl rfl fun D =>
    j_aldn (pc := 1) D rfl rfl rfl fun D =>
    j_lenu (pc := 2) H.2.1 D rfl fun q D =>
    j_isv (pc := 3) (m := 23) (a := [(0, x1), (0, h 1 x0.toNat 0)]) (rest := []) D rfl rfl rfl rfl (fun h1 e1 D =>
      have T := fj_run_ok _ _ _ _ _ _ H.1 e1
      have H := shp_st H T
      j_aldn (pc := 6) D rfl rfl rfl fun D =>
      j_ildn (pc := 7) D rfl rfl rfl fun D =>
      j_alb (pc := 8) H.2.1 D rfl rfl fun q q2 D =>
      j_sp (pc := 9) D rfl fun D =>
      j_iand (pc := 12) D rfl fun D =>
      j_i2c (pc := 13) D rfl fun D =>
      j_cret D rt_22 gn) (fun q3 h1 e1 =>
      j_tx (hx_22 _))
/-! 23 java/lang/String.checkIndex(II)V -/
theorem cd_23 : fi_code 23 = prog_86_method_155_code := rfl
theorem hx_23 : ∀ pc, fi_hat 23 pc = none := fun pc => by unfold fi_hat; rw [show fi_hh 23 = [] from rfl]; rfl
theorem rt_23 : fi_ret 23 = none := rfl
theorem nl_23 : fi_nl 23 = 2 := rfl
theorem ow_23 : fi_ow 23 = 31 := rfl
theorem cl_23 : fj_cutT.getD 23 [] = [] := rfl
theorem m_23 (d : Nat) (x0 x1 : Int) {h : fi_H} (H : Shp h) : fj_run (d + 1) 23 h [(0, x0), (0, x1)] =
  ca_ (fj_run d 24 h [(0, x0), (0, x1), (5, 0)]) 0
    (fun v2 h1 =>
    some (.inl none, h1))
    (fun q3 h1 => tx_ q3 h1) := by
  rw [fj_run_eq d (by decide) h [(0, x0), (0, x1)] (Nat.le_of_ble_eq_true (by rw [nl_23]; rfl))]
  show gG (fj_run d) 23 0 [(0, (0, x0)), (1, (0, x1))] [] h = _
  exact
    have D : fk_D 23 [(0, none, .iload_n 0, 1, 0, 0, 0), (1, none, .iload_n 1, 1, 0, 0, 0), (2, none, .getstatic 1053, 3, 5, 0, 0), (5, none, .invokestatic 1059, 3, 3, 24, 1), (8, none, .pop, 1, 0, 0, 0), (9, none, .return_, 1, 0, 0, 0)] := fq_of2 cd_23 ow_23 cl_23 rfl (pc := 0) (by decide +kernel)
    j_ildn (pc := 0) D rfl rfl rfl fun D =>
    j_ildn (pc := 1) D rfl rfl rfl fun D =>
    j_gs (pc := 2) D rfl fun D =>
    j_is (pc := 5) (m := 24) (a := [(0, x0), (0, x1), (5, 0)]) (rest := []) D rfl rfl rfl rfl (fun v2 h1 e1 D =>
      have T := fj_run_ok _ _ _ _ _ _ H.1 e1
      have H := shp_st H T
      j_sh (pc := 8) D rfl rfl rfl fun D =>
      j_vret D rt_23) (fun q3 h1 e1 =>
      j_tx (hx_23 _))
/-! 24 jdk/internal/util/Preconditions.checkIndex(IILjava/util/function/BiFunction;)I -/
theorem cd_24 : fi_code 24 = prog_104_method_11_code := rfl
theorem hx_24 : ∀ pc, fi_hat 24 pc = none := fun pc => by unfold fi_hat; rw [show fi_hh 24 = [] from rfl]; rfl
theorem rt_24 : fi_ret 24 = some .int := rfl
theorem nl_24 : fi_nl 24 = 3 := rfl
theorem ow_24 : fi_ow 24 = 84 := rfl
theorem cl_24 : fj_cutT.getD 24 [] = [] := rfl
theorem m_24 (d : Nat) (x0 x1 x2 : Int) {h : fi_H} (H : Shp h) : fj_run (d + 1) 24 h [(0, x0), (0, x1), (4, x2)] =
  if x0 < 0 then
    none
  else
    if x0 < x1 then
      some (.inl (some (0, x0)), h)
    else
      none := by
  rw [fj_run_eq d (by decide) h [(0, x0), (0, x1), (4, x2)] (Nat.le_of_ble_eq_true (by rw [nl_24]; rfl))]
  show gG (fj_run d) 24 0 [(0, (0, x0)), (1, (0, x1)), (2, (4, x2))] [] h = _
  exact
    have D : fk_D 24 [(0, none, .iload_n 0, 1, 0, 0, 0), (1, none, .ifCond .lt 8, 3, 9, 0, 0), (4, none, .iload_n 0, 1, 0, 0, 0), (5, none, .iload_n 1, 1, 0, 0, 0), (6, none, .if_icmp .lt 10, 3, 16, 0, 0), (9, none, .aload_n 2, 1, 0, 0, 0), (10, none, .iload_n 0, 1, 0, 0, 0), (11, none, .iload_n 1, 1, 0, 0, 0)] := fq_of2 cd_24 ow_24 cl_24 rfl (pc := 0) (by decide +kernel)
    j_ildn (pc := 0) D rfl rfl rfl fun D =>
    j_iflt (pc := 1) D rfl (fun q =>
      have D : fk_D 24 [(9, none, .aload_n 2, 1, 0, 0, 0), (10, none, .iload_n 0, 1, 0, 0, 0), (11, none, .iload_n 1, 1, 0, 0, 0)] := fq_of2 cd_24 ow_24 cl_24 rfl (pc := 9) (by decide +kernel)
      j_aldn (pc := 9) D rfl rfl rfl fun D =>
      j_ildn (pc := 10) D rfl rfl rfl fun D =>
      j_ildn (pc := 11) D rfl rfl rfl fun D =>
      j_dead (ins := .invokestatic 95) (len := 3) (by decide +kernel : fk_dec prog_104_method_11_code 12 (.invokestatic 95) 3 = true) cd_24 rfl (fk_dS (by decide +kernel : fi_ms (fi_ow 24) 95 = none)) (fun _ => ⟨rfl, fun q => by cases q⟩)) (fun q D =>
      j_ildn (pc := 4) D rfl rfl rfl fun D =>
      j_ildn (pc := 5) D rfl rfl rfl fun D =>
      j_ilt (pc := 6) D rfl (fun q =>
        have D : fk_D 24 [(16, none, .iload_n 0, 1, 0, 0, 0), (17, none, .ireturn, 1, 0, 0, 0)] := fq_of2 cd_24 ow_24 cl_24 rfl (pc := 16) (by decide +kernel)
        j_ildn (pc := 16) D rfl rfl rfl fun D =>
        j_iret D rt_24) (fun q D =>
        j_aldn (pc := 9) D rfl rfl rfl fun D =>
        j_ildn (pc := 10) D rfl rfl rfl fun D =>
        j_ildn (pc := 11) D rfl rfl rfl fun D =>
        j_dead (ins := .invokestatic 95) (len := 3) (by decide +kernel : fk_dec prog_104_method_11_code 12 (.invokestatic 95) 3 = true) cd_24 rfl (fk_dS (by decide +kernel : fi_ms (fi_ow 24) 95 = none)) (fun _ => ⟨rfl, fun q => by cases q⟩)))
/-! 25 java/lang/StringUTF16.charAt([BI)C -/
theorem cd_25 : fi_code 25 = prog_89_method_83_code := rfl
theorem hx_25 : ∀ pc, fi_hat 25 pc = none := fun pc => by unfold fi_hat; rw [show fi_hh 25 = [] from rfl]; rfl
theorem rt_25 : fi_ret 25 = some .char := rfl
theorem nl_25 : fi_nl 25 = 2 := rfl
theorem ow_25 : fi_ow 25 = 80 := rfl
theorem cl_25 : fj_cutT.getD 25 [] = [] := rfl
theorem m_25 (d : Nat) (x0 x1 : Int) {h : fi_H} (H : Shp h) : fj_run (d + 1) 25 h [(4, x0), (0, x1)] =
  cv_ (fj_run d 26 h [(0, x1), (4, x0)])
    (fun h1 =>
    ca_ (fj_run d 28 h1 [(4, x0), (0, x1)]) 0
      (fun v5 h4 =>
      if 0 ≤ v5 ∧ v5 < 65536 then some (.inl (some (0, v5)), h4) else none)
      (fun q6 h4 => tx_ q6 h4))
    (fun q3 h1 => tx_ q3 h1) := by
  rw [fj_run_eq d (by decide) h [(4, x0), (0, x1)] (Nat.le_of_ble_eq_true (by rw [nl_25]; rfl))]
  show gG (fj_run d) 25 0 [(0, (4, x0)), (1, (0, x1))] [] h = _
  exact
    have D : fk_D 25 [(0, none, .iload_n 1, 1, 0, 0, 0), (1, none, .aload_n 0, 1, 0, 0, 0), (2, none, .invokestatic 67, 3, 2, 26, 0), (5, none, .aload_n 0, 1, 0, 0, 0), (6, none, .iload_n 1, 1, 0, 0, 0), (7, none, .invokestatic 71, 3, 2, 28, 1), (10, none, .ireturn, 1, 0, 0, 0)] := fq_of2 cd_25 ow_25 cl_25 rfl (pc := 0) (by decide +kernel)
    j_ildn (pc := 0) D rfl rfl rfl fun D =>
    j_aldn (pc := 1) D rfl rfl rfl fun D =>
    j_isv (pc := 2) (m := 26) (a := [(0, x1), (4, x0)]) (rest := []) D rfl rfl rfl rfl (fun h1 e1 D =>
      have T := fj_run_ok _ _ _ _ _ _ H.1 e1
      have H := shp_st H T
      j_aldn (pc := 5) D rfl rfl rfl fun D =>
      j_ildn (pc := 6) D rfl rfl rfl fun D =>
      j_is (pc := 7) (m := 28) (a := [(4, x0), (0, x1)]) (rest := []) D rfl rfl rfl rfl (fun v5 h4 e1 D =>
        have T := fj_run_ok _ _ _ _ _ _ H.1 e1
        have H := shp_st H T
        j_cret D rt_25 gn) (fun q6 h4 e1 =>
        j_tx (hx_25 _))) (fun q3 h1 e1 =>
      j_tx (hx_25 _))
/-! 26 java/lang/StringUTF16.checkIndex(I[B)V -/
theorem cd_26 : fi_code 26 = prog_89_method_91_code := rfl
theorem hx_26 : ∀ pc, fi_hat 26 pc = none := fun pc => by unfold fi_hat; rw [show fi_hh 26 = [] from rfl]; rfl
theorem rt_26 : fi_ret 26 = none := rfl
theorem nl_26 : fi_nl 26 = 2 := rfl
theorem ow_26 : fi_ow 26 = 80 := rfl
theorem cl_26 : fj_cutT.getD 26 [] = [] := rfl
theorem m_26 (d : Nat) (x0 x1 : Int) {h : fi_H} (H : Shp h) : fj_run (d + 1) 26 h [(0, x0), (4, x1)] =
  ca_ (fj_run d 27 h [(4, x1)]) 0
    (fun v2 h1 =>
    cv_ (fj_run d 23 h1 [(0, x0), (0, v2)])
      (fun h4 =>
      some (.inl none, h4))
      (fun q6 h4 => tx_ q6 h4))
    (fun q3 h1 => tx_ q3 h1) := by
  rw [fj_run_eq d (by decide) h [(0, x0), (4, x1)] (Nat.le_of_ble_eq_true (by rw [nl_26]; rfl))]
  show gG (fj_run d) 26 0 [(0, (0, x0)), (1, (4, x1))] [] h = _
  exact
    have D : fk_D 26 [(0, none, .iload_n 0, 1, 0, 0, 0), (1, none, .aload_n 1, 1, 0, 0, 0), (2, none, .invokestatic 48, 3, 1, 27, 1), (5, none, .invokestatic 414, 3, 2, 23, 0), (8, none, .return_, 1, 0, 0, 0)] := fq_of2 cd_26 ow_26 cl_26 rfl (pc := 0) (by decide +kernel)
    j_ildn (pc := 0) D rfl rfl rfl fun D =>
    j_aldn (pc := 1) D rfl rfl rfl fun D =>
    j_is (pc := 2) (m := 27) (a := [(4, x1)]) (rest := [(0, x0)]) D rfl rfl rfl rfl (fun v2 h1 e1 D =>
      have T := fj_run_ok _ _ _ _ _ _ H.1 e1
      have H := shp_st H T
      j_isv (pc := 5) (m := 23) (a := [(0, x0), (0, v2)]) (rest := []) D rfl rfl rfl rfl (fun h4 e1 D =>
        have T := fj_run_ok _ _ _ _ _ _ H.1 e1
        have H := shp_st H T
        j_vret D rt_26) (fun q6 h4 e1 =>
        j_tx (hx_26 _))) (fun q3 h1 e1 =>
      j_tx (hx_26 _))
/-! 27 java/lang/StringUTF16.length([B)I -/
theorem cd_27 : fi_code 27 = prog_89_method_6_code := rfl
theorem hx_27 : ∀ pc, fi_hat 27 pc = none := fun pc => by unfold fi_hat; rw [show fi_hh 27 = [] from rfl]; rfl
theorem rt_27 : fi_ret 27 = some .int := rfl
theorem nl_27 : fi_nl 27 = 1 := rfl
theorem ow_27 : fi_ow 27 = 80 := rfl
theorem cl_27 : fj_cutT.getD 27 [] = [] := rfl
theorem m_27 (d : Nat) (x0 : Int) {h : fi_H} (H : Shp h) : fj_run (d + 1) 27 h [(4, x0)] =
  if fk_isA (h 0 x0.toNat 0) = true then
  some (.inl (some (0, sr_ (h 1 x0.toNat 0) 1)), h)
  else none := by
  rw [fj_run_eq d (by decide) h [(4, x0)] (Nat.le_of_ble_eq_true (by rw [nl_27]; rfl))]
  show gG (fj_run d) 27 0 [(0, (4, x0))] [] h = _
  exact
    have D : fk_D 27 [(0, none, .aload_n 0, 1, 0, 0, 0), (1, none, .arraylength, 1, 0, 0, 0), (2, none, .iconst 1, 1, 0, 1, 0), (3, none, .ishr, 1, 0, 0, 0), (4, none, .ireturn, 1, 0, 0, 0)] := fq_of2 cd_27 ow_27 cl_27 rfl (pc := 0) (by decide +kernel)
    j_aldn (pc := 0) D rfl rfl rfl fun D =>
    j_lenu (pc := 1) H.2.1 D rfl fun q D =>
    j_ic (pc := 2) D rfl fun D =>
    j_ishr (pc := 3) D rfl fun D =>
    j_iret D rt_27
/-! 28 java/lang/StringUTF16.getChar([BI)C -/
theorem cd_28 : fi_code 28 = prog_89_method_5_code := rfl
theorem hx_28 : ∀ pc, fi_hat 28 pc = none := fun pc => by unfold fi_hat; rw [show fi_hh 28 = [] from rfl]; rfl
theorem rt_28 : fi_ret 28 = some .char := rfl
theorem nl_28 : fi_nl 28 = 2 := rfl
theorem ow_28 : fi_ow 28 = 80 := rfl
theorem cl_28 : fj_cutT.getD 28 [] = [(28, [0, 1])] := rfl
theorem cut_28_28 : fj_cut 28 28 = some [0, 1] := by decide +kernel
noncomputable def c_28_28 (d : Nat) (x0 x1 : Int) (h : fi_H) : fk_R := gG (fj_run d) 28 28 [(0, (4, x0)), (1, (0, x1))] [] h
theorem e_28_28 (d : Nat) (x0 x1 : Int) {h : fi_H} (H : Shp h) : c_28_28 d x0 x1 h =
  if fi_et 1 (h 0 x0.toNat 0) ≠ 0 ∧ 0 ≤ sl_ x1 1 ∧ sl_ x1 1 < h 1 x0.toNat 0 then
  if fi_et 1 (h 0 x0.toNat 0) ≠ 0 ∧ 0 ≤ wI ((sl_ x1 1) + 1) ∧ wI ((sl_ x1 1) + 1) < h 1 x0.toNat 0 then
  if 0 ≤ wC (io_ (sl_ (ia_ (h (fi_et 1 (h 0 x0.toNat 0)) x0.toNat (sl_ x1 1).toNat) 255) 0) (sl_ (ia_ (h (fi_et 1 (h 0 x0.toNat 0)) x0.toNat (wI ((sl_ x1 1) + 1)).toNat) 255) 8)) ∧ wC (io_ (sl_ (ia_ (h (fi_et 1 (h 0 x0.toNat 0)) x0.toNat (sl_ x1 1).toNat) 255) 0) (sl_ (ia_ (h (fi_et 1 (h 0 x0.toNat 0)) x0.toNat (wI ((sl_ x1 1) + 1)).toNat) 255) 8)) < 65536 then some (.inl (some (0, wC (io_ (sl_ (ia_ (h (fi_et 1 (h 0 x0.toNat 0)) x0.toNat (sl_ x1 1).toNat) 255) 0) (sl_ (ia_ (h (fi_et 1 (h 0 x0.toNat 0)) x0.toNat (wI ((sl_ x1 1) + 1)).toNat) 255) 8)))), h) else none
  else none
  else none := by
  unfold c_28_28
  exact
    have D : fk_D 28 [(28, some [0, 1], .iload_n 1, 1, 0, 0, 0), (29, none, .iconst 1, 1, 0, 1, 0), (30, none, .ishl, 1, 0, 0, 0), (31, none, .istore_n 1, 1, 0, 0, 0), (32, none, .aload_n 0, 1, 0, 0, 0), (33, none, .iload_n 1, 1, 0, 0, 0), (34, none, .iinc 1 1, 3, 0, 1, 0), (37, none, .baload, 1, 0, 0, 0), (38, none, .sipush 255, 3, 0, 255, 0), (41, none, .iand, 1, 0, 0, 0), (42, none, .getstatic 59, 3, 0, 0, 0), (45, none, .ishl, 1, 0, 0, 0), (46, none, .aload_n 0, 1, 0, 0, 0), (47, none, .iload_n 1, 1, 0, 0, 0), (48, none, .baload, 1, 0, 0, 0), (49, none, .sipush 255, 3, 0, 255, 0), (52, none, .iand, 1, 0, 0, 0), (53, none, .getstatic 63, 3, 0, 8, 0), (56, none, .ishl, 1, 0, 0, 0), (57, none, .ior, 1, 0, 0, 0)] := fq_of2 cd_28 ow_28 cl_28 rfl (pc := 28) (by decide +kernel)
    j_ildn (pc := 28) D rfl rfl rfl fun D =>
    j_ic (pc := 29) D rfl fun D =>
    j_ishl (pc := 30) D rfl fun D =>
    j_istn (pc := 31) (L' := [(1, (0, sl_ x1 1)), (0, (4, x0))]) D rfl nl_28 rfl rfl fun D =>
    j_aldn (pc := 32) D rfl rfl rfl fun D =>
    j_ildn (pc := 33) D rfl rfl rfl fun D =>
    j_inc (pc := 34) (L' := [(1, (0, wI ((sl_ x1 1) + 1))), (0, (4, x0))]) D rfl rfl rfl (by decide +kernel) rfl fun D =>
    j_alb (pc := 37) H.2.1 D rfl rfl fun q q2 D =>
    j_sp (pc := 38) D rfl fun D =>
    j_iand (pc := 41) D rfl fun D =>
    j_gs (pc := 42) D rfl fun D =>
    j_ishl (pc := 45) D rfl fun D =>
    j_aldn (pc := 46) D rfl rfl rfl fun D =>
    j_ildn (pc := 47) D rfl rfl rfl fun D =>
    j_alb (pc := 48) H.2.1 D rfl rfl fun q q2 D =>
    j_sp (pc := 49) D rfl fun D =>
    j_iand (pc := 52) D rfl fun D =>
    j_gs (pc := 53) D rfl fun D =>
    j_ishl (pc := 56) D rfl fun D =>
    j_ior (pc := 57) D rfl fun D =>
    have D : fk_D 28 [(58, none, .i2c, 1, 0, 0, 0), (59, none, .ireturn, 1, 0, 0, 0)] := fq_of2 cd_28 ow_28 cl_28 rfl (pc := 58) (by decide +kernel)
    j_i2c (pc := 58) D rfl fun D =>
    j_cret D rt_28 gn
theorem m_28 (d : Nat) (x0 x1 : Int) {h : fi_H} (H : Shp h) : fj_run (d + 1) 28 h [(4, x0), (0, x1)] =
  c_28_28 d x0 x1 h := by
  rw [fj_run_eq d (by decide) h [(4, x0), (0, x1)] (Nat.le_of_ble_eq_true (by rw [nl_28]; rfl))]
  show gG (fj_run d) 28 0 [(0, (4, x0)), (1, (0, x1))] [] h = _
  exact
    have D : fk_D 28 [(0, none, .getstatic 44, 3, 0, 1, 0), (3, none, .ifCond .ne 25, 3, 28, 0, 0)] := fq_of2 cd_28 ow_28 cl_28 rfl (pc := 0) (by decide +kernel)
    j_gs (pc := 0) D rfl fun D =>
    j_known (pc := 3) D rfl rfl (pc' := 28) (st' := []) (by rfl) <|
    fk_jump cut_28_28 rfl rfl
/-! 29 StatuteHouse$Pen.sign(I)V -/
theorem cd_29 : fi_code 29 = prog_51_method_3_code := rfl
theorem hx_29 : ∀ pc, fi_hat 29 pc = none := fun pc => by unfold fi_hat; rw [show fi_hh 29 = [] from rfl]; rfl
theorem rt_29 : fi_ret 29 = none := rfl
theorem nl_29 : fi_nl 29 = 2 := rfl
theorem ow_29 : fi_ow 29 = 13 := rfl
theorem cl_29 : fj_cutT.getD 29 [] = [] := rfl
theorem m_29 (d : Nat) (x0 x1 : Int) {h : fi_H} (H : Shp h) (hk : h 0 x0.toNat 0 = 113) : fj_run (d + 1) 29 h [(4, x0), (0, x1)] =
  if h 185 x0.toNat 0 = 12000 then
    if 302 < x0 then
    lt_ (fi_upd h 186 x0.toNat 0 1) fun h1 =>
    some (.inl none, h1)
    else none
  else
    if 302 < h 183 x0.toNat 0 ∧ fi_et 1 (h 0 (h 183 x0.toNat 0).toNat 0) ≠ 0 then
    if 0 ≤ h 185 x0.toNat 0 ∧ h 185 x0.toNat 0 < h 1 (h 183 x0.toNat 0).toNat 0 then
    if fi_rg (fi_et 1 (h 0 (h 183 x0.toNat 0).toNat 0)) (wB x1) = true then
    lt_ (fi_upd h (fi_et 1 (h 0 (h 183 x0.toNat 0).toNat 0)) (h 183 x0.toNat 0).toNat (h 185 x0.toNat 0).toNat (wB x1)) fun h2 =>
    if 302 < x0 then
    lt_ (fi_upd h2 185 x0.toNat 0 (wI ((h2 185 x0.toNat 0) + 1))) fun h3 =>
    some (.inl none, h3)
    else none
    else none
    else none
    else none := by
  rw [fj_run_eq d (by decide) h [(4, x0), (0, x1)] (Nat.le_of_ble_eq_true (by rw [nl_29]; rfl))]
  show gG (fj_run d) 29 0 [(0, (4, x0)), (1, (0, x1))] [] h = _
  exact
    have D : fk_D 29 [(0, none, .aload_n 0, 1, 0, 0, 0), (1, none, .getfield 22, 3, 185, 113, 10), (4, none, .sipush 12000, 3, 0, 12000, 0), (7, none, .if_icmp .ne 9, 3, 16, 0, 0), (10, none, .aload_n 0, 1, 0, 0, 0), (11, none, .iconst 1, 1, 0, 1, 0), (12, none, .putfield 26, 3, 186, 113, 4), (15, none, .return_, 1, 0, 0, 0)] := fq_of2 cd_29 ow_29 cl_29 rfl (pc := 0) (by decide +kernel)
    j_aldn (pc := 0) D rfl rfl rfl fun D =>
    j_gf (pc := 1) (a := x0.toNat) D rfl rfl (nz_cls H.2.1 hk (by decide)) rfl hk rfl fun D =>
    j_sp (pc := 4) D rfl fun D =>
    j_ine (pc := 7) D rfl (fun q D =>
      j_aldn (pc := 10) D rfl rfl rfl fun D =>
      j_ic (pc := 11) D rfl fun D =>
      j_pf (pc := 12) (a := x0.toNat) D rfl rfl rfl hk rfl rfl gn (gy (by decide)) fun h1 eh1 S D =>
      have T := fj_hs_ok H.1 S
      have hk := cls_st H.1 T.2 hk (by decide)
      have H := shp_st H T
      j_vret D rt_29) (fun q =>
      have D : fk_D 29 [(16, none, .aload_n 0, 1, 0, 0, 0), (17, none, .getfield 9, 3, 183, 113, 12), (20, none, .aload_n 0, 1, 0, 0, 0), (21, none, .getfield 22, 3, 185, 113, 10), (24, none, .iload_n 1, 1, 0, 0, 0), (25, none, .i2b, 1, 0, 0, 0), (26, none, .bastore, 1, 0, 0, 0), (27, none, .aload_n 0, 1, 0, 0, 0), (28, none, .dup, 1, 0, 0, 0), (29, none, .getfield 22, 3, 185, 113, 10), (32, none, .iconst 1, 1, 0, 1, 0), (33, none, .iadd, 1, 0, 0, 0), (34, none, .putfield 22, 3, 185, 113, 10), (37, none, .return_, 1, 0, 0, 0)] := fq_of2 cd_29 ow_29 cl_29 rfl (pc := 16) (by decide +kernel)
      j_aldn (pc := 16) D rfl rfl rfl fun D =>
      j_gf (pc := 17) (a := x0.toNat) D rfl rfl (nz_cls H.2.1 hk (by decide)) rfl hk rfl fun D =>
      j_aldn (pc := 20) D rfl rfl rfl fun D =>
      j_gf (pc := 21) (a := x0.toNat) D rfl rfl (nz_cls H.2.1 hk (by decide)) rfl hk rfl fun D =>
      j_ildn (pc := 24) D rfl rfl rfl fun D =>
      j_i2b (pc := 25) D rfl fun D =>
      j_asub (pc := 26) D rfl rfl gn gn gn fun h2 eh2 S q q2 D =>
      have T := fj_hs_ok H.1 S
      have hk := cls_st H.1 T.2 hk (by decide)
      have H := shp_st H T
      j_aldn (pc := 27) D rfl rfl rfl fun D =>
      j_sh (pc := 28) D rfl rfl rfl fun D =>
      j_gf (pc := 29) (a := x0.toNat) D rfl rfl (nz_cls H.2.1 hk (by decide)) rfl hk rfl fun D =>
      j_ic (pc := 32) D rfl fun D =>
      j_iadd (pc := 33) D rfl fun D =>
      j_pf (pc := 34) (a := x0.toNat) D rfl rfl rfl hk rfl rfl gn (gy rfl) fun h3 eh3 S D =>
      have T := fj_hs_ok H.1 S
      have hk := cls_st H.1 T.2 hk (by decide)
      have H := shp_st H T
      j_vret D rt_29)
/-! 30 StatuteHouse$Pen.address(I)V -/
theorem cd_30 : fi_code 30 = prog_51_method_9_code := rfl
theorem hx_30 : ∀ pc, fi_hat 30 pc = none := fun pc => by unfold fi_hat; rw [show fi_hh 30 = [] from rfl]; rfl
theorem rt_30 : fi_ret 30 = none := rfl
theorem nl_30 : fi_nl 30 = 2 := rfl
theorem ow_30 : fi_ow 30 = 13 := rfl
theorem cl_30 : fj_cutT.getD 30 [] = [] := rfl
theorem m_30 (d : Nat) (x0 x1 : Int) {h : fi_H} (H : Shp h) (hk : h 0 x0.toNat 0 = 113) : fj_run (d + 1) 30 h [(4, x0), (0, x1)] =
  cv_ (fj_run d 31 h [(4, x0), (1, wI (iq_ x1 27)), (0, 1)])
    (fun h1 =>
    if 0 < ir_ x1 27 then
      cv_ (fj_run d 29 h1 [(4, x0), (0, wI ((wI (97 + (ir_ x1 27))) - 1))])
        (fun h4 =>
        some (.inl none, h4))
        (fun q6 h4 => tx_ q6 h4)
    else
      some (.inl none, h1))
    (fun q3 h1 => tx_ q3 h1) := by
  rw [fj_run_eq d (by decide) h [(4, x0), (0, x1)] (Nat.le_of_ble_eq_true (by rw [nl_30]; rfl))]
  show gG (fj_run d) 30 0 [(0, (4, x0)), (1, (0, x1))] [] h = _
  exact
    have D : fk_D 30 [(0, none, .aload_n 0, 1, 0, 0, 0), (1, none, .iload_n 1, 1, 0, 0, 0), (2, none, .bipush 27, 2, 0, 27, 0), (4, none, .idiv, 1, 0, 0, 0), (5, none, .i2l, 1, 0, 0, 0), (6, none, .iconst 1, 1, 0, 1, 0), (7, none, .invokevirtual 56, 3, 2, 141, 0), (10, none, .iload_n 1, 1, 0, 0, 0), (11, none, .bipush 27, 2, 0, 27, 0), (13, none, .irem, 1, 0, 0, 0), (14, none, .ifCond .le 16, 3, 30, 0, 0), (17, none, .aload_n 0, 1, 0, 0, 0), (18, none, .bipush 97, 2, 0, 97, 0), (20, none, .iload_n 1, 1, 0, 0, 0), (21, none, .bipush 27, 2, 0, 27, 0), (23, none, .irem, 1, 0, 0, 0), (24, none, .iadd, 1, 0, 0, 0), (25, none, .iconst 1, 1, 0, 1, 0), (26, none, .isub, 1, 0, 0, 0), (27, none, .invokevirtual 40, 3, 1, 139, 0)] := fq_of2 cd_30 ow_30 cl_30 rfl (pc := 0) (by decide +kernel)
    j_aldn (pc := 0) D rfl rfl rfl fun D =>
    j_ildn (pc := 1) D rfl rfl rfl fun D =>
    j_bp (pc := 2) D rfl fun D =>
    j_idivk (pc := 4) D rfl (by decide) fun D =>
    j_i2l (pc := 5) D rfl fun D =>
    j_ic (pc := 6) D rfl fun D =>
    j_ivv (pc := 7) (m := 31) (dd := 141) (a := [(1, wI (iq_ x1 27)), (0, 1)]) (rest := []) D rfl rfl rfl rfl rfl (nz_cls H.2.1 hk (by decide)) hk (by decide +kernel) (fun h1 e1 D =>
      have T := fj_run_ok _ _ _ _ _ _ H.1 e1
      have hk := cls_st H.1 T.2 hk (by decide)
      have H := shp_st H T
      j_ildn (pc := 10) D rfl rfl rfl fun D =>
      j_bp (pc := 11) D rfl fun D =>
      j_iremk (pc := 13) D rfl (by decide) fun D =>
      j_ifle (pc := 14) D rfl (fun q D =>
        j_aldn (pc := 17) D rfl rfl rfl fun D =>
        j_bp (pc := 18) D rfl fun D =>
        j_ildn (pc := 20) D rfl rfl rfl fun D =>
        j_bp (pc := 21) D rfl fun D =>
        j_iremk (pc := 23) D rfl (by decide) fun D =>
        j_iadd (pc := 24) D rfl fun D =>
        j_ic (pc := 25) D rfl fun D =>
        j_isub (pc := 26) D rfl fun D =>
        j_ivv (pc := 27) (m := 29) (dd := 139) (a := [(0, wI ((wI (97 + (ir_ x1 27))) - 1))]) (rest := []) D rfl rfl rfl rfl rfl (nz_cls H.2.1 hk (by decide)) hk (by decide +kernel) (fun h4 e1 D =>
          have T := fj_run_ok _ _ _ _ _ _ H.1 e1
          have hk := cls_st H.1 T.2 hk (by decide)
          have H := shp_st H T
          have D : fk_D 30 [(30, none, .return_, 1, 0, 0, 0)] := fq_of2 cd_30 ow_30 cl_30 rfl (pc := 30) (by decide +kernel)
          j_vret D rt_30) (fun q6 h4 e1 =>
          j_tx (hx_30 _))) (fun q =>
        have D : fk_D 30 [(30, none, .return_, 1, 0, 0, 0)] := fq_of2 cd_30 ow_30 cl_30 rfl (pc := 30) (by decide +kernel)
        j_vret D rt_30)) (fun q3 h1 e1 =>
      j_tx (hx_30 _))
/-! 31 StatuteHouse$Pen.number(JI)V -/
theorem cd_31 : fi_code 31 = prog_51_method_5_code := rfl
theorem hx_31 : ∀ pc, fi_hat 31 pc = none := fun pc => by unfold fi_hat; rw [show fi_hh 31 = [] from rfl]; rfl
theorem rt_31 : fi_ret 31 = none := rfl
theorem nl_31 : fi_nl 31 = 7 := rfl
theorem ow_31 : fi_ow 31 = 13 := rfl
theorem cl_31 : fj_cutT.getD 31 [] = [(6, [0, 1, 3, 4, 6]), (23, [0, 1, 3, 4, 6]), (37, [0, 1, 4])] := rfl
theorem cut_31_6 : fj_cut 31 6 = some [0, 1, 3, 4, 6] := by decide +kernel
noncomputable def c_31_6 (d : Nat) (x0 x1 x3 x4 x6 : Int) (h : fi_H) : fk_R := gG (fj_run d) 31 6 [(0, (4, x0)), (1, (1, x1)), (3, (0, x3)), (4, (1, x4)), (6, (0, x6))] [] h
theorem cut_31_23 : fj_cut 31 23 = some [0, 1, 3, 4, 6] := by decide +kernel
noncomputable def c_31_23 (d : Nat) (x0 x1 x3 x4 x6 : Int) (h : fi_H) : fk_R := gG (fj_run d) 31 23 [(0, (4, x0)), (1, (1, x1)), (3, (0, x3)), (4, (1, x4)), (6, (0, x6))] [] h
theorem cut_31_37 : fj_cut 31 37 = some [0, 1, 4] := by decide +kernel
noncomputable def c_31_37 (d : Nat) (x0 x1 x4 : Int) (h : fi_H) : fk_R := gG (fj_run d) 31 37 [(0, (4, x0)), (1, (1, x1)), (4, (1, x4))] [] h
theorem e_31_6 (d : Nat) (x0 x1 x3 x4 x6 : Int) {h : fi_H} (H : Shp h) (hk : h 0 x0.toNat 0 = 113) : c_31_6 d x0 x1 x3 x4 x6 h =
  if x4 = 0 then none else
  if 0 < lc_ (lq_ x1 x4) 9 then
    c_31_23 d x0 x1 x3 x4 x6 h
  else
    if x6 < x3 then
      c_31_23 d x0 x1 x3 x4 x6 h
    else
      c_31_37 d x0 x1 x4 h := by
  unfold c_31_6
  exact
    have D : fk_D 31 [(6, some [0, 1, 3, 4, 6], .lload_n 1, 1, 0, 0, 0), (7, none, .lload 4, 2, 0, 0, 0), (9, none, .ldiv, 1, 0, 0, 0), (10, none, .ldc2_w 44, 3, 1, 9, 0), (13, none, .lcmp, 1, 0, 0, 0), (14, none, .ifCond .gt 9, 3, 23, 0, 0), (17, none, .iload 6, 2, 0, 0, 0), (19, none, .iload_n 3, 1, 0, 0, 0), (20, none, .if_icmp .ge 17, 3, 37, 0, 0)] := fq_of2 cd_31 ow_31 cl_31 rfl (pc := 6) (by decide +kernel)
    j_lldn (pc := 6) D rfl rfl rfl fun D =>
    j_lld (pc := 7) D rfl rfl rfl fun D =>
    j_ldiv (pc := 9) D rfl fun q D =>
    j_ldc2 (pc := 10) D rfl fun D =>
    j_lcmp (pc := 13) D rfl fun D =>
    j_ifgt (pc := 14) D rfl (fun q =>
      fk_jump cut_31_23 rfl rfl) (fun q D =>
      j_ild (pc := 17) D rfl rfl rfl fun D =>
      j_ildn (pc := 19) D rfl rfl rfl fun D =>
      j_ige (pc := 20) D rfl (fun q D =>
        fk_jump cut_31_23 rfl rfl) (fun q =>
        fk_jump cut_31_37 rfl rfl))
theorem e_31_23 (d : Nat) (x0 x1 x3 x4 x6 : Int) {h : fi_H} (H : Shp h) (hk : h 0 x0.toNat 0 = 113) : c_31_23 d x0 x1 x3 x4 x6 h =
  c_31_6 d x0 x1 x3 (wJ (10 * x4)) (wI (x6 + 1)) h := by
  unfold c_31_23
  exact
    have D : fk_D 31 [(23, some [0, 1, 3, 4, 6], .ldc2_w 46, 3, 1, 10, 0), (26, none, .lload 4, 2, 0, 0, 0), (28, none, .lmul, 1, 0, 0, 0), (29, none, .lstore 4, 2, 0, 0, 0), (31, none, .iinc 6 1, 3, 0, 1, 0), (34, none, .goto (-28), 3, 6, 0, 0)] := fq_of2 cd_31 ow_31 cl_31 rfl (pc := 23) (by decide +kernel)
    j_ldc2 (pc := 23) D rfl fun D =>
    j_lld (pc := 26) D rfl rfl rfl fun D =>
    j_lmul (pc := 28) D rfl fun D =>
    j_lst (pc := 29) (L' := [(4, (1, wJ (10 * x4))), (0, (4, x0)), (1, (1, x1)), (3, (0, x3)), (6, (0, x6))]) D rfl nl_31 rfl rfl fun D =>
    j_inc (pc := 31) (L' := [(6, (0, wI (x6 + 1))), (4, (1, wJ (10 * x4))), (0, (4, x0)), (1, (1, x1)), (3, (0, x3))]) D rfl rfl rfl (by decide +kernel) rfl fun D =>
    j_goto (pc := 34) D rfl <|
    fk_jump cut_31_6 rfl rfl
theorem e_31_37 (d : Nat) (x0 x1 x4 : Int) {h : fi_H} (H : Shp h) (hk : h 0 x0.toNat 0 = 113) : c_31_37 d x0 x1 x4 h =
  if 0 < lc_ x4 0 then
    if x4 = 0 then none else
    cv_ (fj_run d 29 h [(4, x0), (0, wI (wJ (48 + (lr_ (lq_ x1 x4) 10))))])
      (fun h1 =>
      c_31_37 d x0 x1 (lq_ x4 10) h1)
      (fun q3 h1 => tx_ q3 h1)
  else
    some (.inl none, h) := by
  unfold c_31_37
  exact
    have D : fk_D 31 [(37, some [0, 1, 4], .lload 4, 2, 0, 0, 0), (39, none, .lconst 0, 1, 0, 0, 0), (40, none, .lcmp, 1, 0, 0, 0), (41, none, .ifCond .le 31, 3, 72, 0, 0), (44, none, .aload_n 0, 1, 0, 0, 0), (45, none, .ldc2_w 48, 3, 1, 48, 0), (48, none, .lload_n 1, 1, 0, 0, 0), (49, none, .lload 4, 2, 0, 0, 0), (51, none, .ldiv, 1, 0, 0, 0), (52, none, .ldc2_w 46, 3, 1, 10, 0), (55, none, .lrem, 1, 0, 0, 0), (56, none, .ladd, 1, 0, 0, 0), (57, none, .l2i, 1, 0, 0, 0), (58, none, .invokevirtual 40, 3, 1, 139, 0), (61, none, .lload 4, 2, 0, 0, 0), (63, none, .ldc2_w 46, 3, 1, 10, 0), (66, none, .ldiv, 1, 0, 0, 0), (67, none, .lstore 4, 2, 0, 0, 0), (69, none, .goto (-32), 3, 37, 0, 0)] := fq_of2 cd_31 ow_31 cl_31 rfl (pc := 37) (by decide +kernel)
    j_lld (pc := 37) D rfl rfl rfl fun D =>
    j_c0 (pc := 39) (v := (1, 0)) D rfl rfl (by decide +kernel) fun D =>
    j_lcmp (pc := 40) D rfl fun D =>
    j_ifle (pc := 41) D rfl (fun q D =>
      j_aldn (pc := 44) D rfl rfl rfl fun D =>
      j_ldc2 (pc := 45) D rfl fun D =>
      j_lldn (pc := 48) D rfl rfl rfl fun D =>
      j_lld (pc := 49) D rfl rfl rfl fun D =>
      j_ldiv (pc := 51) D rfl fun q D =>
      j_ldc2 (pc := 52) D rfl fun D =>
      j_lremk (pc := 55) D rfl (by decide) fun D =>
      j_ladd (pc := 56) D rfl fun D =>
      j_l2i (pc := 57) D rfl fun D =>
      j_ivv (pc := 58) (m := 29) (dd := 139) (a := [(0, wI (wJ (48 + (lr_ (lq_ x1 x4) 10))))]) (rest := []) D rfl rfl rfl rfl rfl (nz_cls H.2.1 hk (by decide)) hk (by decide +kernel) (fun h1 e1 D =>
        have T := fj_run_ok _ _ _ _ _ _ H.1 e1
        have hk := cls_st H.1 T.2 hk (by decide)
        have H := shp_st H T
        j_lld (pc := 61) D rfl rfl rfl fun D =>
        j_ldc2 (pc := 63) D rfl fun D =>
        j_ldivk (pc := 66) D rfl (by decide) fun D =>
        j_lst (pc := 67) (L' := [(4, (1, lq_ x4 10)), (0, (4, x0)), (1, (1, x1))]) D rfl nl_31 rfl rfl fun D =>
        j_goto (pc := 69) D rfl <|
        fk_jump cut_31_37 rfl rfl) (fun q3 h1 e1 =>
        j_tx (hx_31 _))) (fun q =>
      have D : fk_D 31 [(72, none, .return_, 1, 0, 0, 0)] := fq_of2 cd_31 ow_31 cl_31 rfl (pc := 72) (by decide +kernel)
      j_vret D rt_31)
theorem m_31 (d : Nat) (x0 x1 x3 : Int) {h : fi_H} (H : Shp h) (hk : h 0 x0.toNat 0 = 113) : fj_run (d + 1) 31 h [(4, x0), (1, x1), (0, x3)] =
  c_31_6 d x0 x1 x3 1 1 h := by
  rw [fj_run_eq d (by decide) h [(4, x0), (1, x1), (0, x3)] (Nat.le_of_ble_eq_true (by rw [nl_31]; rfl))]
  show gG (fj_run d) 31 0 [(0, (4, x0)), (1, (1, x1)), (3, (0, x3))] [] h = _
  exact
    have D : fk_D 31 [(0, none, .lconst 1, 1, 0, 0, 0), (1, none, .lstore 4, 2, 0, 0, 0), (3, none, .iconst 1, 1, 0, 1, 0), (4, none, .istore 6, 2, 0, 0, 0)] := fq_of2 cd_31 ow_31 cl_31 rfl (pc := 0) (by decide +kernel)
    j_c0 (pc := 0) (v := (1, 1)) D rfl rfl (by decide +kernel) fun D =>
    j_lst (pc := 1) (L' := [(4, (1, 1)), (0, (4, x0)), (1, (1, x1)), (3, (0, x3))]) D rfl nl_31 rfl rfl fun D =>
    j_ic (pc := 3) D rfl fun D =>
    j_ist (pc := 4) (L' := [(6, (0, 1)), (4, (1, 1)), (0, (4, x0)), (1, (1, x1)), (3, (0, x3))]) D rfl nl_31 rfl rfl fun D =>
    fk_jump cut_31_6 rfl rfl
/-! 32 StatuteHouse.writeRule(LStatuteHouse$Sight;LStatuteHouse$Rule;)V -/
theorem cd_32 : fi_code 32 = prog_1_method_43_code := rfl
theorem hx_32 : ∀ pc, fi_hat 32 pc = none := fun pc => by unfold fi_hat; rw [show fi_hh 32 = [] from rfl]; rfl
theorem rt_32 : fi_ret 32 = none := rfl
theorem nl_32 : fi_nl 32 = 3 := rfl
theorem ow_32 : fi_ow 32 = 0 := rfl
theorem cl_32 : fj_cutT.getD 32 [] = [(93, [0, 2]), (153, [0])] := rfl
theorem cut_32_93 : fj_cut 32 93 = some [0, 2] := by decide +kernel
noncomputable def c_32_93 (d : Nat) (x2 : Int) (h : fi_H) : fk_R := gG (fj_run d) 32 93 [(0, (4, 303)), (2, (4, x2))] [] h
theorem cut_32_153 : fj_cut 32 153 = some [0] := by decide +kernel
noncomputable def c_32_153 (d : Nat) (h : fi_H) : fk_R := gG (fj_run d) 32 153 [(0, (4, 303))] [] h
theorem e_32_93 (d : Nat) (x2 : Int) {h : fi_H} (H : Shp h) : c_32_93 d x2 h =
  if h 0 x2.toNat 0 = 117 then
  if 0 ≤ h 137 x2.toNat 0 ∧ h 137 x2.toNat 0 < 40 then
  if h 0 (h 12 320 (h 137 x2.toNat 0).toNat).toNat 0 = 124 then
  dv_ (fi_vt 138 (h 0 (h 270 303 0).toNat 0)) fun m7 => cv_ (fj_run d m7 h [(4, h 270 303 0), (4, h 321 (h 12 320 (h 137 x2.toNat 0).toNat).toNat 0)])
    (fun h4 =>
    dv_ (fi_vt 138 (h4 0 (h4 270 303 0).toNat 0)) fun m11 => cv_ (fj_run d m11 h4 [(4, h4 270 303 0), (4, 77)])
      (fun h8 =>
      dv_ (fi_vt 145 (h8 0 (h8 140 x2.toNat 0).toNat 0)) fun m15 => cv_ (fj_run d m15 h8 [(4, h8 140 x2.toNat 0)])
        (fun h12 =>
        if h12 141 x2.toNat 0 = 0 then
          c_32_153 d h12
        else
          dv_ (fi_vt 138 (h12 0 (h12 270 303 0).toNat 0)) fun m19 => cv_ (fj_run d m19 h12 [(4, h12 270 303 0), (4, 161)])
            (fun h16 =>
            dv_ (fi_vt 145 (h16 0 (h16 141 x2.toNat 0).toNat 0)) fun m23 => cv_ (fj_run d m23 h16 [(4, h16 141 x2.toNat 0)])
              (fun h20 =>
              c_32_153 d h20)
              (fun q22 h20 => tx_ q22 h20))
            (fun q18 h16 => tx_ q18 h16))
        (fun q14 h12 => tx_ q14 h12))
      (fun q10 h8 => tx_ q10 h8))
    (fun q6 h4 => tx_ q6 h4)
  else none
  else none
  else none := by
  unfold c_32_93
  exact
    have D : fk_D 32 [(93, some [0, 2], .aload_n 0, 1, 0, 0, 0), (94, none, .getfield 457, 3, 270, 100, 12), (97, none, .aload_n 0, 1, 0, 0, 0), (98, none, .getfield 255, 3, 214, 100, 12), (101, none, .aload_n 2, 1, 0, 0, 0), (102, none, .getfield 378, 3, 137, (-117), 10), (105, none, .aaload, 1, 0, 0, 0), (106, none, .getfield 469, 3, 321, (-124), 12), (109, none, .invokevirtual 463, 3, 1, 138, 0), (112, none, .aload_n 0, 1, 0, 0, 0), (113, none, .getfield 457, 3, 270, 100, 12), (116, none, .ldc_w 517, 3, 4, 77, 0), (119, none, .invokevirtual 463, 3, 1, 138, 0), (122, none, .aload_n 2, 1, 0, 0, 0), (123, none, .getfield 402, 3, 140, 117, 12), (126, none, .invokevirtual 519, 3, 0, 145, 0), (129, none, .aload_n 2, 1, 0, 0, 0), (130, none, .getfield 393, 3, 141, 117, 12), (133, none, .ifnull 20, 3, 153, 0, 0), (136, none, .aload_n 0, 1, 0, 0, 0)] := fq_of2 cd_32 ow_32 cl_32 rfl (pc := 93) (by decide +kernel)
    j_aldn (pc := 93) D rfl rfl rfl fun D =>
    j_gf (pc := 94) (a := 303) D rfl rfl (by decide) rfl (s0_303 H) rfl fun D =>
    j_aldn (pc := 97) D rfl rfl rfl fun D =>
    j_gfc (pc := 98) (a := 303) D rfl rfl (by decide) rfl (s0_303 H) rfl (sf_214_303 H) fun D =>
    j_aldn (pc := 101) D rfl rfl rfl fun D =>
    j_gfo (pc := 102) H.2.1 D rfl rfl rfl rfl fun kc1 D =>
    j_al (pc := 105) (a := 320) (e := 12) D rfl rfl rfl (by decide) (s0_320 H) (s1_320 H) ⟨rfl, rfl, rfl⟩ rfl gn fun qb2 D =>
    j_gfo (pc := 106) H.2.1 D rfl rfl rfl rfl fun kc3 D =>
    j_ivuv (pc := 109) (dd := 138) (a := [(4, h 321 (h 12 320 (h 137 x2.toNat 0).toNat).toNat 0)]) (rest := []) H.2.1 D rfl rfl rfl rfl rfl (fun m7 h4 e1 D =>
      have T := fj_run_ok _ _ _ _ _ _ H.1 e1
      have kc1 := cls_st H.1 T.2 kc1 (by decide)
      have H := shp_st H T
      j_aldn (pc := 112) D rfl rfl rfl fun D =>
      j_gf (pc := 113) (a := 303) D rfl rfl (by decide) rfl (s0_303 H) rfl fun D =>
      j_ldcw (pc := 116) D rfl fun D =>
      j_ivuv (pc := 119) (dd := 138) (a := [(4, 77)]) (rest := []) H.2.1 D rfl rfl rfl rfl rfl (fun m11 h8 e1 D =>
        have T := fj_run_ok _ _ _ _ _ _ H.1 e1
        have kc1 := cls_st H.1 T.2 kc1 (by decide)
        have H := shp_st H T
        j_aldn (pc := 122) D rfl rfl rfl fun D =>
        j_gf (pc := 123) (a := x2.toNat) D rfl rfl (nz_cls H.2.1 kc1 (by decide)) rfl kc1 rfl fun D =>
        j_ivuv (pc := 126) (dd := 145) (a := []) (rest := []) H.2.1 D rfl rfl rfl rfl rfl (fun m15 h12 e1 D =>
          have T := fj_run_ok _ _ _ _ _ _ H.1 e1
          have kc1 := cls_st H.1 T.2 kc1 (by decide)
          have H := shp_st H T
          j_aldn (pc := 129) D rfl rfl rfl fun D =>
          j_gf (pc := 130) (a := x2.toNat) D rfl rfl (nz_cls H.2.1 kc1 (by decide)) rfl kc1 rfl fun D =>
          j_null (pc := 133) D rfl (fun q =>
            fk_jump cut_32_153 rfl rfl) (fun q D =>
            j_aldn (pc := 136) D rfl rfl rfl fun D =>
            have D : fk_D 32 [(137, none, .getfield 457, 3, 270, 100, 12), (140, none, .ldc_w 522, 3, 4, 161, 0), (143, none, .invokevirtual 463, 3, 1, 138, 0), (146, none, .aload_n 2, 1, 0, 0, 0), (147, none, .getfield 393, 3, 141, 117, 12), (150, none, .invokevirtual 519, 3, 0, 145, 0)] := fq_of2 cd_32 ow_32 cl_32 rfl (pc := 137) (by decide +kernel)
            j_gf (pc := 137) (a := 303) D rfl rfl (by decide) rfl (s0_303 H) rfl fun D =>
            j_ldcw (pc := 140) D rfl fun D =>
            j_ivuv (pc := 143) (dd := 138) (a := [(4, 161)]) (rest := []) H.2.1 D rfl rfl rfl rfl rfl (fun m19 h16 e1 D =>
              have T := fj_run_ok _ _ _ _ _ _ H.1 e1
              have kc1 := cls_st H.1 T.2 kc1 (by decide)
              have H := shp_st H T
              j_aldn (pc := 146) D rfl rfl rfl fun D =>
              j_gf (pc := 147) (a := x2.toNat) D rfl rfl (nz_cls H.2.1 kc1 (by decide)) rfl kc1 rfl fun D =>
              j_ivuv (pc := 150) (dd := 145) (a := []) (rest := []) H.2.1 D rfl rfl rfl rfl rfl (fun m23 h20 e1 D =>
                have T := fj_run_ok _ _ _ _ _ _ H.1 e1
                have kc1 := cls_st H.1 T.2 kc1 (by decide)
                have H := shp_st H T
                fk_jump cut_32_153 rfl rfl) (fun m23 q22 h20 e1 =>
                j_tx (hx_32 _))) (fun m19 q18 h16 e1 =>
              j_tx (hx_32 _)))) (fun m15 q14 h12 e1 =>
          j_tx (hx_32 _))) (fun m11 q10 h8 e1 =>
        j_tx (hx_32 _))) (fun m7 q6 h4 e1 =>
      j_tx (hx_32 _))
theorem e_32_153 (d : Nat) {h : fi_H} (H : Shp h) : c_32_153 d h =
  dv_ (fi_vt 138 (h 0 (h 270 303 0).toNat 0)) fun m4 => cv_ (fj_run d m4 h [(4, h 270 303 0), (4, 163)])
    (fun h1 =>
    some (.inl none, h1))
    (fun q3 h1 => tx_ q3 h1) := by
  unfold c_32_153
  exact
    have D : fk_D 32 [(153, some [0], .aload_n 0, 1, 0, 0, 0), (154, none, .getfield 457, 3, 270, 100, 12), (157, none, .ldc_w 524, 3, 4, 163, 0), (160, none, .invokevirtual 463, 3, 1, 138, 0), (163, none, .return_, 1, 0, 0, 0)] := fq_of2 cd_32 ow_32 cl_32 rfl (pc := 153) (by decide +kernel)
    j_aldn (pc := 153) D rfl rfl rfl fun D =>
    j_gf (pc := 154) (a := 303) D rfl rfl (by decide) rfl (s0_303 H) rfl fun D =>
    j_ldcw (pc := 157) D rfl fun D =>
    j_ivuv (pc := 160) (dd := 138) (a := [(4, 163)]) (rest := []) H.2.1 D rfl rfl rfl rfl rfl (fun m4 h1 e1 D =>
      have T := fj_run_ok _ _ _ _ _ _ H.1 e1
      have H := shp_st H T
      j_vret D rt_32) (fun m4 q3 h1 e1 =>
      j_tx (hx_32 _))
theorem m_32 (d : Nat) (x1 x2 : Int) {h : fi_H} (H : Shp h) : fj_run (d + 1) 32 h [(4, 303), (4, x1), (4, x2)] =
  dv_ (fi_vt 142 (h 0 x1.toNat 0)) fun m4 => ca_ (fj_run d m4 h [(4, x1), (4, x2)]) 0
    (fun v2 h1 =>
    if v2 = 0 then
      if h1 0 x2.toNat 0 = 117 then
      if h1 142 x2.toNat 0 = 0 then
        if h1 138 x2.toNat 0 = (-1) then
          c_32_93 d x2 h1
        else
          dv_ (fi_vt 138 (h1 0 (h1 270 303 0).toNat 0)) fun m9 => cv_ (fj_run d m9 h1 [(4, h1 270 303 0), (4, 75)])
            (fun h6 =>
            dv_ (fi_vt 144 (h6 0 (h6 270 303 0).toNat 0)) fun m13 => cv_ (fj_run d m13 h6 [(4, h6 270 303 0), (0, h6 138 x2.toNat 0)])
              (fun h10 =>
              dv_ (fi_vt 139 (h10 0 (h10 270 303 0).toNat 0)) fun m17 => cv_ (fj_run d m17 h10 [(4, h10 270 303 0), (0, 47)])
                (fun h14 =>
                dv_ (fi_vt 141 (h14 0 (h14 270 303 0).toNat 0)) fun m21 => cv_ (fj_run d m21 h14 [(4, h14 270 303 0), (1, wI (h14 139 x2.toNat 0)), (0, 1)])
                  (fun h18 =>
                  dv_ (fi_vt 138 (h18 0 (h18 270 303 0).toNat 0)) fun m25 => cv_ (fj_run d m25 h18 [(4, h18 270 303 0), (4, 71)])
                    (fun h22 =>
                    c_32_93 d x2 h22)
                    (fun q24 h22 => tx_ q24 h22))
                  (fun q20 h18 => tx_ q20 h18))
                (fun q16 h14 => tx_ q16 h14))
              (fun q12 h10 => tx_ q12 h10))
            (fun q8 h6 => tx_ q8 h6)
      else
        cv_ (fj_run d 33 h1 [(4, 303), (4, x2)])
          (fun h26 =>
          some (.inl none, h26))
          (fun q28 h26 => tx_ q28 h26)
      else none
    else
      dv_ (fi_vt 138 (h1 0 (h1 270 303 0).toNat 0)) fun m32 => cv_ (fj_run d m32 h1 [(4, h1 270 303 0), (4, 65)])
        (fun h29 =>
        some (.inl none, h29))
        (fun q31 h29 => tx_ q31 h29))
    (fun q3 h1 => tx_ q3 h1) := by
  rw [fj_run_eq d (by decide) h [(4, 303), (4, x1), (4, x2)] (Nat.le_of_ble_eq_true (by rw [nl_32]; rfl))]
  show gG (fj_run d) 32 0 [(0, (4, 303)), (1, (4, x1)), (2, (4, x2))] [] h = _
  exact
    have D : fk_D 32 [(0, none, .aload_n 1, 1, 0, 0, 0), (1, none, .aload_n 2, 1, 0, 0, 0), (2, none, .invokevirtual 496, 3, 1, 142, 1), (5, none, .ifCond .eq 14, 3, 19, 0, 0), (8, none, .aload_n 0, 1, 0, 0, 0), (9, none, .getfield 457, 3, 270, 100, 12), (12, none, .ldc_w 500, 3, 4, 65, 0), (15, none, .invokevirtual 463, 3, 1, 138, 0), (18, none, .return_, 1, 0, 0, 0)] := fq_of2 cd_32 ow_32 cl_32 rfl (pc := 0) (by decide +kernel)
    j_aldn (pc := 0) D rfl rfl rfl fun D =>
    j_aldn (pc := 1) D rfl rfl rfl fun D =>
    j_ivu (pc := 2) (dd := 142) (a := [(4, x2)]) (rest := []) H.2.1 D rfl rfl rfl rfl rfl (fun m4 v2 h1 e1 D =>
      have T := fj_run_ok _ _ _ _ _ _ H.1 e1
      have H := shp_st H T
      j_ifeq (pc := 5) D rfl (fun q =>
        have D : fk_D 32 [(19, none, .aload_n 2, 1, 0, 0, 0), (20, none, .getfield 474, 3, 142, (-117), 12), (23, none, .ifnull 9, 3, 32, 0, 0), (26, none, .aload_n 0, 1, 0, 0, 0), (27, none, .aload_n 2, 1, 0, 0, 0), (28, none, .invokevirtual 502, 3, 1, 143, 0), (31, none, .return_, 1, 0, 0, 0)] := fq_of2 cd_32 ow_32 cl_32 rfl (pc := 19) (by decide +kernel)
        j_aldn (pc := 19) D rfl rfl rfl fun D =>
        j_gfo (pc := 20) H.2.1 D rfl rfl rfl rfl fun kc5 D =>
        j_null (pc := 23) D rfl (fun q =>
          have D : fk_D 32 [(32, none, .aload_n 2, 1, 0, 0, 0), (33, none, .getfield 506, 3, 138, 117, 10), (36, none, .iconst (-1), 1, 0, (-1), 0), (37, none, .if_icmp .eq 56, 3, 93, 0, 0), (40, none, .aload_n 0, 1, 0, 0, 0), (41, none, .getfield 457, 3, 270, 100, 12), (44, none, .ldc_w 509, 3, 4, 75, 0), (47, none, .invokevirtual 463, 3, 1, 138, 0), (50, none, .aload_n 0, 1, 0, 0, 0), (51, none, .getfield 457, 3, 270, 100, 12), (54, none, .aload_n 2, 1, 0, 0, 0), (55, none, .getfield 506, 3, 138, 117, 10), (58, none, .invokevirtual 511, 3, 1, 144, 0), (61, none, .aload_n 0, 1, 0, 0, 0), (62, none, .getfield 457, 3, 270, 100, 12), (65, none, .bipush 47, 2, 0, 47, 0), (67, none, .invokevirtual 477, 3, 1, 139, 0), (70, none, .aload_n 0, 1, 0, 0, 0), (71, none, .getfield 457, 3, 270, 100, 12), (74, none, .aload_n 2, 1, 0, 0, 0)] := fq_of2 cd_32 ow_32 cl_32 rfl (pc := 32) (by decide +kernel)
          j_aldn (pc := 32) D rfl rfl rfl fun D =>
          j_gf (pc := 33) (a := x2.toNat) D rfl rfl (nz_cls H.2.1 kc5 (by decide)) rfl kc5 rfl fun D =>
          j_ic (pc := 36) D rfl fun D =>
          j_ieq (pc := 37) D rfl (fun q =>
            fk_jump cut_32_93 rfl rfl) (fun q D =>
            j_aldn (pc := 40) D rfl rfl rfl fun D =>
            j_gf (pc := 41) (a := 303) D rfl rfl (by decide) rfl (s0_303 H) rfl fun D =>
            j_ldcw (pc := 44) D rfl fun D =>
            j_ivuv (pc := 47) (dd := 138) (a := [(4, 75)]) (rest := []) H.2.1 D rfl rfl rfl rfl rfl (fun m9 h6 e1 D =>
              have T := fj_run_ok _ _ _ _ _ _ H.1 e1
              have kc5 := cls_st H.1 T.2 kc5 (by decide)
              have H := shp_st H T
              j_aldn (pc := 50) D rfl rfl rfl fun D =>
              j_gf (pc := 51) (a := 303) D rfl rfl (by decide) rfl (s0_303 H) rfl fun D =>
              j_aldn (pc := 54) D rfl rfl rfl fun D =>
              j_gf (pc := 55) (a := x2.toNat) D rfl rfl (nz_cls H.2.1 kc5 (by decide)) rfl kc5 rfl fun D =>
              j_ivuv (pc := 58) (dd := 144) (a := [(0, h6 138 x2.toNat 0)]) (rest := []) H.2.1 D rfl rfl rfl rfl rfl (fun m13 h10 e1 D =>
                have T := fj_run_ok _ _ _ _ _ _ H.1 e1
                have kc5 := cls_st H.1 T.2 kc5 (by decide)
                have H := shp_st H T
                j_aldn (pc := 61) D rfl rfl rfl fun D =>
                j_gf (pc := 62) (a := 303) D rfl rfl (by decide) rfl (s0_303 H) rfl fun D =>
                j_bp (pc := 65) D rfl fun D =>
                j_ivuv (pc := 67) (dd := 139) (a := [(0, 47)]) (rest := []) H.2.1 D rfl rfl rfl rfl rfl (fun m17 h14 e1 D =>
                  have T := fj_run_ok _ _ _ _ _ _ H.1 e1
                  have kc5 := cls_st H.1 T.2 kc5 (by decide)
                  have H := shp_st H T
                  j_aldn (pc := 70) D rfl rfl rfl fun D =>
                  j_gf (pc := 71) (a := 303) D rfl rfl (by decide) rfl (s0_303 H) rfl fun D =>
                  j_aldn (pc := 74) D rfl rfl rfl fun D =>
                  have D : fk_D 32 [(75, none, .getfield 514, 3, 139, 117, 10), (78, none, .i2l, 1, 0, 0, 0), (79, none, .iconst 1, 1, 0, 1, 0), (80, none, .invokevirtual 491, 3, 2, 141, 0), (83, none, .aload_n 0, 1, 0, 0, 0), (84, none, .getfield 457, 3, 270, 100, 12), (87, none, .ldc_w 483, 3, 4, 71, 0), (90, none, .invokevirtual 463, 3, 1, 138, 0)] := fq_of2 cd_32 ow_32 cl_32 rfl (pc := 75) (by decide +kernel)
                  j_gf (pc := 75) (a := x2.toNat) D rfl rfl (nz_cls H.2.1 kc5 (by decide)) rfl kc5 rfl fun D =>
                  j_i2l (pc := 78) D rfl fun D =>
                  j_ic (pc := 79) D rfl fun D =>
                  j_ivuv (pc := 80) (dd := 141) (a := [(1, wI (h14 139 x2.toNat 0)), (0, 1)]) (rest := []) H.2.1 D rfl rfl rfl rfl rfl (fun m21 h18 e1 D =>
                    have T := fj_run_ok _ _ _ _ _ _ H.1 e1
                    have kc5 := cls_st H.1 T.2 kc5 (by decide)
                    have H := shp_st H T
                    j_aldn (pc := 83) D rfl rfl rfl fun D =>
                    j_gf (pc := 84) (a := 303) D rfl rfl (by decide) rfl (s0_303 H) rfl fun D =>
                    j_ldcw (pc := 87) D rfl fun D =>
                    j_ivuv (pc := 90) (dd := 138) (a := [(4, 71)]) (rest := []) H.2.1 D rfl rfl rfl rfl rfl (fun m25 h22 e1 D =>
                      have T := fj_run_ok _ _ _ _ _ _ H.1 e1
                      have kc5 := cls_st H.1 T.2 kc5 (by decide)
                      have H := shp_st H T
                      fk_jump cut_32_93 rfl rfl) (fun m25 q24 h22 e1 =>
                      j_tx (hx_32 _))) (fun m21 q20 h18 e1 =>
                    j_tx (hx_32 _))) (fun m17 q16 h14 e1 =>
                  j_tx (hx_32 _))) (fun m13 q12 h10 e1 =>
                j_tx (hx_32 _))) (fun m9 q8 h6 e1 =>
              j_tx (hx_32 _)))) (fun q D =>
          j_aldn (pc := 26) D rfl rfl rfl fun D =>
          j_aldn (pc := 27) D rfl rfl rfl fun D =>
          j_ivv (pc := 28) (m := 33) (dd := 143) (a := [(4, x2)]) (rest := []) D rfl rfl rfl rfl rfl (by decide) (s0_303 H) (by decide +kernel) (fun h26 e1 D =>
            have T := fj_run_ok _ _ _ _ _ _ H.1 e1
            have kc5 := cls_st H.1 T.2 kc5 (by decide)
            have H := shp_st H T
            j_vret D rt_32) (fun q28 h26 e1 =>
            j_tx (hx_32 _)))) (fun q D =>
        j_aldn (pc := 8) D rfl rfl rfl fun D =>
        j_gf (pc := 9) (a := 303) D rfl rfl (by decide) rfl (s0_303 H) rfl fun D =>
        j_ldcw (pc := 12) D rfl fun D =>
        j_ivuv (pc := 15) (dd := 138) (a := [(4, 65)]) (rest := []) H.2.1 D rfl rfl rfl rfl rfl (fun m32 h29 e1 D =>
          have T := fj_run_ok _ _ _ _ _ _ H.1 e1
          have H := shp_st H T
          j_vret D rt_32) (fun m32 q31 h29 e1 =>
          j_tx (hx_32 _)))) (fun m4 q3 h1 e1 =>
      j_tx (hx_32 _))
/-! 33 StatuteHouse.writeTable(LStatuteHouse$Rule;)V -/
theorem cd_33 : fi_code 33 = prog_1_method_42_code := rfl
theorem hx_33 : ∀ pc, fi_hat 33 pc = none := fun pc => by unfold fi_hat; rw [show fi_hh 33 = [] from rfl]; rfl
theorem rt_33 : fi_ret 33 = none := rfl
theorem nl_33 : fi_nl 33 = 3 := rfl
theorem ow_33 : fi_ow 33 = 0 := rfl
theorem cl_33 : fj_cutT.getD 33 [] = [(41, [0, 1, 2]), (154, [0, 1, 2])] := rfl
theorem cut_33_41 : fj_cut 33 41 = some [0, 1, 2] := by decide +kernel
noncomputable def c_33_41 (d : Nat) (x1 x2 : Int) (h : fi_H) : fk_R := gG (fj_run d) 33 41 [(0, (4, 303)), (1, (4, x1)), (2, (0, x2))] [] h
theorem cut_33_154 : fj_cut 33 154 = some [0, 1, 2] := by decide +kernel
noncomputable def c_33_154 (d : Nat) (x1 x2 : Int) (h : fi_H) : fk_R := gG (fj_run d) 33 154 [(0, (4, 303)), (1, (4, x1)), (2, (0, x2))] [] h
theorem e_33_41 (d : Nat) (x1 x2 : Int) {h : fi_H} (H : Shp h) : c_33_41 d x1 x2 h =
  if h 0 x1.toNat 0 = 117 then
  if fk_isA (h 0 (h 142 x1.toNat 0).toNat 0) = true then
  if x2 < h 1 (h 142 x1.toNat 0).toNat 0 then
    dv_ (fi_vt 139 (h 0 (h 270 303 0).toNat 0)) fun m5 => cv_ (fj_run d m5 h [(4, h 270 303 0), (0, 32)])
      (fun h2 =>
      if h2 0 (h2 142 x1.toNat 0).toNat 0 = 10 ∧ 0 ≤ x2 ∧ x2 < h2 1 (h2 142 x1.toNat 0).toNat 0 then
      dv_ (fi_vt 140 (h2 0 (h2 270 303 0).toNat 0)) fun m9 => cv_ (fj_run d m9 h2 [(4, h2 270 303 0), (1, wI (h2 10 (h2 142 x1.toNat 0).toNat x2.toNat))])
        (fun h6 =>
        dv_ (fi_vt 138 (h6 0 (h6 270 303 0).toNat 0)) fun m13 => cv_ (fj_run d m13 h6 [(4, h6 270 303 0), (4, 71)])
          (fun h10 =>
          if 0 ≤ h10 137 x1.toNat 0 ∧ h10 137 x1.toNat 0 < 40 then
          if h10 0 (h10 12 320 (h10 137 x1.toNat 0).toNat).toNat 0 = 124 then
          if h10 324 (h10 12 320 (h10 137 x1.toNat 0).toNat).toNat 0 = 4 then
            if h10 0 (h10 143 x1.toNat 0).toNat 0 = 10 ∧ 0 ≤ x2 ∧ x2 < h10 1 (h10 143 x1.toNat 0).toNat 0 then
            dv_ (fi_vt 140 (h10 0 (h10 270 303 0).toNat 0)) fun m19 => cv_ (fj_run d m19 h10 [(4, h10 270 303 0), (1, wI (h10 10 (h10 143 x1.toNat 0).toNat x2.toNat))])
              (fun h16 =>
              c_33_154 d x1 x2 h16)
              (fun q18 h16 => tx_ q18 h16)
            else none
          else
            if h10 0 (h10 143 x1.toNat 0).toNat 0 = 10 ∧ 0 ≤ x2 ∧ x2 < h10 1 (h10 143 x1.toNat 0).toNat 0 then
            if h10 0 (h10 144 x1.toNat 0).toNat 0 = 10 ∧ 0 ≤ x2 ∧ x2 < h10 1 (h10 144 x1.toNat 0).toNat 0 then
            if wI (h10 10 (h10 144 x1.toNat 0).toNat x2.toNat) = 0 then none else
            dv_ (fi_vt 141 (h10 0 (h10 270 303 0).toNat 0)) fun m23 => cv_ (fj_run d m23 h10 [(4, h10 270 303 0), (1, lq_ (wJ (100 * (wI (h10 10 (h10 143 x1.toNat 0).toNat x2.toNat)))) (wI (h10 10 (h10 144 x1.toNat 0).toNat x2.toNat))), (0, 1)])
              (fun h20 =>
              dv_ (fi_vt 139 (h20 0 (h20 270 303 0).toNat 0)) fun m27 => cv_ (fj_run d m27 h20 [(4, h20 270 303 0), (0, 37)])
                (fun h24 =>
                c_33_154 d x1 x2 h24)
                (fun q26 h24 => tx_ q26 h24))
              (fun q22 h20 => tx_ q22 h20)
            else none
            else none
          else none
          else none)
          (fun q12 h10 => tx_ q12 h10))
        (fun q8 h6 => tx_ q8 h6)
      else none)
      (fun q4 h2 => tx_ q4 h2)
  else
    dv_ (fi_vt 138 (h 0 (h 270 303 0).toNat 0)) fun m31 => cv_ (fj_run d m31 h [(4, h 270 303 0), (4, 73)])
      (fun h28 =>
      some (.inl none, h28))
      (fun q30 h28 => tx_ q30 h28)
  else none
  else none := by
  unfold c_33_41
  exact
    have D : fk_D 33 [(41, some [0, 1, 2], .iload_n 2, 1, 0, 0, 0), (42, none, .aload_n 1, 1, 0, 0, 0), (43, none, .getfield 474, 3, 142, (-117), 12), (46, none, .arraylength, 1, 0, 0, 0), (47, none, .if_icmp .ge 122, 3, 169, 0, 0), (50, none, .aload_n 0, 1, 0, 0, 0), (51, none, .getfield 457, 3, 270, 100, 12), (54, none, .bipush 32, 2, 0, 32, 0), (56, none, .invokevirtual 477, 3, 1, 139, 0), (59, none, .aload_n 0, 1, 0, 0, 0), (60, none, .getfield 457, 3, 270, 100, 12), (63, none, .aload_n 1, 1, 0, 0, 0), (64, none, .getfield 474, 3, 142, 117, 12), (67, none, .iload_n 2, 1, 0, 0, 0), (68, none, .iaload, 1, 0, 0, 0), (69, none, .i2l, 1, 0, 0, 0), (70, none, .invokevirtual 479, 3, 1, 140, 0), (73, none, .aload_n 0, 1, 0, 0, 0), (74, none, .getfield 457, 3, 270, 100, 12), (77, none, .ldc_w 483, 3, 4, 71, 0)] := fq_of2 cd_33 ow_33 cl_33 rfl (pc := 41) (by decide +kernel)
    j_ildn (pc := 41) D rfl rfl rfl fun D =>
    j_aldn (pc := 42) D rfl rfl rfl fun D =>
    j_gfo (pc := 43) H.2.1 D rfl rfl rfl rfl fun kc1 D =>
    j_lenu (pc := 46) H.2.1 D rfl fun q D =>
    j_ige (pc := 47) D rfl (fun q D =>
      j_aldn (pc := 50) D rfl rfl rfl fun D =>
      j_gf (pc := 51) (a := 303) D rfl rfl (by decide) rfl (s0_303 H) rfl fun D =>
      j_bp (pc := 54) D rfl fun D =>
      j_ivuv (pc := 56) (dd := 139) (a := [(0, 32)]) (rest := []) H.2.1 D rfl rfl rfl rfl rfl (fun m5 h2 e1 D =>
        have T := fj_run_ok _ _ _ _ _ _ H.1 e1
        have kc1 := cls_st H.1 T.2 kc1 (by decide)
        have H := shp_st H T
        j_aldn (pc := 59) D rfl rfl rfl fun D =>
        j_gf (pc := 60) (a := 303) D rfl rfl (by decide) rfl (s0_303 H) rfl fun D =>
        j_aldn (pc := 63) D rfl rfl rfl fun D =>
        j_gf (pc := 64) (a := x1.toNat) D rfl rfl (nz_cls H.2.1 kc1 (by decide)) rfl kc1 rfl fun D =>
        j_ildn (pc := 67) D rfl rfl rfl fun D =>
        j_alp (pc := 68) (e := 10) H.2.1 D rfl rfl ⟨rfl, rfl, rfl⟩ rfl fun q q2 D =>
        j_i2l (pc := 69) D rfl fun D =>
        j_ivuv (pc := 70) (dd := 140) (a := [(1, wI (h2 10 (h2 142 x1.toNat 0).toNat x2.toNat))]) (rest := []) H.2.1 D rfl rfl rfl rfl rfl (fun m9 h6 e1 D =>
          have T := fj_run_ok _ _ _ _ _ _ H.1 e1
          have kc1 := cls_st H.1 T.2 kc1 (by decide)
          have H := shp_st H T
          j_aldn (pc := 73) D rfl rfl rfl fun D =>
          j_gf (pc := 74) (a := 303) D rfl rfl (by decide) rfl (s0_303 H) rfl fun D =>
          j_ldcw (pc := 77) D rfl fun D =>
          have D : fk_D 33 [(80, none, .invokevirtual 463, 3, 1, 138, 0), (83, none, .aload_n 0, 1, 0, 0, 0), (84, none, .getfield 255, 3, 214, 100, 12), (87, none, .aload_n 1, 1, 0, 0, 0), (88, none, .getfield 378, 3, 137, 117, 10), (91, none, .aaload, 1, 0, 0, 0), (92, none, .getfield 283, 3, 324, (-124), 12), (95, none, .getstatic 184, 3, 4, 4, 0), (98, none, .if_acmp .ne 20, 3, 118, 0, 0), (101, none, .aload_n 0, 1, 0, 0, 0), (102, none, .getfield 457, 3, 270, 100, 12), (105, none, .aload_n 1, 1, 0, 0, 0), (106, none, .getfield 485, 3, 143, 117, 12), (109, none, .iload_n 2, 1, 0, 0, 0), (110, none, .iaload, 1, 0, 0, 0), (111, none, .i2l, 1, 0, 0, 0), (112, none, .invokevirtual 479, 3, 1, 140, 0), (115, none, .goto 39, 3, 154, 0, 0)] := fq_of2 cd_33 ow_33 cl_33 rfl (pc := 80) (by decide +kernel)
          j_ivuv (pc := 80) (dd := 138) (a := [(4, 71)]) (rest := []) H.2.1 D rfl rfl rfl rfl rfl (fun m13 h10 e1 D =>
            have T := fj_run_ok _ _ _ _ _ _ H.1 e1
            have kc1 := cls_st H.1 T.2 kc1 (by decide)
            have H := shp_st H T
            j_aldn (pc := 83) D rfl rfl rfl fun D =>
            j_gfc (pc := 84) (a := 303) D rfl rfl (by decide) rfl (s0_303 H) rfl (sf_214_303 H) fun D =>
            j_aldn (pc := 87) D rfl rfl rfl fun D =>
            j_gf (pc := 88) (a := x1.toNat) D rfl rfl (nz_cls H.2.1 kc1 (by decide)) rfl kc1 rfl fun D =>
            j_al (pc := 91) (a := 320) (e := 12) D rfl rfl rfl (by decide) (s0_320 H) (s1_320 H) ⟨rfl, rfl, rfl⟩ rfl gn fun qb14 D =>
            j_gfo (pc := 92) H.2.1 D rfl rfl rfl rfl fun kc15 D =>
            j_gs (pc := 95) D rfl fun D =>
            j_ane (pc := 98) D rfl (fun q D =>
              j_aldn (pc := 101) D rfl rfl rfl fun D =>
              j_gf (pc := 102) (a := 303) D rfl rfl (by decide) rfl (s0_303 H) rfl fun D =>
              j_aldn (pc := 105) D rfl rfl rfl fun D =>
              j_gf (pc := 106) (a := x1.toNat) D rfl rfl (nz_cls H.2.1 kc1 (by decide)) rfl kc1 rfl fun D =>
              j_ildn (pc := 109) D rfl rfl rfl fun D =>
              j_alp (pc := 110) (e := 10) H.2.1 D rfl rfl ⟨rfl, rfl, rfl⟩ rfl fun q q2 D =>
              j_i2l (pc := 111) D rfl fun D =>
              j_ivuv (pc := 112) (dd := 140) (a := [(1, wI (h10 10 (h10 143 x1.toNat 0).toNat x2.toNat))]) (rest := []) H.2.1 D rfl rfl rfl rfl rfl (fun m19 h16 e1 D =>
                have T := fj_run_ok _ _ _ _ _ _ H.1 e1
                have kc1 := cls_st H.1 T.2 kc1 (by decide)
                have H := shp_st H T
                j_goto (pc := 115) D rfl <|
                fk_jump cut_33_154 rfl rfl) (fun m19 q18 h16 e1 =>
                j_tx (hx_33 _))) (fun q =>
              have D : fk_D 33 [(118, none, .aload_n 0, 1, 0, 0, 0), (119, none, .getfield 457, 3, 270, 100, 12), (122, none, .ldc2_w 487, 3, 1, 100, 0), (125, none, .aload_n 1, 1, 0, 0, 0), (126, none, .getfield 485, 3, 143, 117, 12), (129, none, .iload_n 2, 1, 0, 0, 0), (130, none, .iaload, 1, 0, 0, 0), (131, none, .i2l, 1, 0, 0, 0), (132, none, .lmul, 1, 0, 0, 0), (133, none, .aload_n 1, 1, 0, 0, 0), (134, none, .getfield 489, 3, 144, 117, 12), (137, none, .iload_n 2, 1, 0, 0, 0), (138, none, .iaload, 1, 0, 0, 0), (139, none, .i2l, 1, 0, 0, 0), (140, none, .ldiv, 1, 0, 0, 0), (141, none, .iconst 1, 1, 0, 1, 0), (142, none, .invokevirtual 491, 3, 2, 141, 0), (145, none, .aload_n 0, 1, 0, 0, 0), (146, none, .getfield 457, 3, 270, 100, 12), (149, none, .bipush 37, 2, 0, 37, 0)] := fq_of2 cd_33 ow_33 cl_33 rfl (pc := 118) (by decide +kernel)
              j_aldn (pc := 118) D rfl rfl rfl fun D =>
              j_gf (pc := 119) (a := 303) D rfl rfl (by decide) rfl (s0_303 H) rfl fun D =>
              j_ldc2 (pc := 122) D rfl fun D =>
              j_aldn (pc := 125) D rfl rfl rfl fun D =>
              j_gf (pc := 126) (a := x1.toNat) D rfl rfl (nz_cls H.2.1 kc1 (by decide)) rfl kc1 rfl fun D =>
              j_ildn (pc := 129) D rfl rfl rfl fun D =>
              j_alp (pc := 130) (e := 10) H.2.1 D rfl rfl ⟨rfl, rfl, rfl⟩ rfl fun q q2 D =>
              j_i2l (pc := 131) D rfl fun D =>
              j_lmul (pc := 132) D rfl fun D =>
              j_aldn (pc := 133) D rfl rfl rfl fun D =>
              j_gf (pc := 134) (a := x1.toNat) D rfl rfl (nz_cls H.2.1 kc1 (by decide)) rfl kc1 rfl fun D =>
              j_ildn (pc := 137) D rfl rfl rfl fun D =>
              j_alp (pc := 138) (e := 10) H.2.1 D rfl rfl ⟨rfl, rfl, rfl⟩ rfl fun q q2 D =>
              j_i2l (pc := 139) D rfl fun D =>
              j_ldiv (pc := 140) D rfl fun q D =>
              j_ic (pc := 141) D rfl fun D =>
              j_ivuv (pc := 142) (dd := 141) (a := [(1, lq_ (wJ (100 * (wI (h10 10 (h10 143 x1.toNat 0).toNat x2.toNat)))) (wI (h10 10 (h10 144 x1.toNat 0).toNat x2.toNat))), (0, 1)]) (rest := []) H.2.1 D rfl rfl rfl rfl rfl (fun m23 h20 e1 D =>
                have T := fj_run_ok _ _ _ _ _ _ H.1 e1
                have kc1 := cls_st H.1 T.2 kc1 (by decide)
                have H := shp_st H T
                j_aldn (pc := 145) D rfl rfl rfl fun D =>
                j_gf (pc := 146) (a := 303) D rfl rfl (by decide) rfl (s0_303 H) rfl fun D =>
                j_bp (pc := 149) D rfl fun D =>
                have D : fk_D 33 [(151, none, .invokevirtual 477, 3, 1, 139, 0)] := fq_of2 cd_33 ow_33 cl_33 rfl (pc := 151) (by decide +kernel)
                j_ivuv (pc := 151) (dd := 139) (a := [(0, 37)]) (rest := []) H.2.1 D rfl rfl rfl rfl rfl (fun m27 h24 e1 D =>
                  have T := fj_run_ok _ _ _ _ _ _ H.1 e1
                  have kc1 := cls_st H.1 T.2 kc1 (by decide)
                  have H := shp_st H T
                  fk_jump cut_33_154 rfl rfl) (fun m27 q26 h24 e1 =>
                  j_tx (hx_33 _))) (fun m23 q22 h20 e1 =>
                j_tx (hx_33 _)))) (fun m13 q12 h10 e1 =>
            j_tx (hx_33 _))) (fun m9 q8 h6 e1 =>
          j_tx (hx_33 _))) (fun m5 q4 h2 e1 =>
        j_tx (hx_33 _))) (fun q =>
      have D : fk_D 33 [(169, none, .aload_n 0, 1, 0, 0, 0), (170, none, .getfield 457, 3, 270, 100, 12), (173, none, .ldc_w 494, 3, 4, 73, 0), (176, none, .invokevirtual 463, 3, 1, 138, 0), (179, none, .return_, 1, 0, 0, 0)] := fq_of2 cd_33 ow_33 cl_33 rfl (pc := 169) (by decide +kernel)
      j_aldn (pc := 169) D rfl rfl rfl fun D =>
      j_gf (pc := 170) (a := 303) D rfl rfl (by decide) rfl (s0_303 H) rfl fun D =>
      j_ldcw (pc := 173) D rfl fun D =>
      j_ivuv (pc := 176) (dd := 138) (a := [(4, 73)]) (rest := []) H.2.1 D rfl rfl rfl rfl rfl (fun m31 h28 e1 D =>
        have T := fj_run_ok _ _ _ _ _ _ H.1 e1
        have kc1 := cls_st H.1 T.2 kc1 (by decide)
        have H := shp_st H T
        j_vret D rt_33) (fun m31 q30 h28 e1 =>
        j_tx (hx_33 _)))
theorem e_33_154 (d : Nat) (x1 x2 : Int) {h : fi_H} (H : Shp h) : c_33_154 d x1 x2 h =
  dv_ (fi_vt 139 (h 0 (h 270 303 0).toNat 0)) fun m4 => cv_ (fj_run d m4 h [(4, h 270 303 0), (0, 59)])
    (fun h1 =>
    c_33_41 d x1 (wI (x2 + 1)) h1)
    (fun q3 h1 => tx_ q3 h1) := by
  unfold c_33_154
  exact
    have D : fk_D 33 [(154, some [0, 1, 2], .aload_n 0, 1, 0, 0, 0), (155, none, .getfield 457, 3, 270, 100, 12), (158, none, .bipush 59, 2, 0, 59, 0), (160, none, .invokevirtual 477, 3, 1, 139, 0), (163, none, .iinc 2 1, 3, 0, 1, 0), (166, none, .goto (-125), 3, 41, 0, 0)] := fq_of2 cd_33 ow_33 cl_33 rfl (pc := 154) (by decide +kernel)
    j_aldn (pc := 154) D rfl rfl rfl fun D =>
    j_gf (pc := 155) (a := 303) D rfl rfl (by decide) rfl (s0_303 H) rfl fun D =>
    j_bp (pc := 158) D rfl fun D =>
    j_ivuv (pc := 160) (dd := 139) (a := [(0, 59)]) (rest := []) H.2.1 D rfl rfl rfl rfl rfl (fun m4 h1 e1 D =>
      have T := fj_run_ok _ _ _ _ _ _ H.1 e1
      have H := shp_st H T
      j_inc (pc := 163) (L' := [(2, (0, wI (x2 + 1))), (0, (4, 303)), (1, (4, x1))]) D rfl rfl rfl (by decide +kernel) rfl fun D =>
      j_goto (pc := 166) D rfl <|
      fk_jump cut_33_41 rfl rfl) (fun m4 q3 h1 e1 =>
      j_tx (hx_33 _))
theorem m_33 (d : Nat) (x1 : Int) {h : fi_H} (H : Shp h) : fj_run (d + 1) 33 h [(4, 303), (4, x1)] =
  dv_ (fi_vt 138 (h 0 (h 270 303 0).toNat 0)) fun m4 => cv_ (fj_run d m4 h [(4, h 270 303 0), (4, 67)])
    (fun h1 =>
    if h1 0 x1.toNat 0 = 117 then
    if 0 ≤ h1 137 x1.toNat 0 ∧ h1 137 x1.toNat 0 < 40 then
    if h1 0 (h1 12 320 (h1 137 x1.toNat 0).toNat).toNat 0 = 124 then
    dv_ (fi_vt 138 (h1 0 (h1 270 303 0).toNat 0)) fun m11 => cv_ (fj_run d m11 h1 [(4, h1 270 303 0), (4, h1 321 (h1 12 320 (h1 137 x1.toNat 0).toNat).toNat 0)])
      (fun h8 =>
      dv_ (fi_vt 138 (h8 0 (h8 270 303 0).toNat 0)) fun m15 => cv_ (fj_run d m15 h8 [(4, h8 270 303 0), (4, 69)])
        (fun h12 =>
        c_33_41 d x1 0 h12)
        (fun q14 h12 => tx_ q14 h12))
      (fun q10 h8 => tx_ q10 h8)
    else none
    else none
    else none)
    (fun q3 h1 => tx_ q3 h1) := by
  rw [fj_run_eq d (by decide) h [(4, 303), (4, x1)] (Nat.le_of_ble_eq_true (by rw [nl_33]; rfl))]
  show gG (fj_run d) 33 0 [(0, (4, 303)), (1, (4, x1))] [] h = _
  exact
    have D : fk_D 33 [(0, none, .aload_n 0, 1, 0, 0, 0), (1, none, .getfield 457, 3, 270, 100, 12), (4, none, .ldc_w 461, 3, 4, 67, 0), (7, none, .invokevirtual 463, 3, 1, 138, 0), (10, none, .aload_n 0, 1, 0, 0, 0), (11, none, .getfield 457, 3, 270, 100, 12), (14, none, .aload_n 0, 1, 0, 0, 0), (15, none, .getfield 255, 3, 214, 100, 12), (18, none, .aload_n 1, 1, 0, 0, 0), (19, none, .getfield 378, 3, 137, (-117), 10), (22, none, .aaload, 1, 0, 0, 0), (23, none, .getfield 469, 3, 321, (-124), 12), (26, none, .invokevirtual 463, 3, 1, 138, 0), (29, none, .aload_n 0, 1, 0, 0, 0), (30, none, .getfield 457, 3, 270, 100, 12), (33, none, .ldc_w 472, 3, 4, 69, 0), (36, none, .invokevirtual 463, 3, 1, 138, 0), (39, none, .iconst 0, 1, 0, 0, 0), (40, none, .istore_n 2, 1, 0, 0, 0)] := fq_of2 cd_33 ow_33 cl_33 rfl (pc := 0) (by decide +kernel)
    j_aldn (pc := 0) D rfl rfl rfl fun D =>
    j_gf (pc := 1) (a := 303) D rfl rfl (by decide) rfl (s0_303 H) rfl fun D =>
    j_ldcw (pc := 4) D rfl fun D =>
    j_ivuv (pc := 7) (dd := 138) (a := [(4, 67)]) (rest := []) H.2.1 D rfl rfl rfl rfl rfl (fun m4 h1 e1 D =>
      have T := fj_run_ok _ _ _ _ _ _ H.1 e1
      have H := shp_st H T
      j_aldn (pc := 10) D rfl rfl rfl fun D =>
      j_gf (pc := 11) (a := 303) D rfl rfl (by decide) rfl (s0_303 H) rfl fun D =>
      j_aldn (pc := 14) D rfl rfl rfl fun D =>
      j_gfc (pc := 15) (a := 303) D rfl rfl (by decide) rfl (s0_303 H) rfl (sf_214_303 H) fun D =>
      j_aldn (pc := 18) D rfl rfl rfl fun D =>
      j_gfo (pc := 19) H.2.1 D rfl rfl rfl rfl fun kc5 D =>
      j_al (pc := 22) (a := 320) (e := 12) D rfl rfl rfl (by decide) (s0_320 H) (s1_320 H) ⟨rfl, rfl, rfl⟩ rfl gn fun qb6 D =>
      j_gfo (pc := 23) H.2.1 D rfl rfl rfl rfl fun kc7 D =>
      j_ivuv (pc := 26) (dd := 138) (a := [(4, h1 321 (h1 12 320 (h1 137 x1.toNat 0).toNat).toNat 0)]) (rest := []) H.2.1 D rfl rfl rfl rfl rfl (fun m11 h8 e1 D =>
        have T := fj_run_ok _ _ _ _ _ _ H.1 e1
        have kc5 := cls_st H.1 T.2 kc5 (by decide)
        have H := shp_st H T
        j_aldn (pc := 29) D rfl rfl rfl fun D =>
        j_gf (pc := 30) (a := 303) D rfl rfl (by decide) rfl (s0_303 H) rfl fun D =>
        j_ldcw (pc := 33) D rfl fun D =>
        j_ivuv (pc := 36) (dd := 138) (a := [(4, 69)]) (rest := []) H.2.1 D rfl rfl rfl rfl rfl (fun m15 h12 e1 D =>
          have T := fj_run_ok _ _ _ _ _ _ H.1 e1
          have kc5 := cls_st H.1 T.2 kc5 (by decide)
          have H := shp_st H T
          j_ic (pc := 39) D rfl fun D =>
          j_istn (pc := 40) (L' := [(2, (0, 0)), (0, (4, 303)), (1, (4, x1))]) D rfl nl_33 rfl rfl fun D =>
          fk_jump cut_33_41 rfl rfl) (fun m15 q14 h12 e1 =>
          j_tx (hx_33 _))) (fun m11 q10 h8 e1 =>
        j_tx (hx_33 _))) (fun m4 q3 h1 e1 =>
      j_tx (hx_33 _))
/-! 34 StatuteHouse$Pen.cents(J)V -/
theorem cd_34 : fi_code 34 = prog_51_method_7_code := rfl
theorem hx_34 : ∀ pc, fi_hat 34 pc = none := fun pc => by unfold fi_hat; rw [show fi_hh 34 = [] from rfl]; rfl
theorem rt_34 : fi_ret 34 = none := rfl
theorem nl_34 : fi_nl 34 = 3 := rfl
theorem ow_34 : fi_ow 34 = 13 := rfl
theorem cl_34 : fj_cutT.getD 34 [] = [] := rfl
theorem m_34 (d : Nat) (x0 x1 : Int) {h : fi_H} (H : Shp h) (hk : h 0 x0.toNat 0 = 113) : fj_run (d + 1) 34 h [(4, x0), (1, x1)] =
  cv_ (fj_run d 31 h [(4, x0), (1, lq_ x1 100), (0, 1)])
    (fun h1 =>
    cv_ (fj_run d 29 h1 [(4, x0), (0, 46)])
      (fun h4 =>
      cv_ (fj_run d 31 h4 [(4, x0), (1, lr_ x1 100), (0, 2)])
        (fun h7 =>
        some (.inl none, h7))
        (fun q9 h7 => tx_ q9 h7))
      (fun q6 h4 => tx_ q6 h4))
    (fun q3 h1 => tx_ q3 h1) := by
  rw [fj_run_eq d (by decide) h [(4, x0), (1, x1)] (Nat.le_of_ble_eq_true (by rw [nl_34]; rfl))]
  show gG (fj_run d) 34 0 [(0, (4, x0)), (1, (1, x1))] [] h = _
  exact
    have D : fk_D 34 [(0, none, .aload_n 0, 1, 0, 0, 0), (1, none, .lload_n 1, 1, 0, 0, 0), (2, none, .ldc2_w 66, 3, 1, 100, 0), (5, none, .ldiv, 1, 0, 0, 0), (6, none, .iconst 1, 1, 0, 1, 0), (7, none, .invokevirtual 56, 3, 2, 141, 0), (10, none, .aload_n 0, 1, 0, 0, 0), (11, none, .bipush 46, 2, 0, 46, 0), (13, none, .invokevirtual 40, 3, 1, 139, 0), (16, none, .aload_n 0, 1, 0, 0, 0), (17, none, .lload_n 1, 1, 0, 0, 0), (18, none, .ldc2_w 66, 3, 1, 100, 0), (21, none, .lrem, 1, 0, 0, 0), (22, none, .iconst 2, 1, 0, 2, 0), (23, none, .invokevirtual 56, 3, 2, 141, 0), (26, none, .return_, 1, 0, 0, 0)] := fq_of2 cd_34 ow_34 cl_34 rfl (pc := 0) (by decide +kernel)
    j_aldn (pc := 0) D rfl rfl rfl fun D =>
    j_lldn (pc := 1) D rfl rfl rfl fun D =>
    j_ldc2 (pc := 2) D rfl fun D =>
    j_ldivk (pc := 5) D rfl (by decide) fun D =>
    j_ic (pc := 6) D rfl fun D =>
    j_ivv (pc := 7) (m := 31) (dd := 141) (a := [(1, lq_ x1 100), (0, 1)]) (rest := []) D rfl rfl rfl rfl rfl (nz_cls H.2.1 hk (by decide)) hk (by decide +kernel) (fun h1 e1 D =>
      have T := fj_run_ok _ _ _ _ _ _ H.1 e1
      have hk := cls_st H.1 T.2 hk (by decide)
      have H := shp_st H T
      j_aldn (pc := 10) D rfl rfl rfl fun D =>
      j_bp (pc := 11) D rfl fun D =>
      j_ivv (pc := 13) (m := 29) (dd := 139) (a := [(0, 46)]) (rest := []) D rfl rfl rfl rfl rfl (nz_cls H.2.1 hk (by decide)) hk (by decide +kernel) (fun h4 e1 D =>
        have T := fj_run_ok _ _ _ _ _ _ H.1 e1
        have hk := cls_st H.1 T.2 hk (by decide)
        have H := shp_st H T
        j_aldn (pc := 16) D rfl rfl rfl fun D =>
        j_lldn (pc := 17) D rfl rfl rfl fun D =>
        j_ldc2 (pc := 18) D rfl fun D =>
        j_lremk (pc := 21) D rfl (by decide) fun D =>
        j_ic (pc := 22) D rfl fun D =>
        j_ivv (pc := 23) (m := 31) (dd := 141) (a := [(1, lr_ x1 100), (0, 2)]) (rest := []) D rfl rfl rfl rfl rfl (nz_cls H.2.1 hk (by decide)) hk (by decide +kernel) (fun h7 e1 D =>
          have T := fj_run_ok _ _ _ _ _ _ H.1 e1
          have hk := cls_st H.1 T.2 hk (by decide)
          have H := shp_st H T
          j_vret D rt_34) (fun q9 h7 e1 =>
          j_tx (hx_34 _))) (fun q6 h4 e1 =>
        j_tx (hx_34 _))) (fun q3 h1 e1 =>
      j_tx (hx_34 _))
/-! 35 StatuteHouse$Call.write()V -/
theorem cd_35 : fi_code 35 = prog_4_method_4_code := rfl
theorem hx_35 : ∀ pc, fi_hat 35 pc = none := fun pc => by unfold fi_hat; rw [show fi_hh 35 = [] from rfl]; rfl
theorem rt_35 : fi_ret 35 = none := rfl
theorem nl_35 : fi_nl 35 = 2 := rfl
theorem ow_35 : fi_ow 35 = 2 := rfl
theorem cl_35 : fj_cutT.getD 35 [] = [(19, [0, 1]), (46, [0, 1])] := rfl
theorem cut_35_19 : fj_cut 35 19 = some [0, 1] := by decide +kernel
noncomputable def c_35_19 (d : Nat) (x0 x1 : Int) (h : fi_H) : fk_R := gG (fj_run d) 35 19 [(0, (4, x0)), (1, (0, x1))] [] h
theorem cut_35_46 : fj_cut 35 46 = some [0, 1] := by decide +kernel
noncomputable def c_35_46 (d : Nat) (x0 x1 s0 s1 : Int) (h : fi_H) : fk_R := gG (fj_run d) 35 46 [(0, (4, x0)), (1, (0, x1))] [(4, s1), (4, s0)] h
theorem e_35_19 (d : Nat) (x0 x1 : Int) {h : fi_H} (H : Shp h) (hk : h 0 x0.toNat 0 = 102) (ht363 : h 363 x0.toNat 0 = 303) : c_35_19 d x0 x1 h =
  if fk_isA (h 0 (h 362 x0.toNat 0).toNat 0) = true then
  if x1 < h 1 (h 362 x0.toNat 0).toNat 0 then
    if x1 = 0 then
      c_35_46 d x0 x1 (h 270 303 0) 127 h
    else
      c_35_46 d x0 x1 (h 270 303 0) 129 h
  else
    dv_ (fi_vt 139 (h 0 (h 270 303 0).toNat 0)) fun m4 => cv_ (fj_run d m4 h [(4, h 270 303 0), (0, 41)])
      (fun h1 =>
      some (.inl none, h1))
      (fun q3 h1 => tx_ q3 h1)
  else none := by
  unfold c_35_19
  exact
    have D : fk_D 35 [(19, some [0, 1], .iload_n 1, 1, 0, 0, 0), (20, none, .aload_n 0, 1, 0, 0, 0), (21, none, .getfield 23, 3, 362, 102, 12), (24, none, .arraylength, 1, 0, 0, 0), (25, none, .if_icmp .ge 39, 3, 64, 0, 0), (28, none, .aload_n 0, 1, 0, 0, 0), (29, none, .getfield 1, 3, 363, 102, 12), (32, none, .getfield 61, 3, 270, 100, 12), (35, none, .iload_n 1, 1, 0, 0, 0), (36, none, .ifCond .ne 8, 3, 44, 0, 0), (39, none, .ldc 74, 2, 4, 127, 0), (41, none, .goto 5, 3, 46, 0, 0)] := fq_of2 cd_35 ow_35 cl_35 rfl (pc := 19) (by decide +kernel)
    j_ildn (pc := 19) D rfl rfl rfl fun D =>
    j_aldn (pc := 20) D rfl rfl rfl fun D =>
    j_gf (pc := 21) (a := x0.toNat) D rfl rfl (nz_cls H.2.1 hk (by decide)) rfl hk rfl fun D =>
    j_lenu (pc := 24) H.2.1 D rfl fun q D =>
    j_ige (pc := 25) D rfl (fun q D =>
      j_aldn (pc := 28) D rfl rfl rfl fun D =>
      j_gfc (pc := 29) (a := x0.toNat) D rfl rfl (nz_cls H.2.1 hk (by decide)) rfl hk rfl ht363 fun D =>
      j_gf (pc := 32) (a := 303) D rfl rfl (by decide) rfl (s0_303 H) rfl fun D =>
      j_ildn (pc := 35) D rfl rfl rfl fun D =>
      j_ifne (pc := 36) D rfl (fun q D =>
        j_ldc (pc := 39) D rfl fun D =>
        j_goto (pc := 41) D rfl <|
        fk_jump cut_35_46 rfl rfl) (fun q =>
        have D : fk_D 35 [(44, none, .ldc 76, 2, 4, 129, 0)] := fq_of2 cd_35 ow_35 cl_35 rfl (pc := 44) (by decide +kernel)
        j_ldc (pc := 44) D rfl fun D =>
        fk_jump cut_35_46 rfl rfl)) (fun q =>
      have D : fk_D 35 [(64, none, .aload_n 0, 1, 0, 0, 0), (65, none, .getfield 1, 3, 363, 102, 12), (68, none, .getfield 61, 3, 270, 100, 12), (71, none, .bipush 41, 2, 0, 41, 0), (73, none, .invokevirtual 81, 3, 1, 139, 0), (76, none, .return_, 1, 0, 0, 0)] := fq_of2 cd_35 ow_35 cl_35 rfl (pc := 64) (by decide +kernel)
      j_aldn (pc := 64) D rfl rfl rfl fun D =>
      j_gfc (pc := 65) (a := x0.toNat) D rfl rfl (nz_cls H.2.1 hk (by decide)) rfl hk rfl ht363 fun D =>
      j_gf (pc := 68) (a := 303) D rfl rfl (by decide) rfl (s0_303 H) rfl fun D =>
      j_bp (pc := 71) D rfl fun D =>
      j_ivuv (pc := 73) (dd := 139) (a := [(0, 41)]) (rest := []) H.2.1 D rfl rfl rfl rfl rfl (fun m4 h1 e1 D =>
        have T := fj_run_ok _ _ _ _ _ _ H.1 e1
        have ht363 := fin_st H.1 T.2 hk (by decide) (by decide +kernel) ht363 (by decide)
        have hk := cls_st H.1 T.2 hk (by decide)
        have H := shp_st H T
        j_vret D rt_35) (fun m4 q3 h1 e1 =>
        j_tx (hx_35 _)))
theorem e_35_46 (d : Nat) (x0 x1 s0 s1 : Int) {h : fi_H} (H : Shp h) (hk : h 0 x0.toNat 0 = 102) (ht363 : h 363 x0.toNat 0 = 303) : c_35_46 d x0 x1 s0 s1 h =
  dv_ (fi_vt 138 (h 0 s0.toNat 0)) fun m4 => cv_ (fj_run d m4 h [(4, s0), (4, s1)])
    (fun h1 =>
    if (20 ≤ h1 0 (h1 362 x0.toNat 0).toNat 0 ∧ h1 0 (h1 362 x0.toNat 0).toNat 0 < 30) ∧ 0 ≤ x1 ∧ x1 < h1 1 (h1 362 x0.toNat 0).toNat 0 then
    dv_ (fi_vt 145 (h1 0 (h1 12 (h1 362 x0.toNat 0).toNat x1.toNat).toNat 0)) fun m8 => cv_ (fj_run d m8 h1 [(4, h1 12 (h1 362 x0.toNat 0).toNat x1.toNat)])
      (fun h5 =>
      c_35_19 d x0 (wI (x1 + 1)) h5)
      (fun q7 h5 => tx_ q7 h5)
    else none)
    (fun q3 h1 => tx_ q3 h1) := by
  unfold c_35_46
  exact
    have D : fk_D 35 [(46, some [0, 1], .invokevirtual 69, 3, 1, 138, 0), (49, none, .aload_n 0, 1, 0, 0, 0), (50, none, .getfield 23, 3, 362, 102, 12), (53, none, .iload_n 1, 1, 0, 0, 0), (54, none, .aaload, 1, 0, 0, 0), (55, none, .invokevirtual 78, 3, 0, 145, 0), (58, none, .iinc 1 1, 3, 0, 1, 0), (61, none, .goto (-42), 3, 19, 0, 0)] := fq_of2 cd_35 ow_35 cl_35 rfl (pc := 46) (by decide +kernel)
    j_ivuv (pc := 46) (dd := 138) (a := [(4, s1)]) (rest := []) H.2.1 D rfl rfl rfl rfl rfl (fun m4 h1 e1 D =>
      have T := fj_run_ok _ _ _ _ _ _ H.1 e1
      have ht363 := fin_st H.1 T.2 hk (by decide) (by decide +kernel) ht363 (by decide)
      have hk := cls_st H.1 T.2 hk (by decide)
      have H := shp_st H T
      j_aldn (pc := 49) D rfl rfl rfl fun D =>
      j_gf (pc := 50) (a := x0.toNat) D rfl rfl (nz_cls H.2.1 hk (by decide)) rfl hk rfl fun D =>
      j_ildn (pc := 53) D rfl rfl rfl fun D =>
      j_alr (pc := 54) H.2.1 D rfl rfl fun q q2 D =>
      j_ivuv (pc := 55) (dd := 145) (a := []) (rest := []) H.2.1 D rfl rfl rfl rfl rfl (fun m8 h5 e1 D =>
        have T := fj_run_ok _ _ _ _ _ _ H.1 e1
        have ht363 := fin_st H.1 T.2 hk (by decide) (by decide +kernel) ht363 (by decide)
        have hk := cls_st H.1 T.2 hk (by decide)
        have H := shp_st H T
        j_inc (pc := 58) (L' := [(1, (0, wI (x1 + 1))), (0, (4, x0))]) D rfl rfl rfl (by decide +kernel) rfl fun D =>
        j_goto (pc := 61) D rfl <|
        fk_jump cut_35_19 rfl rfl) (fun m8 q7 h5 e1 =>
        j_tx (hx_35 _))) (fun m4 q3 h1 e1 =>
      j_tx (hx_35 _))
theorem m_35 (d : Nat) (x0 : Int) {h : fi_H} (H : Shp h) (hk : h 0 x0.toNat 0 = 102) (ht363 : h 363 x0.toNat 0 = 303) : fj_run (d + 1) 35 h [(4, x0)] =
  dv_ (fi_vt 213 (h 0 (h 361 x0.toNat 0).toNat 0)) fun m4 => ca_ (fj_run d m4 h [(4, h 361 x0.toNat 0)]) 4
    (fun v2 h1 =>
    dv_ (fi_vt 138 (h1 0 (h 270 303 0).toNat 0)) fun m8 => cv_ (fj_run d m8 h1 [(4, h 270 303 0), (4, v2)])
      (fun h5 =>
      c_35_19 d x0 0 h5)
      (fun q7 h5 => tx_ q7 h5))
    (fun q3 h1 => tx_ q3 h1) := by
  rw [fj_run_eq d (by decide) h [(4, x0)] (Nat.le_of_ble_eq_true (by rw [nl_35]; rfl))]
  show gG (fj_run d) 35 0 [(0, (4, x0))] [] h = _
  exact
    have D : fk_D 35 [(0, none, .aload_n 0, 1, 0, 0, 0), (1, none, .getfield 1, 3, 363, 102, 12), (4, none, .getfield 61, 3, 270, 100, 12), (7, none, .aload_n 0, 1, 0, 0, 0), (8, none, .getfield 19, 3, 361, 102, 12), (11, none, .invokevirtual 65, 3, 0, 213, 5), (14, none, .invokevirtual 69, 3, 1, 138, 0), (17, none, .iconst 0, 1, 0, 0, 0), (18, none, .istore_n 1, 1, 0, 0, 0)] := fq_of2 cd_35 ow_35 cl_35 rfl (pc := 0) (by decide +kernel)
    j_aldn (pc := 0) D rfl rfl rfl fun D =>
    j_gfc (pc := 1) (a := x0.toNat) D rfl rfl (nz_cls H.2.1 hk (by decide)) rfl hk rfl ht363 fun D =>
    j_gf (pc := 4) (a := 303) D rfl rfl (by decide) rfl (s0_303 H) rfl fun D =>
    j_aldn (pc := 7) D rfl rfl rfl fun D =>
    j_gf (pc := 8) (a := x0.toNat) D rfl rfl (nz_cls H.2.1 hk (by decide)) rfl hk rfl fun D =>
    j_ivu (pc := 11) (dd := 213) (a := []) (rest := [(4, h 270 303 0)]) H.2.1 D rfl rfl rfl rfl rfl (fun m4 v2 h1 e1 D =>
      have T := fj_run_ok _ _ _ _ _ _ H.1 e1
      have ht363 := fin_st H.1 T.2 hk (by decide) (by decide +kernel) ht363 (by decide)
      have hk := cls_st H.1 T.2 hk (by decide)
      have H := shp_st H T
      j_ivuv (pc := 14) (dd := 138) (a := [(4, v2)]) (rest := []) H.2.1 D rfl rfl rfl rfl rfl (fun m8 h5 e1 D =>
        have T := fj_run_ok _ _ _ _ _ _ H.1 e1
        have ht363 := fin_st H.1 T.2 hk (by decide) (by decide +kernel) ht363 (by decide)
        have hk := cls_st H.1 T.2 hk (by decide)
        have H := shp_st H T
        j_ic (pc := 17) D rfl fun D =>
        j_istn (pc := 18) (L' := [(1, (0, 0)), (0, (4, x0))]) D rfl nl_35 rfl rfl fun D =>
        fk_jump cut_35_19 rfl rfl) (fun m8 q7 h5 e1 =>
        j_tx (hx_35 _))) (fun m4 q3 h1 e1 =>
      j_tx (hx_35 _))
/-! 36 StatuteHouse$Function.word()Ljava/lang/String; -/
theorem cd_36 : fi_code 36 = prog_12_method_10_code := rfl
theorem hx_36 : ∀ pc, fi_hat 36 pc = none := fun pc => by unfold fi_hat; rw [show fi_hh 36 = [] from rfl]; rfl
theorem rt_36 : fj_ft (fi_ret 36) = 5 := rfl
theorem nl_36 : fi_nl 36 = 1 := rfl
theorem ow_36 : fi_ow 36 = 34 := rfl
theorem cl_36 : fj_cutT.getD 36 [] = [(112, []), (115, []), (118, []), (121, []), (124, []), (127, []), (130, []), (133, []), (136, []), (139, []), (142, []), (145, []), (148, []), (151, []), (154, []), (157, []), (160, []), (163, []), (166, []), (169, []), (172, []), (175, []), (178, []), (181, [])] := rfl
theorem cut_36_112 : fj_cut 36 112 = some [] := by decide +kernel
noncomputable def c_36_112 (d : Nat) (h : fi_H) : fk_R := gG (fj_run d) 36 112 [] [] h
theorem cut_36_115 : fj_cut 36 115 = some [] := by decide +kernel
noncomputable def c_36_115 (d : Nat) (h : fi_H) : fk_R := gG (fj_run d) 36 115 [] [] h
theorem cut_36_118 : fj_cut 36 118 = some [] := by decide +kernel
noncomputable def c_36_118 (d : Nat) (h : fi_H) : fk_R := gG (fj_run d) 36 118 [] [] h
theorem cut_36_121 : fj_cut 36 121 = some [] := by decide +kernel
noncomputable def c_36_121 (d : Nat) (h : fi_H) : fk_R := gG (fj_run d) 36 121 [] [] h
theorem cut_36_124 : fj_cut 36 124 = some [] := by decide +kernel
noncomputable def c_36_124 (d : Nat) (h : fi_H) : fk_R := gG (fj_run d) 36 124 [] [] h
theorem cut_36_127 : fj_cut 36 127 = some [] := by decide +kernel
noncomputable def c_36_127 (d : Nat) (h : fi_H) : fk_R := gG (fj_run d) 36 127 [] [] h
theorem cut_36_130 : fj_cut 36 130 = some [] := by decide +kernel
noncomputable def c_36_130 (d : Nat) (h : fi_H) : fk_R := gG (fj_run d) 36 130 [] [] h
theorem cut_36_133 : fj_cut 36 133 = some [] := by decide +kernel
noncomputable def c_36_133 (d : Nat) (h : fi_H) : fk_R := gG (fj_run d) 36 133 [] [] h
theorem cut_36_136 : fj_cut 36 136 = some [] := by decide +kernel
noncomputable def c_36_136 (d : Nat) (h : fi_H) : fk_R := gG (fj_run d) 36 136 [] [] h
theorem cut_36_139 : fj_cut 36 139 = some [] := by decide +kernel
noncomputable def c_36_139 (d : Nat) (h : fi_H) : fk_R := gG (fj_run d) 36 139 [] [] h
theorem cut_36_142 : fj_cut 36 142 = some [] := by decide +kernel
noncomputable def c_36_142 (d : Nat) (h : fi_H) : fk_R := gG (fj_run d) 36 142 [] [] h
theorem cut_36_145 : fj_cut 36 145 = some [] := by decide +kernel
noncomputable def c_36_145 (d : Nat) (h : fi_H) : fk_R := gG (fj_run d) 36 145 [] [] h
theorem cut_36_148 : fj_cut 36 148 = some [] := by decide +kernel
noncomputable def c_36_148 (d : Nat) (h : fi_H) : fk_R := gG (fj_run d) 36 148 [] [] h
theorem cut_36_151 : fj_cut 36 151 = some [] := by decide +kernel
noncomputable def c_36_151 (d : Nat) (h : fi_H) : fk_R := gG (fj_run d) 36 151 [] [] h
theorem cut_36_154 : fj_cut 36 154 = some [] := by decide +kernel
noncomputable def c_36_154 (d : Nat) (h : fi_H) : fk_R := gG (fj_run d) 36 154 [] [] h
theorem cut_36_157 : fj_cut 36 157 = some [] := by decide +kernel
noncomputable def c_36_157 (d : Nat) (h : fi_H) : fk_R := gG (fj_run d) 36 157 [] [] h
theorem cut_36_160 : fj_cut 36 160 = some [] := by decide +kernel
noncomputable def c_36_160 (d : Nat) (h : fi_H) : fk_R := gG (fj_run d) 36 160 [] [] h
theorem cut_36_163 : fj_cut 36 163 = some [] := by decide +kernel
noncomputable def c_36_163 (d : Nat) (h : fi_H) : fk_R := gG (fj_run d) 36 163 [] [] h
theorem cut_36_166 : fj_cut 36 166 = some [] := by decide +kernel
noncomputable def c_36_166 (d : Nat) (h : fi_H) : fk_R := gG (fj_run d) 36 166 [] [] h
theorem cut_36_169 : fj_cut 36 169 = some [] := by decide +kernel
noncomputable def c_36_169 (d : Nat) (h : fi_H) : fk_R := gG (fj_run d) 36 169 [] [] h
theorem cut_36_172 : fj_cut 36 172 = some [] := by decide +kernel
noncomputable def c_36_172 (d : Nat) (h : fi_H) : fk_R := gG (fj_run d) 36 172 [] [] h
theorem cut_36_175 : fj_cut 36 175 = some [] := by decide +kernel
noncomputable def c_36_175 (d : Nat) (h : fi_H) : fk_R := gG (fj_run d) 36 175 [] [] h
theorem cut_36_178 : fj_cut 36 178 = some [] := by decide +kernel
noncomputable def c_36_178 (d : Nat) (h : fi_H) : fk_R := gG (fj_run d) 36 178 [] [] h
theorem cut_36_181 : fj_cut 36 181 = some [] := by decide +kernel
noncomputable def c_36_181 (d : Nat) (h : fi_H) : fk_R := gG (fj_run d) 36 181 [] [] h
theorem e_36_112 (d : Nat) {h : fi_H} (H : Shp h) : c_36_112 d h =
  some (.inl (some (4, 79)), h) := by
  unfold c_36_112
  exact
    have D : fk_D 36 [(112, some [], .ldc 122, 2, 4, 79, 0), (114, none, .areturn, 1, 0, 0, 0)] := fq_of2 cd_36 ow_36 cl_36 rfl (pc := 112) (by decide +kernel)
    j_ldc (pc := 112) D rfl fun D =>
    j_aret D rt_36
theorem e_36_115 (d : Nat) {h : fi_H} (H : Shp h) : c_36_115 d h =
  some (.inl (some (4, 81)), h) := by
  unfold c_36_115
  exact
    have D : fk_D 36 [(115, some [], .ldc 128, 2, 4, 81, 0), (117, none, .areturn, 1, 0, 0, 0)] := fq_of2 cd_36 ow_36 cl_36 rfl (pc := 115) (by decide +kernel)
    j_ldc (pc := 115) D rfl fun D =>
    j_aret D rt_36
theorem e_36_118 (d : Nat) {h : fi_H} (H : Shp h) : c_36_118 d h =
  some (.inl (some (4, 83)), h) := by
  unfold c_36_118
  exact
    have D : fk_D 36 [(118, some [], .ldc 130, 2, 4, 83, 0), (120, none, .areturn, 1, 0, 0, 0)] := fq_of2 cd_36 ow_36 cl_36 rfl (pc := 118) (by decide +kernel)
    j_ldc (pc := 118) D rfl fun D =>
    j_aret D rt_36
theorem e_36_121 (d : Nat) {h : fi_H} (H : Shp h) : c_36_121 d h =
  some (.inl (some (4, 85)), h) := by
  unfold c_36_121
  exact
    have D : fk_D 36 [(121, some [], .ldc 132, 2, 4, 85, 0), (123, none, .areturn, 1, 0, 0, 0)] := fq_of2 cd_36 ow_36 cl_36 rfl (pc := 121) (by decide +kernel)
    j_ldc (pc := 121) D rfl fun D =>
    j_aret D rt_36
theorem e_36_124 (d : Nat) {h : fi_H} (H : Shp h) : c_36_124 d h =
  some (.inl (some (4, 87)), h) := by
  unfold c_36_124
  exact
    have D : fk_D 36 [(124, some [], .ldc 134, 2, 4, 87, 0), (126, none, .areturn, 1, 0, 0, 0)] := fq_of2 cd_36 ow_36 cl_36 rfl (pc := 124) (by decide +kernel)
    j_ldc (pc := 124) D rfl fun D =>
    j_aret D rt_36
theorem e_36_127 (d : Nat) {h : fi_H} (H : Shp h) : c_36_127 d h =
  some (.inl (some (4, 89)), h) := by
  unfold c_36_127
  exact
    have D : fk_D 36 [(127, some [], .ldc 136, 2, 4, 89, 0), (129, none, .areturn, 1, 0, 0, 0)] := fq_of2 cd_36 ow_36 cl_36 rfl (pc := 127) (by decide +kernel)
    j_ldc (pc := 127) D rfl fun D =>
    j_aret D rt_36
theorem e_36_130 (d : Nat) {h : fi_H} (H : Shp h) : c_36_130 d h =
  some (.inl (some (4, 91)), h) := by
  unfold c_36_130
  exact
    have D : fk_D 36 [(130, some [], .ldc 138, 2, 4, 91, 0), (132, none, .areturn, 1, 0, 0, 0)] := fq_of2 cd_36 ow_36 cl_36 rfl (pc := 130) (by decide +kernel)
    j_ldc (pc := 130) D rfl fun D =>
    j_aret D rt_36
theorem e_36_133 (d : Nat) {h : fi_H} (H : Shp h) : c_36_133 d h =
  some (.inl (some (4, 93)), h) := by
  unfold c_36_133
  exact
    have D : fk_D 36 [(133, some [], .ldc 140, 2, 4, 93, 0), (135, none, .areturn, 1, 0, 0, 0)] := fq_of2 cd_36 ow_36 cl_36 rfl (pc := 133) (by decide +kernel)
    j_ldc (pc := 133) D rfl fun D =>
    j_aret D rt_36
theorem e_36_136 (d : Nat) {h : fi_H} (H : Shp h) : c_36_136 d h =
  some (.inl (some (4, 95)), h) := by
  unfold c_36_136
  exact
    have D : fk_D 36 [(136, some [], .ldc 142, 2, 4, 95, 0), (138, none, .areturn, 1, 0, 0, 0)] := fq_of2 cd_36 ow_36 cl_36 rfl (pc := 136) (by decide +kernel)
    j_ldc (pc := 136) D rfl fun D =>
    j_aret D rt_36
theorem e_36_139 (d : Nat) {h : fi_H} (H : Shp h) : c_36_139 d h =
  some (.inl (some (4, 97)), h) := by
  unfold c_36_139
  exact
    have D : fk_D 36 [(139, some [], .ldc 144, 2, 4, 97, 0), (141, none, .areturn, 1, 0, 0, 0)] := fq_of2 cd_36 ow_36 cl_36 rfl (pc := 139) (by decide +kernel)
    j_ldc (pc := 139) D rfl fun D =>
    j_aret D rt_36
theorem e_36_142 (d : Nat) {h : fi_H} (H : Shp h) : c_36_142 d h =
  some (.inl (some (4, 99)), h) := by
  unfold c_36_142
  exact
    have D : fk_D 36 [(142, some [], .ldc 146, 2, 4, 99, 0), (144, none, .areturn, 1, 0, 0, 0)] := fq_of2 cd_36 ow_36 cl_36 rfl (pc := 142) (by decide +kernel)
    j_ldc (pc := 142) D rfl fun D =>
    j_aret D rt_36
theorem e_36_145 (d : Nat) {h : fi_H} (H : Shp h) : c_36_145 d h =
  some (.inl (some (4, 101)), h) := by
  unfold c_36_145
  exact
    have D : fk_D 36 [(145, some [], .ldc 148, 2, 4, 101, 0), (147, none, .areturn, 1, 0, 0, 0)] := fq_of2 cd_36 ow_36 cl_36 rfl (pc := 145) (by decide +kernel)
    j_ldc (pc := 145) D rfl fun D =>
    j_aret D rt_36
theorem e_36_148 (d : Nat) {h : fi_H} (H : Shp h) : c_36_148 d h =
  some (.inl (some (4, 103)), h) := by
  unfold c_36_148
  exact
    have D : fk_D 36 [(148, some [], .ldc 150, 2, 4, 103, 0), (150, none, .areturn, 1, 0, 0, 0)] := fq_of2 cd_36 ow_36 cl_36 rfl (pc := 148) (by decide +kernel)
    j_ldc (pc := 148) D rfl fun D =>
    j_aret D rt_36
theorem e_36_151 (d : Nat) {h : fi_H} (H : Shp h) : c_36_151 d h =
  some (.inl (some (4, 105)), h) := by
  unfold c_36_151
  exact
    have D : fk_D 36 [(151, some [], .ldc 152, 2, 4, 105, 0), (153, none, .areturn, 1, 0, 0, 0)] := fq_of2 cd_36 ow_36 cl_36 rfl (pc := 151) (by decide +kernel)
    j_ldc (pc := 151) D rfl fun D =>
    j_aret D rt_36
theorem e_36_154 (d : Nat) {h : fi_H} (H : Shp h) : c_36_154 d h =
  some (.inl (some (4, 107)), h) := by
  unfold c_36_154
  exact
    have D : fk_D 36 [(154, some [], .ldc 154, 2, 4, 107, 0), (156, none, .areturn, 1, 0, 0, 0)] := fq_of2 cd_36 ow_36 cl_36 rfl (pc := 154) (by decide +kernel)
    j_ldc (pc := 154) D rfl fun D =>
    j_aret D rt_36
theorem e_36_157 (d : Nat) {h : fi_H} (H : Shp h) : c_36_157 d h =
  some (.inl (some (4, 109)), h) := by
  unfold c_36_157
  exact
    have D : fk_D 36 [(157, some [], .ldc 156, 2, 4, 109, 0), (159, none, .areturn, 1, 0, 0, 0)] := fq_of2 cd_36 ow_36 cl_36 rfl (pc := 157) (by decide +kernel)
    j_ldc (pc := 157) D rfl fun D =>
    j_aret D rt_36
theorem e_36_160 (d : Nat) {h : fi_H} (H : Shp h) : c_36_160 d h =
  some (.inl (some (4, 111)), h) := by
  unfold c_36_160
  exact
    have D : fk_D 36 [(160, some [], .ldc 158, 2, 4, 111, 0), (162, none, .areturn, 1, 0, 0, 0)] := fq_of2 cd_36 ow_36 cl_36 rfl (pc := 160) (by decide +kernel)
    j_ldc (pc := 160) D rfl fun D =>
    j_aret D rt_36
theorem e_36_163 (d : Nat) {h : fi_H} (H : Shp h) : c_36_163 d h =
  some (.inl (some (4, 113)), h) := by
  unfold c_36_163
  exact
    have D : fk_D 36 [(163, some [], .ldc 160, 2, 4, 113, 0), (165, none, .areturn, 1, 0, 0, 0)] := fq_of2 cd_36 ow_36 cl_36 rfl (pc := 163) (by decide +kernel)
    j_ldc (pc := 163) D rfl fun D =>
    j_aret D rt_36
theorem e_36_166 (d : Nat) {h : fi_H} (H : Shp h) : c_36_166 d h =
  some (.inl (some (4, 115)), h) := by
  unfold c_36_166
  exact
    have D : fk_D 36 [(166, some [], .ldc 162, 2, 4, 115, 0), (168, none, .areturn, 1, 0, 0, 0)] := fq_of2 cd_36 ow_36 cl_36 rfl (pc := 166) (by decide +kernel)
    j_ldc (pc := 166) D rfl fun D =>
    j_aret D rt_36
theorem e_36_169 (d : Nat) {h : fi_H} (H : Shp h) : c_36_169 d h =
  some (.inl (some (4, 117)), h) := by
  unfold c_36_169
  exact
    have D : fk_D 36 [(169, some [], .ldc 164, 2, 4, 117, 0), (171, none, .areturn, 1, 0, 0, 0)] := fq_of2 cd_36 ow_36 cl_36 rfl (pc := 169) (by decide +kernel)
    j_ldc (pc := 169) D rfl fun D =>
    j_aret D rt_36
theorem e_36_172 (d : Nat) {h : fi_H} (H : Shp h) : c_36_172 d h =
  some (.inl (some (4, 119)), h) := by
  unfold c_36_172
  exact
    have D : fk_D 36 [(172, some [], .ldc 166, 2, 4, 119, 0), (174, none, .areturn, 1, 0, 0, 0)] := fq_of2 cd_36 ow_36 cl_36 rfl (pc := 172) (by decide +kernel)
    j_ldc (pc := 172) D rfl fun D =>
    j_aret D rt_36
theorem e_36_175 (d : Nat) {h : fi_H} (H : Shp h) : c_36_175 d h =
  some (.inl (some (4, 121)), h) := by
  unfold c_36_175
  exact
    have D : fk_D 36 [(175, some [], .ldc 168, 2, 4, 121, 0), (177, none, .areturn, 1, 0, 0, 0)] := fq_of2 cd_36 ow_36 cl_36 rfl (pc := 175) (by decide +kernel)
    j_ldc (pc := 175) D rfl fun D =>
    j_aret D rt_36
theorem e_36_178 (d : Nat) {h : fi_H} (H : Shp h) : c_36_178 d h =
  some (.inl (some (4, 123)), h) := by
  unfold c_36_178
  exact
    have D : fk_D 36 [(178, some [], .ldc 170, 2, 4, 123, 0), (180, none, .areturn, 1, 0, 0, 0)] := fq_of2 cd_36 ow_36 cl_36 rfl (pc := 178) (by decide +kernel)
    j_ldc (pc := 178) D rfl fun D =>
    j_aret D rt_36
theorem e_36_181 (d : Nat) {h : fi_H} (H : Shp h) : c_36_181 d h =
  some (.inl (some (4, 125)), h) := by
  unfold c_36_181
  exact
    have D : fk_D 36 [(181, some [], .ldc 172, 2, 4, 125, 0), (183, none, .areturn, 1, 0, 0, 0)] := fq_of2 cd_36 ow_36 cl_36 rfl (pc := 181) (by decide +kernel)
    j_ldc (pc := 181) D rfl fun D =>
    j_aret D rt_36
theorem m_36 (d : Nat) (x0 : Int) {h : fi_H} {k0 : Int} (H : Shp h) (hk : h 0 x0.toNat 0 = k0) (hk0 : k0 ≠ 0) : fj_run (d + 1) 36 h [(4, x0)] =
  dv_ (fi_vt 217 (h 0 x0.toNat 0)) fun m4 => ca_ (fj_run d m4 h [(4, x0)]) 0
    (fun v2 h1 =>
    if v2 = 0 then
      c_36_112 d h1
    else if v2 = 1 then
      c_36_115 d h1
    else if v2 = 2 then
      c_36_118 d h1
    else if v2 = 3 then
      c_36_121 d h1
    else if v2 = 4 then
      c_36_124 d h1
    else if v2 = 5 then
      c_36_127 d h1
    else if v2 = 6 then
      c_36_130 d h1
    else if v2 = 7 then
      c_36_133 d h1
    else if v2 = 8 then
      c_36_136 d h1
    else if v2 = 9 then
      c_36_139 d h1
    else if v2 = 10 then
      c_36_142 d h1
    else if v2 = 11 then
      c_36_145 d h1
    else if v2 = 12 then
      c_36_148 d h1
    else if v2 = 13 then
      c_36_151 d h1
    else if v2 = 14 then
      c_36_154 d h1
    else if v2 = 15 then
      c_36_157 d h1
    else if v2 = 16 then
      c_36_160 d h1
    else if v2 = 17 then
      c_36_163 d h1
    else if v2 = 18 then
      c_36_166 d h1
    else if v2 = 19 then
      c_36_169 d h1
    else if v2 = 20 then
      c_36_172 d h1
    else if v2 = 21 then
      c_36_175 d h1
    else if v2 = 22 then
      c_36_178 d h1
    else 
      c_36_181 d h1)
    (fun q3 h1 => tx_ q3 h1) := by
  rw [fj_run_eq d (by decide) h [(4, x0)] (Nat.le_of_ble_eq_true (by rw [nl_36]; rfl))]
  show gG (fj_run d) 36 0 [(0, (4, x0))] [] h = _
  exact
    have D : fk_D 36 [(0, none, .aload_n 0, 1, 0, 0, 0), (1, none, .invokevirtual 174, 3, 0, 217, 1), (4, none, .tableswitch 177 0 22 #[108, 111, 114, 117, 120, 123, 126, 129, 132, 135, 138, 141, 144, 147, 150, 153, 156, 159, 162, 165, 168, 171, 174], 108, 0, 0, 0)] := fq_of3 cd_36 ow_36 cl_36 rfl (pc := 0) (by decide +kernel)
    j_aldn (pc := 0) D rfl rfl rfl fun D =>
    j_ivu (pc := 1) (dd := 217) (a := []) (rest := []) H.2.1 D rfl rfl rfl rfl rfl (fun m4 v2 h1 e1 D =>
      have T := fj_run_ok _ _ _ _ _ _ H.1 e1
      have hk := cls_st H.1 T.2 hk hk0
      have H := shp_st H T
      have N : fk_ni (v2) [] := trivial
      j_tc (pc := 4) 0 (t := 112) D N rfl (by decide +kernel) (fun q =>
        fk_jump cut_36_112 rfl rfl) (fun N =>
        j_tc 1 (t := 115) D N rfl (by decide +kernel) (fun q =>
          fk_jump cut_36_115 rfl rfl) (fun N =>
          j_tc 2 (t := 118) D N rfl (by decide +kernel) (fun q =>
            fk_jump cut_36_118 rfl rfl) (fun N =>
            j_tc 3 (t := 121) D N rfl (by decide +kernel) (fun q =>
              fk_jump cut_36_121 rfl rfl) (fun N =>
              j_tc 4 (t := 124) D N rfl (by decide +kernel) (fun q =>
                fk_jump cut_36_124 rfl rfl) (fun N =>
                j_tc 5 (t := 127) D N rfl (by decide +kernel) (fun q =>
                  fk_jump cut_36_127 rfl rfl) (fun N =>
                  j_tc 6 (t := 130) D N rfl (by decide +kernel) (fun q =>
                    fk_jump cut_36_130 rfl rfl) (fun N =>
                    j_tc 7 (t := 133) D N rfl (by decide +kernel) (fun q =>
                      fk_jump cut_36_133 rfl rfl) (fun N =>
                      j_tc 8 (t := 136) D N rfl (by decide +kernel) (fun q =>
                        fk_jump cut_36_136 rfl rfl) (fun N =>
                        j_tc 9 (t := 139) D N rfl (by decide +kernel) (fun q =>
                          fk_jump cut_36_139 rfl rfl) (fun N =>
                          j_tc 10 (t := 142) D N rfl (by decide +kernel) (fun q =>
                            fk_jump cut_36_142 rfl rfl) (fun N =>
                            j_tc 11 (t := 145) D N rfl (by decide +kernel) (fun q =>
                              fk_jump cut_36_145 rfl rfl) (fun N =>
                              j_tc 12 (t := 148) D N rfl (by decide +kernel) (fun q =>
                                fk_jump cut_36_148 rfl rfl) (fun N =>
                                j_tc 13 (t := 151) D N rfl (by decide +kernel) (fun q =>
                                  fk_jump cut_36_151 rfl rfl) (fun N =>
                                  j_tc 14 (t := 154) D N rfl (by decide +kernel) (fun q =>
                                    fk_jump cut_36_154 rfl rfl) (fun N =>
                                    j_tc 15 (t := 157) D N rfl (by decide +kernel) (fun q =>
                                      fk_jump cut_36_157 rfl rfl) (fun N =>
                                      j_tc 16 (t := 160) D N rfl (by decide +kernel) (fun q =>
                                        fk_jump cut_36_160 rfl rfl) (fun N =>
                                        j_tc 17 (t := 163) D N rfl (by decide +kernel) (fun q =>
                                          fk_jump cut_36_163 rfl rfl) (fun N =>
                                          j_tc 18 (t := 166) D N rfl (by decide +kernel) (fun q =>
                                            fk_jump cut_36_166 rfl rfl) (fun N =>
                                            j_tc 19 (t := 169) D N rfl (by decide +kernel) (fun q =>
                                              fk_jump cut_36_169 rfl rfl) (fun N =>
                                              j_tc 20 (t := 172) D N rfl (by decide +kernel) (fun q =>
                                                fk_jump cut_36_172 rfl rfl) (fun N =>
                                                j_tc 21 (t := 175) D N rfl (by decide +kernel) (fun q =>
                                                  fk_jump cut_36_175 rfl rfl) (fun N =>
                                                  j_tc 22 (t := 178) D N rfl (by decide +kernel) (fun q =>
                                                    fk_jump cut_36_178 rfl rfl) (fun N =>
                                                    j_td (t := 181) D N rfl (by decide +kernel) (by decide +kernel) <|
                                                    fk_jump cut_36_181 rfl rfl)))))))))))))))))))))))) (fun m4 q3 h1 e1 =>
      j_tx (hx_36 _))
/-! 37 java/lang/Enum.ordinal()I -/
theorem cd_37 : fi_code 37 = prog_75_method_2_code := rfl
theorem hx_37 : ∀ pc, fi_hat 37 pc = none := fun pc => by unfold fi_hat; rw [show fi_hh 37 = [] from rfl]; rfl
theorem rt_37 : fi_ret 37 = some .int := rfl
theorem nl_37 : fi_nl 37 = 1 := rfl
theorem ow_37 : fi_ow 37 = 70 := rfl
theorem cl_37 : fj_cutT.getD 37 [] = [] := rfl
theorem m_37 (d : Nat) (x0 : Int) {h : fi_H} {k0 : Int} (H : Shp h) (hk : h 0 x0.toNat 0 = k0) (hk0 : k0 ≠ 0) : fj_run (d + 1) 37 h [(4, x0)] =
  if fi_in (h 0 x0.toNat 0) 572 = true then
  some (.inl (some (0, h 572 x0.toNat 0)), h)
  else none := by
  rw [fj_run_eq d (by decide) h [(4, x0)] (Nat.le_of_ble_eq_true (by rw [nl_37]; rfl))]
  show gG (fj_run d) 37 0 [(0, (4, x0))] [] h = _
  exact
    have D : fk_D 37 [(0, none, .aload_n 0, 1, 0, 0, 0), (1, none, .getfield 7, 3, 572, 0, 10), (4, none, .ireturn, 1, 0, 0, 0)] := fq_of2 cd_37 ow_37 cl_37 rfl (pc := 0) (by decide +kernel)
    j_aldn (pc := 0) D rfl rfl rfl fun D =>
    j_gfu (pc := 1) H.2.1 D rfl rfl fun q D =>
    j_iret D rt_37
