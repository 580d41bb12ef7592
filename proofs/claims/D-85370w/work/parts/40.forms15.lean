/-! forms of methods 443..465, printed by gen/forms.py -/
set_option maxRecDepth 100000
/-! 443 StatuteHouse.solve(IIIIIJJ)I -/
theorem cd_443 : fi_code 443 = prog_1_method_92_code := rfl
theorem rt_443 : fi_ret 443 = some .int := rfl
theorem nl_443 : fi_nl 443 = 18 := rfl
theorem ow_443 : fi_ow 443 = 0 := rfl
theorem cl_443 : fj_cutT.getD 443 [] = [(72, [0, 1, 2, 3, 4, 5, 6, 8, 10]), (156, [0, 1, 2, 3, 4, 5, 11, 13]), (206, [0, 1, 2, 3, 4, 5, 11, 13]), (240, [0]), (250, [0])] := rfl
theorem cut_443_72 : fj_cut 443 72 = some [0, 1, 2, 3, 4, 5, 6, 8, 10] := by decide +kernel
noncomputable def c_443_72 (d : Nat) (x1 x2 x3 x4 x5 x6 x8 x10 : Int) (h : fi_H) : fk_R := gG (fj_run d) 443 72 [(0, (4, 303)), (1, (0, x1)), (2, (0, x2)), (3, (0, x3)), (4, (0, x4)), (5, (0, x5)), (6, (1, x6)), (8, (1, x8)), (10, (4, x10))] [] h
theorem cut_443_156 : fj_cut 443 156 = some [0, 1, 2, 3, 4, 5, 11, 13] := by decide +kernel
noncomputable def c_443_156 (d : Nat) (x1 x2 x3 x4 x5 x11 x13 : Int) (h : fi_H) : fk_R := gG (fj_run d) 443 156 [(0, (4, 303)), (1, (0, x1)), (2, (0, x2)), (3, (0, x3)), (4, (0, x4)), (5, (0, x5)), (11, (1, x11)), (13, (1, x13))] [] h
theorem cut_443_206 : fj_cut 443 206 = some [0, 1, 2, 3, 4, 5, 11, 13] := by decide +kernel
noncomputable def c_443_206 (d : Nat) (x1 x2 x3 x4 x5 x11 x13 : Int) (h : fi_H) : fk_R := gG (fj_run d) 443 206 [(0, (4, 303)), (1, (0, x1)), (2, (0, x2)), (3, (0, x3)), (4, (0, x4)), (5, (0, x5)), (11, (1, x11)), (13, (1, x13))] [] h
theorem cut_443_240 : fj_cut 443 240 = some [0] := by decide +kernel
noncomputable def c_443_240 (d : Nat) (s0 : Int) (h : fi_H) : fk_R := gG (fj_run d) 443 240 [(0, (4, 303))] [(0, s0)] h
theorem cut_443_250 : fj_cut 443 250 = some [0] := by decide +kernel
noncomputable def c_443_250 (d : Nat) (s0 : Int) (h : fi_H) : fk_R := gG (fj_run d) 443 250 [(0, (4, 303))] [(4, s0)] h
theorem e_443_72 (d : Nat) (x1 x2 x3 x4 x5 x6 x8 x10 : Int) {h : fi_H} (H : Shp h) : c_443_72 d x1 x2 x3 x4 x5 x6 x8 x10 h =
  ca_ (fj_run d 1 h [(0, x1)]) 0
    (fun v2 h1 =>
    if v2 = 0 then
      some (.inl (some (0, (-2))), h1)
    else
      ca_ (fj_run d 2 h1 [(4, 303), (0, x4)]) 0
        (fun v5 h4 =>
        if v5 = 0 then
          some (.inl (some (0, (-2))), h4)
        else
          ca_ (fj_run d 425 h4 [(4, 303), (4, x10), (1, x6), (1, 0)]) 0
            (fun v8 h7 =>
            if v8 = 0 then
              some (.inl (some (0, (-2))), h7)
            else
              ca_ (fj_run d 425 h7 [(4, 303), (4, x10), (1, x8), (1, 0)]) 0
                (fun v11 h10 =>
                if v11 = 0 then
                  some (.inl (some (0, (-2))), h10)
                else
                  if 0 < lc_ x6 x8 then
                    some (.inl (some (0, (-2))), h10)
                  else
                    cv_ (fj_run d 307 h10 [(4, 303), (0, h10 239 303 0), (0, 1)])
                      (fun h13 =>
                      lt_ (fi_upd h13 224 303 0 1) fun h16 =>
                      lt_ (fi_upd h16 225 303 0 x3) fun h17 =>
                      lt_ (fi_upd h17 226 303 0 x5) fun h18 =>
                      c_443_156 d x1 x2 x3 x4 x5 x6 x8 h18)
                      (fun q15 h13 => tx_ q15 h13))
                (fun q12 h10 => tx_ q12 h10))
            (fun q9 h7 => tx_ q9 h7))
        (fun q6 h4 => tx_ q6 h4))
    (fun q3 h1 => tx_ q3 h1) := by
  unfold c_443_72
  exact
    have D : fk_D 443 [(72, some [0, 1, 2, 3, 4, 5, 6, 8, 10], .iload_n 1, 1, 0, 0, 0), (73, none, .invokestatic 526, 3, 1, 1, 1), (76, none, .ifCond .eq 44, 3, 120, 0, 0), (79, none, .aload_n 0, 1, 0, 0, 0), (80, none, .iload 4, 2, 0, 0, 0), (82, none, .invokevirtual 121, 3, 1, 113, 1), (85, none, .ifCond .eq 35, 3, 120, 0, 0), (88, none, .aload_n 0, 1, 0, 0, 0), (89, none, .aload 10, 2, 0, 0, 0), (91, none, .lload 6, 2, 0, 0, 0), (93, none, .lconst 0, 1, 0, 0, 0), (94, none, .invokevirtual 952, 3, 3, 179, 1), (97, none, .ifCond .eq 23, 3, 120, 0, 0), (100, none, .aload_n 0, 1, 0, 0, 0), (101, none, .aload 10, 2, 0, 0, 0), (103, none, .lload 8, 2, 0, 0, 0), (105, none, .lconst 0, 1, 0, 0, 0), (106, none, .invokevirtual 952, 3, 3, 179, 1), (109, none, .ifCond .eq 11, 3, 120, 0, 0), (112, none, .lload 6, 2, 0, 0, 0)] := fq_of2 cd_443 ow_443 cl_443 rfl (pc := 72) (by decide +kernel)
    j_ildn (pc := 72) D rfl rfl rfl fun D =>
    j_is (pc := 73) (m := 1) (a := [(0, x1)]) (rest := []) D rfl rfl rfl rfl (fun v2 h1 e1 D =>
      have T := fj_run_ok _ _ _ _ _ _ H.1 e1
      have H := shp_st H T
      j_ifeq (pc := 76) D rfl (fun q =>
        have D : fk_D 443 [(120, none, .bipush (-2), 2, 0, (-2), 0), (122, none, .ireturn, 1, 0, 0, 0)] := fq_of2 cd_443 ow_443 cl_443 rfl (pc := 120) (by decide +kernel)
        j_bp (pc := 120) D rfl fun D =>
        j_iret D rt_443) (fun q D =>
        j_aldn (pc := 79) D rfl rfl rfl fun D =>
        j_ild (pc := 80) D rfl rfl rfl fun D =>
        j_iv (pc := 82) (m := 2) (dd := 113) (a := [(0, x4)]) (rest := []) D rfl rfl rfl rfl rfl (by decide) (s0_303 H) (by decide +kernel) (fun v5 h4 e1 D =>
          have T := fj_run_ok _ _ _ _ _ _ H.1 e1
          have H := shp_st H T
          j_ifeq (pc := 85) D rfl (fun q =>
            have D : fk_D 443 [(120, none, .bipush (-2), 2, 0, (-2), 0), (122, none, .ireturn, 1, 0, 0, 0)] := fq_of2 cd_443 ow_443 cl_443 rfl (pc := 120) (by decide +kernel)
            j_bp (pc := 120) D rfl fun D =>
            j_iret D rt_443) (fun q D =>
            j_aldn (pc := 88) D rfl rfl rfl fun D =>
            j_ald (pc := 89) D rfl rfl rfl fun D =>
            j_lld (pc := 91) D rfl rfl rfl fun D =>
            j_c0 (pc := 93) (v := (1, 0)) D rfl rfl (by decide +kernel) fun D =>
            j_iv (pc := 94) (m := 425) (dd := 179) (a := [(4, x10), (1, x6), (1, 0)]) (rest := []) D rfl rfl rfl rfl rfl (by decide) (s0_303 H) (by decide +kernel) (fun v8 h7 e1 D =>
              have T := fj_run_ok _ _ _ _ _ _ H.1 e1
              have H := shp_st H T
              j_ifeq (pc := 97) D rfl (fun q =>
                have D : fk_D 443 [(120, none, .bipush (-2), 2, 0, (-2), 0), (122, none, .ireturn, 1, 0, 0, 0)] := fq_of2 cd_443 ow_443 cl_443 rfl (pc := 120) (by decide +kernel)
                j_bp (pc := 120) D rfl fun D =>
                j_iret D rt_443) (fun q D =>
                j_aldn (pc := 100) D rfl rfl rfl fun D =>
                j_ald (pc := 101) D rfl rfl rfl fun D =>
                j_lld (pc := 103) D rfl rfl rfl fun D =>
                j_c0 (pc := 105) (v := (1, 0)) D rfl rfl (by decide +kernel) fun D =>
                j_iv (pc := 106) (m := 425) (dd := 179) (a := [(4, x10), (1, x8), (1, 0)]) (rest := []) D rfl rfl rfl rfl rfl (by decide) (s0_303 H) (by decide +kernel) (fun v11 h10 e1 D =>
                  have T := fj_run_ok _ _ _ _ _ _ H.1 e1
                  have H := shp_st H T
                  j_ifeq (pc := 109) D rfl (fun q =>
                    have D : fk_D 443 [(120, none, .bipush (-2), 2, 0, (-2), 0), (122, none, .ireturn, 1, 0, 0, 0)] := fq_of2 cd_443 ow_443 cl_443 rfl (pc := 120) (by decide +kernel)
                    j_bp (pc := 120) D rfl fun D =>
                    j_iret D rt_443) (fun q D =>
                    j_lld (pc := 112) D rfl rfl rfl fun D =>
                    have D : fk_D 443 [(114, none, .lload 8, 2, 0, 0, 0), (116, none, .lcmp, 1, 0, 0, 0), (117, none, .ifCond .le 6, 3, 123, 0, 0), (120, none, .bipush (-2), 2, 0, (-2), 0), (122, none, .ireturn, 1, 0, 0, 0)] := fq_of2 cd_443 ow_443 cl_443 rfl (pc := 114) (by decide +kernel)
                    j_lld (pc := 114) D rfl rfl rfl fun D =>
                    j_lcmp (pc := 116) D rfl fun D =>
                    j_ifle (pc := 117) D rfl (fun q D =>
                      j_bp (pc := 120) D rfl fun D =>
                      j_iret D rt_443) (fun q =>
                      have D : fk_D 443 [(123, none, .aload_n 0, 1, 0, 0, 0), (124, none, .aload_n 0, 1, 0, 0, 0), (125, none, .getfield 615, 3, 239, 100, 10), (128, none, .iconst 1, 1, 0, 1, 0), (129, none, .invokevirtual 881, 3, 2, 170, 0), (132, none, .aload_n 0, 1, 0, 0, 0), (133, none, .iconst 1, 1, 0, 1, 0), (134, none, .putfield 208, 3, 224, 100, 4), (137, none, .aload_n 0, 1, 0, 0, 0), (138, none, .iload_n 3, 1, 0, 0, 0), (139, none, .putfield 212, 3, 225, 100, 10), (142, none, .aload_n 0, 1, 0, 0, 0), (143, none, .iload 5, 2, 0, 0, 0), (145, none, .putfield 215, 3, 226, 100, 10), (148, none, .lload 6, 2, 0, 0, 0), (150, none, .lstore 11, 2, 0, 0, 0), (152, none, .lload 8, 2, 0, 0, 0), (154, none, .lstore 13, 2, 0, 0, 0)] := fq_of2 cd_443 ow_443 cl_443 rfl (pc := 123) (by decide +kernel)
                      j_aldn (pc := 123) D rfl rfl rfl fun D =>
                      j_aldn (pc := 124) D rfl rfl rfl fun D =>
                      j_gf (pc := 125) (a := 303) D rfl rfl (by decide) rfl (s0_303 H) rfl fun D =>
                      j_ic (pc := 128) D rfl fun D =>
                      j_ivv (pc := 129) (m := 307) (dd := 170) (a := [(0, h10 239 303 0), (0, 1)]) (rest := []) D rfl rfl rfl rfl rfl (by decide) (s0_303 H) (by decide +kernel) (fun h13 e1 D =>
                        have T := fj_run_ok _ _ _ _ _ _ H.1 e1
                        have H := shp_st H T
                        j_aldn (pc := 132) D rfl rfl rfl fun D =>
                        j_ic (pc := 133) D rfl fun D =>
                        j_pf (pc := 134) (a := 303) D rfl rfl rfl (s0_303 H) rfl rfl (gy (by decide)) (gy (by decide)) fun h16 eh16 S D =>
                        have T := fj_hs_ok H.1 S
                        have H := shp_st H T
                        j_aldn (pc := 137) D rfl rfl rfl fun D =>
                        j_ildn (pc := 138) D rfl rfl rfl fun D =>
                        j_pf (pc := 139) (a := 303) D rfl rfl rfl (s0_303 H) rfl rfl (gy (by decide)) (gy rfl) fun h17 eh17 S D =>
                        have T := fj_hs_ok H.1 S
                        have H := shp_st H T
                        j_aldn (pc := 142) D rfl rfl rfl fun D =>
                        j_ild (pc := 143) D rfl rfl rfl fun D =>
                        j_pf (pc := 145) (a := 303) D rfl rfl rfl (s0_303 H) rfl rfl (gy (by decide)) (gy rfl) fun h18 eh18 S D =>
                        have T := fj_hs_ok H.1 S
                        have H := shp_st H T
                        j_lld (pc := 148) D rfl rfl rfl fun D =>
                        j_lst (pc := 150) (L' := [(11, (1, x6)), (0, (4, 303)), (1, (0, x1)), (2, (0, x2)), (3, (0, x3)), (4, (0, x4)), (5, (0, x5)), (6, (1, x6)), (8, (1, x8)), (10, (4, x10))]) D rfl nl_443 rfl rfl fun D =>
                        j_lld (pc := 152) D rfl rfl rfl fun D =>
                        j_lst (pc := 154) (L' := [(13, (1, x8)), (11, (1, x6)), (0, (4, 303)), (1, (0, x1)), (2, (0, x2)), (3, (0, x3)), (4, (0, x4)), (5, (0, x5)), (6, (1, x6)), (8, (1, x8)), (10, (4, x10))]) D rfl nl_443 rfl rfl fun D =>
                        fk_jump cut_443_156 rfl rfl) (fun q15 h13 e1 =>
                        j_tx (by decide +kernel))))) (fun q12 h10 e1 =>
                  j_tx (by decide +kernel)))) (fun q9 h7 e1 =>
              j_tx (by decide +kernel)))) (fun q6 h4 e1 =>
          j_tx (by decide +kernel)))) (fun q3 h1 e1 =>
      j_tx (by decide +kernel))
theorem e_443_156 (d : Nat) (x1 x2 x3 x4 x5 x11 x13 : Int) {h : fi_H} (H : Shp h) : c_443_156 d x1 x2 x3 x4 x5 x11 x13 h =
  if lc_ x11 x13 < 0 then
    ca_ (fj_run d 373 h [(1, wJ (x11 + x13)), (1, 2)]) 1
      (fun v2 h1 =>
      ca_ (fj_run d 444 h1 [(4, 303), (0, x1), (0, x2), (0, x3), (0, x4), (0, x5), (1, v2)]) 0
        (fun v5 h4 =>
        if v5 = 0 then
          c_443_206 d x1 x2 x3 x4 x5 (wJ (v2 + 1)) x13 h4
        else
          c_443_206 d x1 x2 x3 x4 x5 x11 v2 h4)
        (fun q6 h4 => tc_ 107 q6 h4 (c_443_250 d (q6 : Int) h4)))
      (fun q3 h1 => tc_ 107 q3 h1 (c_443_250 d (q3 : Int) h1))
  else
    ca_ (fj_run d 444 h [(4, 303), (0, x1), (0, x2), (0, x3), (0, x4), (0, x5), (1, x11)]) 0
      (fun v8 h7 =>
      lt_ (fi_upd h7 287 303 0 x11) fun h10 =>
      if v8 = 0 then
        c_443_240 d 0 h10
      else
        c_443_240 d 1 h10)
      (fun q9 h7 => tc_ 107 q9 h7 (c_443_250 d (q9 : Int) h7)) := by
  unfold c_443_156
  exact
    have D : fk_D 443 [(156, some [0, 1, 2, 3, 4, 5, 11, 13], .lload 11, 2, 0, 0, 0), (158, none, .lload 13, 2, 0, 0, 0), (160, none, .lcmp, 1, 0, 0, 0), (161, none, .ifCond .ge 48, 3, 209, 0, 0), (164, none, .lload 11, 2, 0, 0, 0), (166, none, .lload 13, 2, 0, 0, 0), (168, none, .ladd, 1, 0, 0, 0), (169, none, .ldc2_w 1008, 3, 1, 2, 0), (172, none, .invokestatic 1010, 3, 2, 373, 2), (175, none, .lstore 15, 2, 0, 0, 0), (177, none, .aload_n 0, 1, 0, 0, 0), (178, none, .iload_n 1, 1, 0, 0, 0), (179, none, .iload_n 2, 1, 0, 0, 0), (180, none, .iload_n 3, 1, 0, 0, 0), (181, none, .iload 4, 2, 0, 0, 0), (183, none, .iload 5, 2, 0, 0, 0), (185, none, .lload 15, 2, 0, 0, 0), (187, none, .invokevirtual 1013, 3, 6, 186, 1), (190, none, .ifCond .eq 10, 3, 200, 0, 0), (193, none, .lload 15, 2, 0, 0, 0)] := fq_of2 cd_443 ow_443 cl_443 rfl (pc := 156) (by decide +kernel)
    j_lld (pc := 156) D rfl rfl rfl fun D =>
    j_lld (pc := 158) D rfl rfl rfl fun D =>
    j_lcmp (pc := 160) D rfl fun D =>
    j_ifge (pc := 161) D rfl (fun q D =>
      j_lld (pc := 164) D rfl rfl rfl fun D =>
      j_lld (pc := 166) D rfl rfl rfl fun D =>
      j_ladd (pc := 168) D rfl fun D =>
      j_ldc2 (pc := 169) D rfl fun D =>
      j_is (pc := 172) (m := 373) (a := [(1, wJ (x11 + x13)), (1, 2)]) (rest := []) D rfl rfl rfl rfl (fun v2 h1 e1 D =>
        have T := fj_run_ok _ _ _ _ _ _ H.1 e1
        have H := shp_st H T
        j_lst (pc := 175) (L' := [(15, (1, v2)), (0, (4, 303)), (1, (0, x1)), (2, (0, x2)), (3, (0, x3)), (4, (0, x4)), (5, (0, x5)), (11, (1, x11)), (13, (1, x13))]) D rfl nl_443 rfl rfl fun D =>
        j_aldn (pc := 177) D rfl rfl rfl fun D =>
        j_ildn (pc := 178) D rfl rfl rfl fun D =>
        j_ildn (pc := 179) D rfl rfl rfl fun D =>
        j_ildn (pc := 180) D rfl rfl rfl fun D =>
        j_ild (pc := 181) D rfl rfl rfl fun D =>
        j_ild (pc := 183) D rfl rfl rfl fun D =>
        j_lld (pc := 185) D rfl rfl rfl fun D =>
        j_iv (pc := 187) (m := 444) (dd := 186) (a := [(0, x1), (0, x2), (0, x3), (0, x4), (0, x5), (1, v2)]) (rest := []) D rfl rfl rfl rfl rfl (by decide) (s0_303 H) (by decide +kernel) (fun v5 h4 e1 D =>
          have T := fj_run_ok _ _ _ _ _ _ H.1 e1
          have H := shp_st H T
          j_ifeq (pc := 190) D rfl (fun q =>
            have D : fk_D 443 [(200, none, .lload 15, 2, 0, 0, 0), (202, none, .lconst 1, 1, 0, 0, 0), (203, none, .ladd, 1, 0, 0, 0), (204, none, .lstore 11, 2, 0, 0, 0)] := fq_of2 cd_443 ow_443 cl_443 rfl (pc := 200) (by decide +kernel)
            j_lld (pc := 200) D rfl rfl rfl fun D =>
            j_c0 (pc := 202) (v := (1, 1)) D rfl rfl (by decide +kernel) fun D =>
            j_ladd (pc := 203) D rfl fun D =>
            j_lst (pc := 204) (L' := [(11, (1, wJ (v2 + 1))), (15, (1, v2)), (0, (4, 303)), (1, (0, x1)), (2, (0, x2)), (3, (0, x3)), (4, (0, x4)), (5, (0, x5)), (13, (1, x13))]) D rfl nl_443 rfl rfl fun D =>
            fk_jump cut_443_206 rfl rfl) (fun q D =>
            j_lld (pc := 193) D rfl rfl rfl fun D =>
            have D : fk_D 443 [(195, none, .lstore 13, 2, 0, 0, 0), (197, none, .goto 9, 3, 206, 0, 0)] := fq_of2 cd_443 ow_443 cl_443 rfl (pc := 195) (by decide +kernel)
            j_lst (pc := 195) (L' := [(13, (1, v2)), (15, (1, v2)), (0, (4, 303)), (1, (0, x1)), (2, (0, x2)), (3, (0, x3)), (4, (0, x4)), (5, (0, x5)), (11, (1, x11))]) D rfl nl_443 rfl rfl fun D =>
            j_goto (pc := 197) D rfl <|
            fk_jump cut_443_206 rfl rfl)) (fun q6 h4 e1 =>
          j_tc_ (n := 107) (fk_at (cu := none) (by decide +kernel) rfl) (s := 148) (e := 242) (hp := 250) (ct := 312) (by decide +kernel) rfl (by decide +kernel) <|
          fk_jump cut_443_250 rfl rfl)) (fun q3 h1 e1 =>
        j_tc_ (n := 107) (fk_at (cu := none) (by decide +kernel) rfl) (s := 148) (e := 242) (hp := 250) (ct := 312) (by decide +kernel) rfl (by decide +kernel) <|
        fk_jump cut_443_250 rfl rfl)) (fun q =>
      have D : fk_D 443 [(209, none, .aload_n 0, 1, 0, 0, 0), (210, none, .iload_n 1, 1, 0, 0, 0), (211, none, .iload_n 2, 1, 0, 0, 0), (212, none, .iload_n 3, 1, 0, 0, 0), (213, none, .iload 4, 2, 0, 0, 0), (215, none, .iload 5, 2, 0, 0, 0), (217, none, .lload 11, 2, 0, 0, 0), (219, none, .invokevirtual 1013, 3, 6, 186, 1), (222, none, .istore 15, 2, 0, 0, 0), (224, none, .aload_n 0, 1, 0, 0, 0), (225, none, .lload 11, 2, 0, 0, 0), (227, none, .putfield 1017, 3, 287, 100, 11), (230, none, .iload 15, 2, 0, 0, 0), (232, none, .ifCond .eq 7, 3, 239, 0, 0), (235, none, .iconst 1, 1, 0, 1, 0), (236, none, .goto 4, 3, 240, 0, 0)] := fq_of2 cd_443 ow_443 cl_443 rfl (pc := 209) (by decide +kernel)
      j_aldn (pc := 209) D rfl rfl rfl fun D =>
      j_ildn (pc := 210) D rfl rfl rfl fun D =>
      j_ildn (pc := 211) D rfl rfl rfl fun D =>
      j_ildn (pc := 212) D rfl rfl rfl fun D =>
      j_ild (pc := 213) D rfl rfl rfl fun D =>
      j_ild (pc := 215) D rfl rfl rfl fun D =>
      j_lld (pc := 217) D rfl rfl rfl fun D =>
      j_iv (pc := 219) (m := 444) (dd := 186) (a := [(0, x1), (0, x2), (0, x3), (0, x4), (0, x5), (1, x11)]) (rest := []) D rfl rfl rfl rfl rfl (by decide) (s0_303 H) (by decide +kernel) (fun v8 h7 e1 D =>
        have T := fj_run_ok _ _ _ _ _ _ H.1 e1
        have H := shp_st H T
        j_ist (pc := 222) (L' := [(15, (0, v8)), (0, (4, 303)), (1, (0, x1)), (2, (0, x2)), (3, (0, x3)), (4, (0, x4)), (5, (0, x5)), (11, (1, x11)), (13, (1, x13))]) D rfl nl_443 rfl rfl fun D =>
        j_aldn (pc := 224) D rfl rfl rfl fun D =>
        j_lld (pc := 225) D rfl rfl rfl fun D =>
        j_pf (pc := 227) (a := 303) D rfl rfl rfl (s0_303 H) rfl rfl (gy (by decide)) (gy rfl) fun h10 eh10 S D =>
        have T := fj_hs_ok H.1 S
        have H := shp_st H T
        j_ild (pc := 230) D rfl rfl rfl fun D =>
        j_ifeq (pc := 232) D rfl (fun q =>
          have D : fk_D 443 [(239, none, .iconst 0, 1, 0, 0, 0)] := fq_of2 cd_443 ow_443 cl_443 rfl (pc := 239) (by decide +kernel)
          j_ic (pc := 239) D rfl fun D =>
          fk_jump cut_443_240 rfl rfl) (fun q D =>
          j_ic (pc := 235) D rfl fun D =>
          j_goto (pc := 236) D rfl <|
          fk_jump cut_443_240 rfl rfl)) (fun q9 h7 e1 =>
        j_tc_ (n := 107) (fk_at (cu := none) (by decide +kernel) rfl) (s := 148) (e := 242) (hp := 250) (ct := 312) (by decide +kernel) rfl (by decide +kernel) <|
        fk_jump cut_443_250 rfl rfl))
theorem e_443_206 (d : Nat) (x1 x2 x3 x4 x5 x11 x13 : Int) {h : fi_H} (H : Shp h) : c_443_206 d x1 x2 x3 x4 x5 x11 x13 h =
  c_443_156 d x1 x2 x3 x4 x5 x11 x13 h := by
  unfold c_443_206
  exact
    have D : fk_D 443 [(206, some [0, 1, 2, 3, 4, 5, 11, 13], .goto (-50), 3, 156, 0, 0)] := fq_of2 cd_443 ow_443 cl_443 rfl (pc := 206) (by decide +kernel)
    j_goto (pc := 206) D rfl <|
    fk_jump cut_443_156 rfl rfl
theorem e_443_240 (d : Nat) (s0 : Int) {h : fi_H} (H : Shp h) : c_443_240 d s0 h =
  lt_ (fi_upd h 224 303 0 0) fun h1 =>
  some (.inl (some (0, s0)), h1) := by
  unfold c_443_240
  exact
    have D : fk_D 443 [(240, some [0], .istore 16, 2, 0, 0, 0), (242, none, .aload_n 0, 1, 0, 0, 0), (243, none, .iconst 0, 1, 0, 0, 0), (244, none, .putfield 208, 3, 224, 100, 4), (247, none, .iload 16, 2, 0, 0, 0), (249, none, .ireturn, 1, 0, 0, 0)] := fq_of2 cd_443 ow_443 cl_443 rfl (pc := 240) (by decide +kernel)
    j_ist (pc := 240) (L' := [(16, (0, s0)), (0, (4, 303))]) D rfl nl_443 rfl rfl fun D =>
    j_aldn (pc := 242) D rfl rfl rfl fun D =>
    j_ic (pc := 243) D rfl fun D =>
    j_pf (pc := 244) (a := 303) D rfl rfl rfl (s0_303 H) rfl rfl (gy (by decide)) (gy (by decide)) fun h1 eh1 S D =>
    have T := fj_hs_ok H.1 S
    have H := shp_st H T
    j_ild (pc := 247) D rfl rfl rfl fun D =>
    j_iret D rt_443
theorem e_443_250 (d : Nat) (s0 : Int) {h : fi_H} (H : Shp h) : c_443_250 d s0 h =
  if h 0 s0.toNat 0 = 107 then
  lt_ (fi_upd h 224 303 0 0) fun h2 =>
  some (.inl (some (0, wI ((-10) - (h 110 s0.toNat 0)))), h2)
  else none := by
  unfold c_443_250
  exact
    have D : fk_D 443 [(250, some [0], .astore 11, 2, 0, 0, 0), (252, none, .bipush (-10), 2, 0, (-10), 0), (254, none, .aload 11, 2, 0, 0, 0), (256, none, .getfield 311, 3, 110, (-107), 10), (259, none, .isub, 1, 0, 0, 0), (260, none, .istore 12, 2, 0, 0, 0), (262, none, .aload_n 0, 1, 0, 0, 0), (263, none, .iconst 0, 1, 0, 0, 0), (264, none, .putfield 208, 3, 224, 100, 4), (267, none, .iload 12, 2, 0, 0, 0), (269, none, .ireturn, 1, 0, 0, 0)] := fq_of2 cd_443 ow_443 cl_443 rfl (pc := 250) (by decide +kernel)
    j_ast (pc := 250) (L' := [(11, (4, s0)), (0, (4, 303))]) D rfl nl_443 rfl rfl fun D =>
    j_bp (pc := 252) D rfl fun D =>
    j_ald (pc := 254) D rfl rfl rfl fun D =>
    j_gfo (pc := 256) H.2.1 D rfl rfl rfl rfl fun kc1 D =>
    j_isub (pc := 259) D rfl fun D =>
    j_ist (pc := 260) (L' := [(12, (0, wI ((-10) - (h 110 s0.toNat 0)))), (11, (4, s0)), (0, (4, 303))]) D rfl nl_443 rfl rfl fun D =>
    j_aldn (pc := 262) D rfl rfl rfl fun D =>
    j_ic (pc := 263) D rfl fun D =>
    j_pf (pc := 264) (a := 303) D rfl rfl rfl (s0_303 H) rfl rfl (gy (by decide)) (gy (by decide)) fun h2 eh2 S D =>
    have T := fj_hs_ok H.1 S
    have kc1 := cls_st H.1 T.2 kc1 (by decide)
    have H := shp_st H T
    j_ild (pc := 267) D rfl rfl rfl fun D =>
    j_iret D rt_443
theorem m_443 (d : Nat) (x1 x2 x3 x4 x5 x6 x8 : Int) {h : fi_H} (H : Shp h) : fj_run (d + 1) 443 h [(4, 303), (0, x1), (0, x2), (0, x3), (0, x4), (0, x5), (1, x6), (1, x8)] =
  ca_ (fj_run d 71 h [(4, 303), (0, x2)]) 0
    (fun v2 h1 =>
    if v2 = 0 then
      some (.inl (some (0, (-1))), h1)
    else
      if 0 ≤ x2 ∧ x2 < 40 then
      if h1 0 (h1 12 320 x2.toNat).toNat 0 = 124 then
      if h1 324 (h1 12 320 x2.toNat).toNat 0 = 2 then
        ca_ (fj_run d 303 h1 [(4, 303), (0, x3)]) 0
          (fun v7 h6 =>
          if v7 = 0 then
            some (.inl (some (0, (-1))), h6)
          else
            ca_ (fj_run d 424 h6 [(4, 303), (0, x5)]) 0
              (fun v10 h9 =>
              if v10 = 0 then
                some (.inl (some (0, (-1))), h9)
              else
                if 0 ≤ x5 ∧ x5 < 40 then
                if h9 0 (h9 12 320 x5.toNat).toNat 0 = 124 then
                if h9 324 (h9 12 320 x5.toNat).toNat 0 = 3 then
                  c_443_72 d x1 x2 x3 x4 x5 x6 x8 (h9 324 (h9 12 320 x5.toNat).toNat 0) h9
                else
                  if h9 324 (h9 12 320 x5.toNat).toNat 0 = 4 then
                    c_443_72 d x1 x2 x3 x4 x5 x6 x8 (h9 324 (h9 12 320 x5.toNat).toNat 0) h9
                  else
                    some (.inl (some (0, (-1))), h9)
                else none
                else none)
              (fun q11 h9 => tx_ q11 h9))
          (fun q8 h6 => tx_ q8 h6)
      else
        some (.inl (some (0, (-1))), h1)
      else none
      else none)
    (fun q3 h1 => tx_ q3 h1) := by
  rw [fj_run_eq d (by decide) h [(4, 303), (0, x1), (0, x2), (0, x3), (0, x4), (0, x5), (1, x6), (1, x8)] (Nat.le_of_ble_eq_true (by rw [nl_443]; rfl))]
  show gG (fj_run d) 443 0 [(0, (4, 303)), (1, (0, x1)), (2, (0, x2)), (3, (0, x3)), (4, (0, x4)), (5, (0, x5)), (6, (1, x6)), (8, (1, x8))] [] h = _
  exact
    have D : fk_D 443 [(0, none, .aload_n 0, 1, 0, 0, 0), (1, none, .iload_n 2, 1, 0, 0, 0), (2, none, .invokevirtual 613, 3, 1, 155, 1), (5, none, .ifCond .eq 35, 3, 40, 0, 0), (8, none, .aload_n 0, 1, 0, 0, 0), (9, none, .getfield 255, 3, 214, 100, 12), (12, none, .iload_n 2, 1, 0, 0, 0), (13, none, .aaload, 1, 0, 0, 0), (14, none, .getfield 283, 3, 324, (-124), 12), (17, none, .getstatic 1005, 3, 4, 2, 0), (20, none, .if_acmp .ne 20, 3, 40, 0, 0), (23, none, .aload_n 0, 1, 0, 0, 0), (24, none, .iload_n 3, 1, 0, 0, 0), (25, none, .invokevirtual 870, 3, 1, 167, 1), (28, none, .ifCond .eq 12, 3, 40, 0, 0), (31, none, .aload_n 0, 1, 0, 0, 0), (32, none, .iload 5, 2, 0, 0, 0), (34, none, .invokevirtual 950, 3, 1, 178, 1), (37, none, .ifCond .ne 5, 3, 42, 0, 0), (40, none, .iconst (-1), 1, 0, (-1), 0)] := fq_of2 cd_443 ow_443 cl_443 rfl (pc := 0) (by decide +kernel)
    j_aldn (pc := 0) D rfl rfl rfl fun D =>
    j_ildn (pc := 1) D rfl rfl rfl fun D =>
    j_iv (pc := 2) (m := 71) (dd := 155) (a := [(0, x2)]) (rest := []) D rfl rfl rfl rfl rfl (by decide) (s0_303 H) (by decide +kernel) (fun v2 h1 e1 D =>
      have T := fj_run_ok _ _ _ _ _ _ H.1 e1
      have H := shp_st H T
      j_ifeq (pc := 5) D rfl (fun q =>
        have D : fk_D 443 [(40, none, .iconst (-1), 1, 0, (-1), 0), (41, none, .ireturn, 1, 0, 0, 0)] := fq_of2 cd_443 ow_443 cl_443 rfl (pc := 40) (by decide +kernel)
        j_ic (pc := 40) D rfl fun D =>
        j_iret D rt_443) (fun q D =>
        j_aldn (pc := 8) D rfl rfl rfl fun D =>
        j_gfc (pc := 9) (a := 303) D rfl rfl (by decide) rfl (s0_303 H) rfl (sf_214_303 H) fun D =>
        j_ildn (pc := 12) D rfl rfl rfl fun D =>
        j_al (pc := 13) (a := 320) (e := 12) D rfl rfl rfl (by decide) (s0_320 H) (s1_320 H) ⟨rfl, rfl, rfl⟩ rfl gn fun qb4 D =>
        j_gfo (pc := 14) H.2.1 D rfl rfl rfl rfl fun kc5 D =>
        j_gs (pc := 17) D rfl fun D =>
        j_ane (pc := 20) D rfl (fun q D =>
          j_aldn (pc := 23) D rfl rfl rfl fun D =>
          j_ildn (pc := 24) D rfl rfl rfl fun D =>
          j_iv (pc := 25) (m := 303) (dd := 167) (a := [(0, x3)]) (rest := []) D rfl rfl rfl rfl rfl (by decide) (s0_303 H) (by decide +kernel) (fun v7 h6 e1 D =>
            have T := fj_run_ok _ _ _ _ _ _ H.1 e1
            have H := shp_st H T
            j_ifeq (pc := 28) D rfl (fun q =>
              have D : fk_D 443 [(40, none, .iconst (-1), 1, 0, (-1), 0), (41, none, .ireturn, 1, 0, 0, 0)] := fq_of2 cd_443 ow_443 cl_443 rfl (pc := 40) (by decide +kernel)
              j_ic (pc := 40) D rfl fun D =>
              j_iret D rt_443) (fun q D =>
              j_aldn (pc := 31) D rfl rfl rfl fun D =>
              j_ild (pc := 32) D rfl rfl rfl fun D =>
              j_iv (pc := 34) (m := 424) (dd := 178) (a := [(0, x5)]) (rest := []) D rfl rfl rfl rfl rfl (by decide) (s0_303 H) (by decide +kernel) (fun v10 h9 e1 D =>
                have T := fj_run_ok _ _ _ _ _ _ H.1 e1
                have H := shp_st H T
                j_ifne (pc := 37) D rfl (fun q D =>
                  j_ic (pc := 40) D rfl fun D =>
                  have D : fk_D 443 [(41, none, .ireturn, 1, 0, 0, 0)] := fq_of2 cd_443 ow_443 cl_443 rfl (pc := 41) (by decide +kernel)
                  j_iret D rt_443) (fun q =>
                  have D : fk_D 443 [(42, none, .aload_n 0, 1, 0, 0, 0), (43, none, .getfield 255, 3, 214, 100, 12), (46, none, .iload 5, 2, 0, 0, 0), (48, none, .aaload, 1, 0, 0, 0), (49, none, .getfield 283, 3, 324, (-124), 12), (52, none, .astore 10, 2, 0, 0, 0), (54, none, .aload 10, 2, 0, 0, 0), (56, none, .getstatic 142, 3, 4, 3, 0), (59, none, .if_acmp .eq 13, 3, 72, 0, 0), (62, none, .aload 10, 2, 0, 0, 0), (64, none, .getstatic 184, 3, 4, 4, 0), (67, none, .if_acmp .eq 5, 3, 72, 0, 0), (70, none, .iconst (-1), 1, 0, (-1), 0), (71, none, .ireturn, 1, 0, 0, 0)] := fq_of2 cd_443 ow_443 cl_443 rfl (pc := 42) (by decide +kernel)
                  j_aldn (pc := 42) D rfl rfl rfl fun D =>
                  j_gfc (pc := 43) (a := 303) D rfl rfl (by decide) rfl (s0_303 H) rfl (sf_214_303 H) fun D =>
                  j_ild (pc := 46) D rfl rfl rfl fun D =>
                  j_al (pc := 48) (a := 320) (e := 12) D rfl rfl rfl (by decide) (s0_320 H) (s1_320 H) ⟨rfl, rfl, rfl⟩ rfl gn fun qb12 D =>
                  j_gfo (pc := 49) H.2.1 D rfl rfl rfl rfl fun kc13 D =>
                  j_ast (pc := 52) (L' := [(10, (4, h9 324 (h9 12 320 x5.toNat).toNat 0)), (0, (4, 303)), (1, (0, x1)), (2, (0, x2)), (3, (0, x3)), (4, (0, x4)), (5, (0, x5)), (6, (1, x6)), (8, (1, x8))]) D rfl nl_443 rfl rfl fun D =>
                  j_ald (pc := 54) D rfl rfl rfl fun D =>
                  j_gs (pc := 56) D rfl fun D =>
                  j_aeq (pc := 59) D rfl (fun q =>
                    fk_jump cut_443_72 rfl rfl) (fun q D =>
                    j_ald (pc := 62) D rfl rfl rfl fun D =>
                    j_gs (pc := 64) D rfl fun D =>
                    j_aeq (pc := 67) D rfl (fun q =>
                      fk_jump cut_443_72 rfl rfl) (fun q D =>
                      j_ic (pc := 70) D rfl fun D =>
                      j_iret D rt_443)))) (fun q11 h9 e1 =>
                j_tx (by decide +kernel)))) (fun q8 h6 e1 =>
            j_tx (by decide +kernel))) (fun q =>
          have D : fk_D 443 [(40, none, .iconst (-1), 1, 0, (-1), 0), (41, none, .ireturn, 1, 0, 0, 0)] := fq_of2 cd_443 ow_443 cl_443 rfl (pc := 40) (by decide +kernel)
          j_ic (pc := 40) D rfl fun D =>
          j_iret D rt_443))) (fun q3 h1 e1 =>
      j_tx (by decide +kernel))
/-! 444 StatuteHouse.isTrueWith(IIIIIJ)Z -/
theorem cd_444 : fi_code 444 = prog_1_method_91_code := rfl
theorem hx_444 : ∀ pc, fi_hat 444 pc = none := fun pc => by unfold fi_hat; rw [show fi_hh 444 = [] from rfl]; rfl
theorem rt_444 : fi_ret 444 = some .boolean := rfl
theorem nl_444 : fi_nl 444 = 8 := rfl
theorem ow_444 : fi_ow 444 = 0 := rfl
theorem cl_444 : fj_cutT.getD 444 [] = [] := rfl
theorem m_444 (d : Nat) (x1 x2 x3 x4 x5 x6 : Int) {h : fi_H} (H : Shp h) : fj_run (d + 1) 444 h [(4, 303), (0, x1), (0, x2), (0, x3), (0, x4), (0, x5), (1, x6)] =
  if 0 ≤ x5 ∧ x5 < 40 then
  if h 0 (h 12 320 x5.toNat).toNat 0 = 124 then
  cv_ (fj_run d 215 h [(4, 341), (0, 8), (4, h 324 (h 12 320 x5.toNat).toNat 0), (1, x6), (1, 0)])
    (fun h3 =>
    if 0 ≤ x1 ∧ x1 < 4 then
    cv_ (fj_run d 308 h3 [(4, 303), (4, h3 12 354 x1.toNat), (0, x3), (0, x4)])
      (fun h7 =>
      cv_ (fj_run d 309 h7 [(4, 303), (0, x2), (0, 0)])
        (fun h10 =>
        if h10 4 310 0 = 0 ∨ h10 4 310 0 = 1 then some (.inl (some (0, h10 4 310 0)), h10) else none)
        (fun q12 h10 => tx_ q12 h10))
      (fun q9 h7 => tx_ q9 h7)
    else none)
    (fun q5 h3 => tx_ q5 h3)
  else none
  else none := by
  rw [fj_run_eq d (by decide) h [(4, 303), (0, x1), (0, x2), (0, x3), (0, x4), (0, x5), (1, x6)] (Nat.le_of_ble_eq_true (by rw [nl_444]; rfl))]
  show gG (fj_run d) 444 0 [(0, (4, 303)), (1, (0, x1)), (2, (0, x2)), (3, (0, x3)), (4, (0, x4)), (5, (0, x5)), (6, (1, x6))] [] h = _
  exact
    have D : fk_D 444 [(0, none, .aload_n 0, 1, 0, 0, 0), (1, none, .getfield 243, 3, 219, 100, 12), (4, none, .bipush 8, 2, 0, 8, 0), (6, none, .aload_n 0, 1, 0, 0, 0), (7, none, .getfield 255, 3, 214, 100, 12), (10, none, .iload 5, 2, 0, 0, 0), (12, none, .aaload, 1, 0, 0, 0), (13, none, .getfield 283, 3, 324, (-124), 12), (16, none, .lload 6, 2, 0, 0, 0), (18, none, .lconst 0, 1, 0, 0, 0), (19, none, .invokestatic 299, 3, 5, 215, 0), (22, none, .aload_n 0, 1, 0, 0, 0), (23, none, .aload_n 0, 1, 0, 0, 0), (24, none, .getfield 529, 3, 227, 100, 12), (27, none, .iload_n 1, 1, 0, 0, 0), (28, none, .aaload, 1, 0, 0, 0), (29, none, .iload_n 3, 1, 0, 0, 0), (30, none, .iload 4, 2, 0, 0, 0), (32, none, .invokevirtual 884, 3, 3, 171, 0), (35, none, .aload_n 0, 1, 0, 0, 0)] := fq_of2 cd_444 ow_444 cl_444 rfl (pc := 0) (by decide +kernel)
    j_aldn (pc := 0) D rfl rfl rfl fun D =>
    j_gfc (pc := 1) (a := 303) D rfl rfl (by decide) rfl (s0_303 H) rfl (sf_219_303 H) fun D =>
    j_bp (pc := 4) D rfl fun D =>
    j_aldn (pc := 6) D rfl rfl rfl fun D =>
    j_gfc (pc := 7) (a := 303) D rfl rfl (by decide) rfl (s0_303 H) rfl (sf_214_303 H) fun D =>
    j_ild (pc := 10) D rfl rfl rfl fun D =>
    j_al (pc := 12) (a := 320) (e := 12) D rfl rfl rfl (by decide) (s0_320 H) (s1_320 H) ⟨rfl, rfl, rfl⟩ rfl gn fun qb1 D =>
    j_gfo (pc := 13) H.2.1 D rfl rfl rfl rfl fun kc2 D =>
    j_lld (pc := 16) D rfl rfl rfl fun D =>
    j_c0 (pc := 18) (v := (1, 0)) D rfl rfl (by decide +kernel) fun D =>
    j_isv (pc := 19) (m := 215) (a := [(4, 341), (0, 8), (4, h 324 (h 12 320 x5.toNat).toNat 0), (1, x6), (1, 0)]) (rest := []) D rfl rfl rfl rfl (fun h3 e1 D =>
      have T := fj_run_ok _ _ _ _ _ _ H.1 e1
      have H := shp_st H T
      j_aldn (pc := 22) D rfl rfl rfl fun D =>
      j_aldn (pc := 23) D rfl rfl rfl fun D =>
      j_gfc (pc := 24) (a := 303) D rfl rfl (by decide) rfl (s0_303 H) rfl (sf_227_303 H) fun D =>
      j_ildn (pc := 27) D rfl rfl rfl fun D =>
      j_al (pc := 28) (a := 354) (e := 12) D rfl rfl rfl (by decide) (s0_354 H) (s1_354 H) ⟨rfl, rfl, rfl⟩ rfl gn fun qb6 D =>
      j_ildn (pc := 29) D rfl rfl rfl fun D =>
      j_ild (pc := 30) D rfl rfl rfl fun D =>
      j_ivv (pc := 32) (m := 308) (dd := 171) (a := [(4, h3 12 354 x1.toNat), (0, x3), (0, x4)]) (rest := []) D rfl rfl rfl rfl rfl (by decide) (s0_303 H) (by decide +kernel) (fun h7 e1 D =>
        have T := fj_run_ok _ _ _ _ _ _ H.1 e1
        have H := shp_st H T
        j_aldn (pc := 35) D rfl rfl rfl fun D =>
        have D : fk_D 444 [(36, none, .iload_n 2, 1, 0, 0, 0), (37, none, .iconst 0, 1, 0, 0, 0), (38, none, .invokevirtual 888, 3, 2, 172, 0), (41, none, .aload_n 0, 1, 0, 0, 0), (42, none, .getfield 113, 3, 213, 100, 12), (45, none, .getfield 56, 3, 114, 119, 12), (48, none, .iconst 0, 1, 0, 0, 0), (49, none, .baload, 1, 0, 0, 0), (50, none, .ireturn, 1, 0, 0, 0)] := fq_of2 cd_444 ow_444 cl_444 rfl (pc := 36) (by decide +kernel)
        j_ildn (pc := 36) D rfl rfl rfl fun D =>
        j_ic (pc := 37) D rfl fun D =>
        j_ivv (pc := 38) (m := 309) (dd := 172) (a := [(0, x2), (0, 0)]) (rest := []) D rfl rfl rfl rfl rfl (by decide) (s0_303 H) (by decide +kernel) (fun h10 e1 D =>
          have T := fj_run_ok _ _ _ _ _ _ H.1 e1
          have H := shp_st H T
          j_aldn (pc := 41) D rfl rfl rfl fun D =>
          j_gfc (pc := 42) (a := 303) D rfl rfl (by decide) rfl (s0_303 H) rfl (sf_213_303 H) fun D =>
          j_gfc (pc := 45) (a := 309) D rfl rfl (by decide) rfl (s0_309 H) rfl (sf_114_309 H) fun D =>
          j_ic (pc := 48) D rfl fun D =>
          j_al (pc := 49) (a := 310) (e := 4) D rfl rfl rfl (by decide) (s0_310 H) (s1_310 H) ⟨rfl, rfl, rfl⟩ rfl (gy (by decide)) fun q D =>
          j_zret D rt_444 gn) (fun q12 h10 e1 =>
          j_tx (hx_444 _))) (fun q9 h7 e1 =>
        j_tx (hx_444 _))) (fun q5 h3 e1 =>
      j_tx (hx_444 _))
/-! 445 StatuteHouse.solved()J -/
theorem cd_445 : fi_code 445 = prog_1_method_93_code := rfl
theorem hx_445 : ∀ pc, fi_hat 445 pc = none := fun pc => by unfold fi_hat; rw [show fi_hh 445 = [] from rfl]; rfl
theorem rt_445 : fi_ret 445 = some .long := rfl
theorem nl_445 : fi_nl 445 = 1 := rfl
theorem ow_445 : fi_ow 445 = 0 := rfl
theorem cl_445 : fj_cutT.getD 445 [] = [] := rfl
theorem m_445 (d : Nat) {h : fi_H} (H : Shp h) : fj_run (d + 1) 445 h [(4, 303)] =
  some (.inl (some (1, h 287 303 0)), h) := by
  rw [fj_run_eq d (by decide) h [(4, 303)] (Nat.le_of_ble_eq_true (by rw [nl_445]; rfl))]
  show gG (fj_run d) 445 0 [(0, (4, 303))] [] h = _
  exact
    have D : fk_D 445 [(0, none, .aload_n 0, 1, 0, 0, 0), (1, none, .getfield 1017, 3, 287, 100, 11), (4, none, .lreturn, 1, 0, 0, 0)] := fq_of2 cd_445 ow_445 cl_445 rfl (pc := 0) (by decide +kernel)
    j_aldn (pc := 0) D rfl rfl rfl fun D =>
    j_gf (pc := 1) (a := 303) D rfl rfl (by decide) rfl (s0_303 H) rfl fun D =>
    j_lret D rt_445
/-! 446 StatuteHouse.terms(III)I -/
theorem cd_446 : fi_code 446 = prog_1_method_94_code := rfl
theorem hx_446 : ∀ pc, fi_hat 446 pc = none := fun pc => by unfold fi_hat; rw [show fi_hh 446 = [] from rfl]; rfl
theorem rt_446 : fi_ret 446 = some .int := rfl
theorem nl_446 : fi_nl 446 = 6 := rfl
theorem ow_446 : fi_ow 446 = 0 := rfl
theorem cl_446 : fj_cutT.getD 446 [] = [] := rfl
theorem m_446 (d : Nat) (x1 x2 x3 : Int) {h : fi_H} (H : Shp h) : fj_run (d + 1) 446 h [(4, 303), (0, x1), (0, x2), (0, x3)] =
  ca_ (fj_run d 3 h [(1, wI x1), (1, 0), (1, 600)]) 0
    (fun v2 h1 =>
    if v2 = 0 then
      some (.inl (some (0, (-2))), h1)
    else
      if x2 < 0 then
        some (.inl (some (0, (-2))), h1)
      else
        ca_ (fj_run d 426 h1 [(1, wI x2), (1, wI x3)]) 0
          (fun v5 h4 =>
          if v5 = 0 then
            some (.inl (some (0, (-2))), h4)
          else
            lt_ (fi_upd h4 291 303 0 x1) fun h7 =>
            ca_ (fj_run d 194 h7 [(1, wI x2), (1, wI x3)]) 1
              (fun v9 h8 =>
              if v9 = 0 then none else
              lt_ (fi_upd h8 292 303 0 (wI (lq_ (wI x2) v9))) fun h11 =>
              if v9 = 0 then none else
              lt_ (fi_upd h11 293 303 0 (wI (lq_ (wI x3) v9))) fun h12 =>
              some (.inl (some (0, 1)), h12))
              (fun q10 h8 => tx_ q10 h8))
          (fun q6 h4 => tx_ q6 h4))
    (fun q3 h1 => tx_ q3 h1) := by
  rw [fj_run_eq d (by decide) h [(4, 303), (0, x1), (0, x2), (0, x3)] (Nat.le_of_ble_eq_true (by rw [nl_446]; rfl))]
  show gG (fj_run d) 446 0 [(0, (4, 303)), (1, (0, x1)), (2, (0, x2)), (3, (0, x3))] [] h = _
  exact
    have D : fk_D 446 [(0, none, .iload_n 1, 1, 0, 0, 0), (1, none, .i2l, 1, 0, 0, 0), (2, none, .lconst 0, 1, 0, 0, 0), (3, none, .ldc2_w 1020, 3, 1, 600, 0), (6, none, .invokestatic 46, 3, 3, 3, 1), (9, none, .ifCond .eq 17, 3, 26, 0, 0), (12, none, .iload_n 2, 1, 0, 0, 0), (13, none, .ifCond .lt 13, 3, 26, 0, 0), (16, none, .iload_n 2, 1, 0, 0, 0), (17, none, .i2l, 1, 0, 0, 0), (18, none, .iload_n 3, 1, 0, 0, 0), (19, none, .i2l, 1, 0, 0, 0), (20, none, .invokestatic 943, 3, 2, 426, 1), (23, none, .ifCond .ne 6, 3, 29, 0, 0), (26, none, .bipush (-2), 2, 0, (-2), 0), (28, none, .ireturn, 1, 0, 0, 0)] := fq_of2 cd_446 ow_446 cl_446 rfl (pc := 0) (by decide +kernel)
    j_ildn (pc := 0) D rfl rfl rfl fun D =>
    j_i2l (pc := 1) D rfl fun D =>
    j_c0 (pc := 2) (v := (1, 0)) D rfl rfl (by decide +kernel) fun D =>
    j_ldc2 (pc := 3) D rfl fun D =>
    j_is (pc := 6) (m := 3) (a := [(1, wI x1), (1, 0), (1, 600)]) (rest := []) D rfl rfl rfl rfl (fun v2 h1 e1 D =>
      have T := fj_run_ok _ _ _ _ _ _ H.1 e1
      have H := shp_st H T
      j_ifeq (pc := 9) D rfl (fun q =>
        have D : fk_D 446 [(26, none, .bipush (-2), 2, 0, (-2), 0), (28, none, .ireturn, 1, 0, 0, 0)] := fq_of2 cd_446 ow_446 cl_446 rfl (pc := 26) (by decide +kernel)
        j_bp (pc := 26) D rfl fun D =>
        j_iret D rt_446) (fun q D =>
        j_ildn (pc := 12) D rfl rfl rfl fun D =>
        j_iflt (pc := 13) D rfl (fun q =>
          have D : fk_D 446 [(26, none, .bipush (-2), 2, 0, (-2), 0), (28, none, .ireturn, 1, 0, 0, 0)] := fq_of2 cd_446 ow_446 cl_446 rfl (pc := 26) (by decide +kernel)
          j_bp (pc := 26) D rfl fun D =>
          j_iret D rt_446) (fun q D =>
          j_ildn (pc := 16) D rfl rfl rfl fun D =>
          j_i2l (pc := 17) D rfl fun D =>
          j_ildn (pc := 18) D rfl rfl rfl fun D =>
          j_i2l (pc := 19) D rfl fun D =>
          j_is (pc := 20) (m := 426) (a := [(1, wI x2), (1, wI x3)]) (rest := []) D rfl rfl rfl rfl (fun v5 h4 e1 D =>
            have T := fj_run_ok _ _ _ _ _ _ H.1 e1
            have H := shp_st H T
            j_ifne (pc := 23) D rfl (fun q D =>
              j_bp (pc := 26) D rfl fun D =>
              j_iret D rt_446) (fun q =>
              have D : fk_D 446 [(29, none, .aload_n 0, 1, 0, 0, 0), (30, none, .iload_n 1, 1, 0, 0, 0), (31, none, .putfield 707, 3, 291, 100, 10), (34, none, .iload_n 2, 1, 0, 0, 0), (35, none, .i2l, 1, 0, 0, 0), (36, none, .iload_n 3, 1, 0, 0, 0), (37, none, .i2l, 1, 0, 0, 0), (38, none, .invokestatic 134, 3, 2, 194, 2), (41, none, .lstore 4, 2, 0, 0, 0), (43, none, .aload_n 0, 1, 0, 0, 0), (44, none, .iload_n 2, 1, 0, 0, 0), (45, none, .i2l, 1, 0, 0, 0), (46, none, .lload 4, 2, 0, 0, 0), (48, none, .ldiv, 1, 0, 0, 0), (49, none, .l2i, 1, 0, 0, 0), (50, none, .putfield 710, 3, 292, 100, 10), (53, none, .aload_n 0, 1, 0, 0, 0), (54, none, .iload_n 3, 1, 0, 0, 0), (55, none, .i2l, 1, 0, 0, 0), (56, none, .lload 4, 2, 0, 0, 0)] := fq_of2 cd_446 ow_446 cl_446 rfl (pc := 29) (by decide +kernel)
              j_aldn (pc := 29) D rfl rfl rfl fun D =>
              j_ildn (pc := 30) D rfl rfl rfl fun D =>
              j_pf (pc := 31) (a := 303) D rfl rfl rfl (s0_303 H) rfl rfl (gy (by decide)) (gy rfl) fun h7 eh7 S D =>
              have T := fj_hs_ok H.1 S
              have H := shp_st H T
              j_ildn (pc := 34) D rfl rfl rfl fun D =>
              j_i2l (pc := 35) D rfl fun D =>
              j_ildn (pc := 36) D rfl rfl rfl fun D =>
              j_i2l (pc := 37) D rfl fun D =>
              j_is (pc := 38) (m := 194) (a := [(1, wI x2), (1, wI x3)]) (rest := []) D rfl rfl rfl rfl (fun v9 h8 e1 D =>
                have T := fj_run_ok _ _ _ _ _ _ H.1 e1
                have H := shp_st H T
                j_lst (pc := 41) (L' := [(4, (1, v9)), (0, (4, 303)), (1, (0, x1)), (2, (0, x2)), (3, (0, x3))]) D rfl nl_446 rfl rfl fun D =>
                j_aldn (pc := 43) D rfl rfl rfl fun D =>
                j_ildn (pc := 44) D rfl rfl rfl fun D =>
                j_i2l (pc := 45) D rfl fun D =>
                j_lld (pc := 46) D rfl rfl rfl fun D =>
                j_ldiv (pc := 48) D rfl fun q D =>
                j_l2i (pc := 49) D rfl fun D =>
                j_pf (pc := 50) (a := 303) D rfl rfl rfl (s0_303 H) rfl rfl (gy (by decide)) (gy rfl) fun h11 eh11 S D =>
                have T := fj_hs_ok H.1 S
                have H := shp_st H T
                j_aldn (pc := 53) D rfl rfl rfl fun D =>
                j_ildn (pc := 54) D rfl rfl rfl fun D =>
                j_i2l (pc := 55) D rfl fun D =>
                j_lld (pc := 56) D rfl rfl rfl fun D =>
                have D : fk_D 446 [(58, none, .ldiv, 1, 0, 0, 0), (59, none, .l2i, 1, 0, 0, 0), (60, none, .putfield 713, 3, 293, 100, 10), (63, none, .iconst 1, 1, 0, 1, 0), (64, none, .ireturn, 1, 0, 0, 0)] := fq_of2 cd_446 ow_446 cl_446 rfl (pc := 58) (by decide +kernel)
                j_ldiv (pc := 58) D rfl fun q D =>
                j_l2i (pc := 59) D rfl fun D =>
                j_pf (pc := 60) (a := 303) D rfl rfl rfl (s0_303 H) rfl rfl (gy (by decide)) (gy rfl) fun h12 eh12 S D =>
                have T := fj_hs_ok H.1 S
                have H := shp_st H T
                j_ic (pc := 63) D rfl fun D =>
                j_iret D rt_446) (fun q10 h8 e1 =>
                j_tx (hx_446 _)))) (fun q6 h4 e1 =>
            j_tx (hx_446 _))))) (fun q3 h1 e1 =>
      j_tx (hx_446 _))
/-! 447 StatuteHouse.dues(II)I -/
theorem cd_447 : fi_code 447 = prog_1_method_98_code := rfl
theorem hx_447 : ∀ pc, fi_hat 447 pc = none := fun pc => by unfold fi_hat; rw [show fi_hh 447 = [] from rfl]; rfl
theorem rt_447 : fi_ret 447 = some .int := rfl
theorem nl_447 : fi_nl 447 = 3 := rfl
theorem ow_447 : fi_ow 447 = 0 := rfl
theorem cl_447 : fj_cutT.getD 447 [] = [] := rfl
theorem m_447 (d : Nat) (x1 x2 : Int) {h : fi_H} (H : Shp h) : fj_run (d + 1) 447 h [(4, 303), (0, x1), (0, x2)] =
  ca_ (fj_run d 3 h [(1, wI x1), (1, 0), (1, 100000)]) 0
    (fun v2 h1 =>
    if v2 = 0 then
      some (.inl (some (0, (-2))), h1)
    else
      ca_ (fj_run d 3 h1 [(1, wI x2), (1, 1), (1, 600)]) 0
        (fun v5 h4 =>
        if v5 = 0 then
          some (.inl (some (0, (-2))), h4)
        else
          lt_ (fi_upd h4 310 303 0 x1) fun h7 =>
          lt_ (fi_upd h7 311 303 0 x2) fun h8 =>
          some (.inl (some (0, 1)), h8))
        (fun q6 h4 => tx_ q6 h4))
    (fun q3 h1 => tx_ q3 h1) := by
  rw [fj_run_eq d (by decide) h [(4, 303), (0, x1), (0, x2)] (Nat.le_of_ble_eq_true (by rw [nl_447]; rfl))]
  show gG (fj_run d) 447 0 [(0, (4, 303)), (1, (0, x1)), (2, (0, x2))] [] h = _
  exact
    have D : fk_D 447 [(0, none, .iload_n 1, 1, 0, 0, 0), (1, none, .i2l, 1, 0, 0, 0), (2, none, .lconst 0, 1, 0, 0, 0), (3, none, .ldc2_w 1032, 3, 1, 100000, 0), (6, none, .invokestatic 46, 3, 3, 3, 1), (9, none, .ifCond .eq 15, 3, 24, 0, 0), (12, none, .iload_n 2, 1, 0, 0, 0), (13, none, .i2l, 1, 0, 0, 0), (14, none, .lconst 1, 1, 0, 0, 0), (15, none, .ldc2_w 1020, 3, 1, 600, 0), (18, none, .invokestatic 46, 3, 3, 3, 1), (21, none, .ifCond .ne 6, 3, 27, 0, 0), (24, none, .bipush (-2), 2, 0, (-2), 0), (26, none, .ireturn, 1, 0, 0, 0)] := fq_of2 cd_447 ow_447 cl_447 rfl (pc := 0) (by decide +kernel)
    j_ildn (pc := 0) D rfl rfl rfl fun D =>
    j_i2l (pc := 1) D rfl fun D =>
    j_c0 (pc := 2) (v := (1, 0)) D rfl rfl (by decide +kernel) fun D =>
    j_ldc2 (pc := 3) D rfl fun D =>
    j_is (pc := 6) (m := 3) (a := [(1, wI x1), (1, 0), (1, 100000)]) (rest := []) D rfl rfl rfl rfl (fun v2 h1 e1 D =>
      have T := fj_run_ok _ _ _ _ _ _ H.1 e1
      have H := shp_st H T
      j_ifeq (pc := 9) D rfl (fun q =>
        have D : fk_D 447 [(24, none, .bipush (-2), 2, 0, (-2), 0), (26, none, .ireturn, 1, 0, 0, 0)] := fq_of2 cd_447 ow_447 cl_447 rfl (pc := 24) (by decide +kernel)
        j_bp (pc := 24) D rfl fun D =>
        j_iret D rt_447) (fun q D =>
        j_ildn (pc := 12) D rfl rfl rfl fun D =>
        j_i2l (pc := 13) D rfl fun D =>
        j_c0 (pc := 14) (v := (1, 1)) D rfl rfl (by decide +kernel) fun D =>
        j_ldc2 (pc := 15) D rfl fun D =>
        j_is (pc := 18) (m := 3) (a := [(1, wI x2), (1, 1), (1, 600)]) (rest := []) D rfl rfl rfl rfl (fun v5 h4 e1 D =>
          have T := fj_run_ok _ _ _ _ _ _ H.1 e1
          have H := shp_st H T
          j_ifne (pc := 21) D rfl (fun q D =>
            j_bp (pc := 24) D rfl fun D =>
            j_iret D rt_447) (fun q =>
            have D : fk_D 447 [(27, none, .aload_n 0, 1, 0, 0, 0), (28, none, .iload_n 1, 1, 0, 0, 0), (29, none, .putfield 764, 3, 310, 100, 10), (32, none, .aload_n 0, 1, 0, 0, 0), (33, none, .iload_n 2, 1, 0, 0, 0), (34, none, .putfield 767, 3, 311, 100, 10), (37, none, .iconst 1, 1, 0, 1, 0), (38, none, .ireturn, 1, 0, 0, 0)] := fq_of2 cd_447 ow_447 cl_447 rfl (pc := 27) (by decide +kernel)
            j_aldn (pc := 27) D rfl rfl rfl fun D =>
            j_ildn (pc := 28) D rfl rfl rfl fun D =>
            j_pf (pc := 29) (a := 303) D rfl rfl rfl (s0_303 H) rfl rfl (gy (by decide)) (gy rfl) fun h7 eh7 S D =>
            have T := fj_hs_ok H.1 S
            have H := shp_st H T
            j_aldn (pc := 32) D rfl rfl rfl fun D =>
            j_ildn (pc := 33) D rfl rfl rfl fun D =>
            j_pf (pc := 34) (a := 303) D rfl rfl rfl (s0_303 H) rfl rfl (gy (by decide)) (gy rfl) fun h8 eh8 S D =>
            have T := fj_hs_ok H.1 S
            have H := shp_st H T
            j_ic (pc := 37) D rfl fun D =>
            j_iret D rt_447)) (fun q6 h4 e1 =>
          j_tx (hx_447 _)))) (fun q3 h1 e1 =>
      j_tx (hx_447 _))
/-! 448 StatuteHouse.pay(IJ)J -/
theorem cd_448 : fi_code 448 = prog_1_method_99_code := rfl
theorem hx_448 : ∀ pc, fi_hat 448 pc = none := fun pc => by unfold fi_hat; rw [show fi_hh 448 = [] from rfl]; rfl
theorem rt_448 : fi_ret 448 = some .long := rfl
theorem nl_448 : fi_nl 448 = 4 := rfl
theorem ow_448 : fi_ow 448 = 0 := rfl
theorem cl_448 : fj_cutT.getD 448 [] = [] := rfl
theorem m_448 (d : Nat) (x1 x2 : Int) {h : fi_H} (H : Shp h) : fj_run (d + 1) 448 h [(4, 303), (0, x1), (1, x2)] =
  ca_ (fj_run d 303 h [(4, 303), (0, x1)]) 0
    (fun v2 h1 =>
    if v2 = 0 then
      some (.inl (some (1, (-1))), h1)
    else
      ca_ (fj_run d 3 h1 [(1, x2), (1, 1), (1, 1000000000000)]) 0
        (fun v5 h4 =>
        if v5 = 0 then
          some (.inl (some (1, (-2))), h4)
        else
          if 0 ≤ x1 ∧ x1 < 30 then
          if 0 < lc_ (wJ ((h4 11 466 x1.toNat) + x2)) 1000000000000000 then
            some (.inl (some (1, (-4))), h4)
          else
            lt_ (fi_upd h4 11 466 x1.toNat (wJ ((h4 11 466 x1.toNat) + x2))) fun h8 =>
            cv_ (fj_run d 449 h8 [(4, 303), (0, x1)])
              (fun h9 =>
              some (.inl (some (1, h9 11 466 x1.toNat)), h9))
              (fun q11 h9 => tx_ q11 h9)
          else none)
        (fun q6 h4 => tx_ q6 h4))
    (fun q3 h1 => tx_ q3 h1) := by
  rw [fj_run_eq d (by decide) h [(4, 303), (0, x1), (1, x2)] (Nat.le_of_ble_eq_true (by rw [nl_448]; rfl))]
  show gG (fj_run d) 448 0 [(0, (4, 303)), (1, (0, x1)), (2, (1, x2))] [] h = _
  exact
    have D : fk_D 448 [(0, none, .aload_n 0, 1, 0, 0, 0), (1, none, .iload_n 1, 1, 0, 0, 0), (2, none, .invokevirtual 870, 3, 1, 167, 1), (5, none, .ifCond .ne 7, 3, 12, 0, 0), (8, none, .ldc2_w 965, 3, 1, (-1), 0), (11, none, .lreturn, 1, 0, 0, 0)] := fq_of2 cd_448 ow_448 cl_448 rfl (pc := 0) (by decide +kernel)
    j_aldn (pc := 0) D rfl rfl rfl fun D =>
    j_ildn (pc := 1) D rfl rfl rfl fun D =>
    j_iv (pc := 2) (m := 303) (dd := 167) (a := [(0, x1)]) (rest := []) D rfl rfl rfl rfl rfl (by decide) (s0_303 H) (by decide +kernel) (fun v2 h1 e1 D =>
      have T := fj_run_ok _ _ _ _ _ _ H.1 e1
      have H := shp_st H T
      j_ifne (pc := 5) D rfl (fun q D =>
        j_ldc2 (pc := 8) D rfl fun D =>
        j_lret D rt_448) (fun q =>
        have D : fk_D 448 [(12, none, .lload_n 2, 1, 0, 0, 0), (13, none, .lconst 1, 1, 0, 0, 0), (14, none, .ldc2_w 119, 3, 1, 1000000000000, 0), (17, none, .invokestatic 46, 3, 3, 3, 1), (20, none, .ifCond .ne 7, 3, 27, 0, 0), (23, none, .ldc2_w 1034, 3, 1, (-2), 0), (26, none, .lreturn, 1, 0, 0, 0)] := fq_of2 cd_448 ow_448 cl_448 rfl (pc := 12) (by decide +kernel)
        j_lldn (pc := 12) D rfl rfl rfl fun D =>
        j_c0 (pc := 13) (v := (1, 1)) D rfl rfl (by decide +kernel) fun D =>
        j_ldc2 (pc := 14) D rfl fun D =>
        j_is (pc := 17) (m := 3) (a := [(1, x2), (1, 1), (1, 1000000000000)]) (rest := []) D rfl rfl rfl rfl (fun v5 h4 e1 D =>
          have T := fj_run_ok _ _ _ _ _ _ H.1 e1
          have H := shp_st H T
          j_ifne (pc := 20) D rfl (fun q D =>
            j_ldc2 (pc := 23) D rfl fun D =>
            j_lret D rt_448) (fun q =>
            have D : fk_D 448 [(27, none, .aload_n 0, 1, 0, 0, 0), (28, none, .getfield 752, 3, 306, 100, 12), (31, none, .iload_n 1, 1, 0, 0, 0), (32, none, .laload, 1, 0, 0, 0), (33, none, .lload_n 2, 1, 0, 0, 0), (34, none, .ladd, 1, 0, 0, 0), (35, none, .ldc2_w 1036, 3, 1, 1000000000000000, 0), (38, none, .lcmp, 1, 0, 0, 0), (39, none, .ifCond .le 7, 3, 46, 0, 0), (42, none, .ldc2_w 1038, 3, 1, (-4), 0), (45, none, .lreturn, 1, 0, 0, 0)] := fq_of2 cd_448 ow_448 cl_448 rfl (pc := 27) (by decide +kernel)
            j_aldn (pc := 27) D rfl rfl rfl fun D =>
            j_gfc (pc := 28) (a := 303) D rfl rfl (by decide) rfl (s0_303 H) rfl (sf_306_303 H) fun D =>
            j_ildn (pc := 31) D rfl rfl rfl fun D =>
            j_al (pc := 32) (a := 466) (e := 11) D rfl rfl rfl (by decide) (s0_466 H) (s1_466 H) ⟨rfl, rfl, rfl⟩ rfl gn fun qb7 D =>
            j_lldn (pc := 33) D rfl rfl rfl fun D =>
            j_ladd (pc := 34) D rfl fun D =>
            j_ldc2 (pc := 35) D rfl fun D =>
            j_lcmp (pc := 38) D rfl fun D =>
            j_ifle (pc := 39) D rfl (fun q D =>
              j_ldc2 (pc := 42) D rfl fun D =>
              j_lret D rt_448) (fun q =>
              have D : fk_D 448 [(46, none, .aload_n 0, 1, 0, 0, 0), (47, none, .getfield 752, 3, 306, 100, 12), (50, none, .iload_n 1, 1, 0, 0, 0), (51, none, .dup2, 1, 0, 0, 0), (52, none, .laload, 1, 0, 0, 0), (53, none, .lload_n 2, 1, 0, 0, 0), (54, none, .ladd, 1, 0, 0, 0), (55, none, .lastore, 1, 0, 0, 0), (56, none, .aload_n 0, 1, 0, 0, 0), (57, none, .iload_n 1, 1, 0, 0, 0), (58, none, .invokevirtual 1040, 3, 1, 188, 0), (61, none, .aload_n 0, 1, 0, 0, 0), (62, none, .getfield 752, 3, 306, 100, 12), (65, none, .iload_n 1, 1, 0, 0, 0), (66, none, .laload, 1, 0, 0, 0), (67, none, .lreturn, 1, 0, 0, 0)] := fq_of2 cd_448 ow_448 cl_448 rfl (pc := 46) (by decide +kernel)
              j_aldn (pc := 46) D rfl rfl rfl fun D =>
              j_gfc (pc := 47) (a := 303) D rfl rfl (by decide) rfl (s0_303 H) rfl (sf_306_303 H) fun D =>
              j_ildn (pc := 50) D rfl rfl rfl fun D =>
              j_sh (pc := 51) D rfl rfl rfl fun D =>
              j_al (pc := 52) (a := 466) (e := 11) D rfl rfl rfl (by decide) (s0_466 H) (s1_466 H) ⟨rfl, rfl, rfl⟩ rfl (gy qb7) fun q D =>
              j_lldn (pc := 53) D rfl rfl rfl fun D =>
              j_ladd (pc := 54) D rfl fun D =>
              j_as (pc := 55) (a := 466) (e := 11) D rfl ⟨rfl, rfl⟩ rfl (by decide) (s0_466 H) (s1_466 H) ⟨rfl, rfl, rfl⟩ rfl (gy qb7) (gy rfl) fun h8 eh8 S q D =>
              have T := fj_hs_ok H.1 S
              have H := shp_st H T
              j_aldn (pc := 56) D rfl rfl rfl fun D =>
              j_ildn (pc := 57) D rfl rfl rfl fun D =>
              j_ivv (pc := 58) (m := 449) (dd := 188) (a := [(0, x1)]) (rest := []) D rfl rfl rfl rfl rfl (by decide) (s0_303 H) (by decide +kernel) (fun h9 e1 D =>
                have T := fj_run_ok _ _ _ _ _ _ H.1 e1
                have H := shp_st H T
                j_aldn (pc := 61) D rfl rfl rfl fun D =>
                j_gfc (pc := 62) (a := 303) D rfl rfl (by decide) rfl (s0_303 H) rfl (sf_306_303 H) fun D =>
                j_ildn (pc := 65) D rfl rfl rfl fun D =>
                j_al (pc := 66) (a := 466) (e := 11) D rfl rfl rfl (by decide) (s0_466 H) (s1_466 H) ⟨rfl, rfl, rfl⟩ rfl (gy qb7) fun q D =>
                j_lret D rt_448) (fun q11 h9 e1 =>
                j_tx (hx_448 _))))) (fun q6 h4 e1 =>
          j_tx (hx_448 _)))) (fun q3 h1 e1 =>
      j_tx (hx_448 _))
/-! 449 StatuteHouse.settle(I)V -/
theorem cd_449 : fi_code 449 = prog_1_method_97_code := rfl
theorem hx_449 : ∀ pc, fi_hat 449 pc = none := fun pc => by unfold fi_hat; rw [show fi_hh 449 = [] from rfl]; rfl
theorem rt_449 : fi_ret 449 = none := rfl
theorem nl_449 : fi_nl 449 = 5 := rfl
theorem ow_449 : fi_ow 449 = 0 := rfl
theorem cl_449 : fj_cutT.getD 449 [] = [(6, [0, 1, 2])] := rfl
theorem cut_449_6 : fj_cut 449 6 = some [0, 1, 2] := by decide +kernel
noncomputable def c_449_6 (d : Nat) (x1 x2 : Int) (h : fi_H) : fk_R := gG (fj_run d) 449 6 [(0, (4, 303)), (1, (0, x1)), (2, (0, x2))] [] h
theorem e_449_6 (d : Nat) (x1 x2 : Int) {h : fi_H} (H : Shp h) : c_449_6 d x1 x2 h =
  if x2 = (-1) then
    some (.inl none, h)
  else
    if 0 ≤ x1 ∧ x1 < 30 then
    if 0 < lc_ (h 11 466 x1.toNat) 0 then
      if 0 ≤ x2 ∧ x2 < 400 then
      ca_ (fj_run d 153 h [(1, h 11 466 x1.toNat), (1, h 11 465 x2.toNat)]) 1
        (fun v4 h3 =>
        lt_ (fi_upd h3 11 466 x1.toNat (wJ ((h3 11 466 x1.toNat) - v4))) fun h6 =>
        lt_ (fi_upd h6 11 465 x2.toNat (wJ ((h6 11 465 x2.toNat) - v4))) fun h7 =>
        ca_ (fj_run d 450 h7 [(4, 303), (0, x1)]) 0
          (fun v9 h8 =>
          c_449_6 d x1 v9 h8)
          (fun q10 h8 => tx_ q10 h8))
        (fun q5 h3 => tx_ q5 h3)
      else none
    else
      some (.inl none, h)
    else none := by
  unfold c_449_6
  exact
    have D : fk_D 449 [(6, some [0, 1, 2], .iload_n 2, 1, 0, 0, 0), (7, none, .iconst (-1), 1, 0, (-1), 0), (8, none, .if_icmp .eq 59, 3, 67, 0, 0), (11, none, .aload_n 0, 1, 0, 0, 0), (12, none, .getfield 752, 3, 306, 100, 12), (15, none, .iload_n 1, 1, 0, 0, 0), (16, none, .laload, 1, 0, 0, 0), (17, none, .lconst 0, 1, 0, 0, 0), (18, none, .lcmp, 1, 0, 0, 0), (19, none, .ifCond .le 48, 3, 67, 0, 0), (22, none, .aload_n 0, 1, 0, 0, 0), (23, none, .getfield 752, 3, 306, 100, 12), (26, none, .iload_n 1, 1, 0, 0, 0), (27, none, .laload, 1, 0, 0, 0), (28, none, .aload_n 0, 1, 0, 0, 0), (29, none, .getfield 749, 3, 305, 100, 12), (32, none, .iload_n 2, 1, 0, 0, 0), (33, none, .laload, 1, 0, 0, 0), (34, none, .invokestatic 1029, 3, 2, 153, 2), (37, none, .lstore_n 3, 1, 0, 0, 0)] := fq_of2 cd_449 ow_449 cl_449 rfl (pc := 6) (by decide +kernel)
    j_ildn (pc := 6) D rfl rfl rfl fun D =>
    j_ic (pc := 7) D rfl fun D =>
    j_ieq (pc := 8) D rfl (fun q =>
      have D : fk_D 449 [(67, none, .return_, 1, 0, 0, 0)] := fq_of2 cd_449 ow_449 cl_449 rfl (pc := 67) (by decide +kernel)
      j_vret D rt_449) (fun q D =>
      j_aldn (pc := 11) D rfl rfl rfl fun D =>
      j_gfc (pc := 12) (a := 303) D rfl rfl (by decide) rfl (s0_303 H) rfl (sf_306_303 H) fun D =>
      j_ildn (pc := 15) D rfl rfl rfl fun D =>
      j_al (pc := 16) (a := 466) (e := 11) D rfl rfl rfl (by decide) (s0_466 H) (s1_466 H) ⟨rfl, rfl, rfl⟩ rfl gn fun qb1 D =>
      j_c0 (pc := 17) (v := (1, 0)) D rfl rfl (by decide +kernel) fun D =>
      j_lcmp (pc := 18) D rfl fun D =>
      j_ifle (pc := 19) D rfl (fun q D =>
        j_aldn (pc := 22) D rfl rfl rfl fun D =>
        j_gfc (pc := 23) (a := 303) D rfl rfl (by decide) rfl (s0_303 H) rfl (sf_306_303 H) fun D =>
        j_ildn (pc := 26) D rfl rfl rfl fun D =>
        j_al (pc := 27) (a := 466) (e := 11) D rfl rfl rfl (by decide) (s0_466 H) (s1_466 H) ⟨rfl, rfl, rfl⟩ rfl (gy qb1) fun q D =>
        j_aldn (pc := 28) D rfl rfl rfl fun D =>
        j_gfc (pc := 29) (a := 303) D rfl rfl (by decide) rfl (s0_303 H) rfl (sf_305_303 H) fun D =>
        j_ildn (pc := 32) D rfl rfl rfl fun D =>
        j_al (pc := 33) (a := 465) (e := 11) D rfl rfl rfl (by decide) (s0_465 H) (s1_465 H) ⟨rfl, rfl, rfl⟩ rfl gn fun qb2 D =>
        j_is (pc := 34) (m := 153) (a := [(1, h 11 466 x1.toNat), (1, h 11 465 x2.toNat)]) (rest := []) D rfl rfl rfl rfl (fun v4 h3 e1 D =>
          have T := fj_run_ok _ _ _ _ _ _ H.1 e1
          have H := shp_st H T
          j_lstn (pc := 37) (L' := [(3, (1, v4)), (0, (4, 303)), (1, (0, x1)), (2, (0, x2))]) D rfl nl_449 rfl rfl fun D =>
          have D : fk_D 449 [(38, none, .aload_n 0, 1, 0, 0, 0), (39, none, .getfield 752, 3, 306, 100, 12), (42, none, .iload_n 1, 1, 0, 0, 0), (43, none, .dup2, 1, 0, 0, 0), (44, none, .laload, 1, 0, 0, 0), (45, none, .lload_n 3, 1, 0, 0, 0), (46, none, .lsub, 1, 0, 0, 0), (47, none, .lastore, 1, 0, 0, 0), (48, none, .aload_n 0, 1, 0, 0, 0), (49, none, .getfield 749, 3, 305, 100, 12), (52, none, .iload_n 2, 1, 0, 0, 0), (53, none, .dup2, 1, 0, 0, 0), (54, none, .laload, 1, 0, 0, 0), (55, none, .lload_n 3, 1, 0, 0, 0), (56, none, .lsub, 1, 0, 0, 0), (57, none, .lastore, 1, 0, 0, 0), (58, none, .aload_n 0, 1, 0, 0, 0), (59, none, .iload_n 1, 1, 0, 0, 0), (60, none, .invokevirtual 1026, 3, 1, 187, 1), (63, none, .istore_n 2, 1, 0, 0, 0)] := fq_of2 cd_449 ow_449 cl_449 rfl (pc := 38) (by decide +kernel)
          j_aldn (pc := 38) D rfl rfl rfl fun D =>
          j_gfc (pc := 39) (a := 303) D rfl rfl (by decide) rfl (s0_303 H) rfl (sf_306_303 H) fun D =>
          j_ildn (pc := 42) D rfl rfl rfl fun D =>
          j_sh (pc := 43) D rfl rfl rfl fun D =>
          j_al (pc := 44) (a := 466) (e := 11) D rfl rfl rfl (by decide) (s0_466 H) (s1_466 H) ⟨rfl, rfl, rfl⟩ rfl (gy qb1) fun q D =>
          j_lldn (pc := 45) D rfl rfl rfl fun D =>
          j_lsub (pc := 46) D rfl fun D =>
          j_as (pc := 47) (a := 466) (e := 11) D rfl ⟨rfl, rfl⟩ rfl (by decide) (s0_466 H) (s1_466 H) ⟨rfl, rfl, rfl⟩ rfl (gy qb1) (gy rfl) fun h6 eh6 S q D =>
          have T := fj_hs_ok H.1 S
          have H := shp_st H T
          j_aldn (pc := 48) D rfl rfl rfl fun D =>
          j_gfc (pc := 49) (a := 303) D rfl rfl (by decide) rfl (s0_303 H) rfl (sf_305_303 H) fun D =>
          j_ildn (pc := 52) D rfl rfl rfl fun D =>
          j_sh (pc := 53) D rfl rfl rfl fun D =>
          j_al (pc := 54) (a := 465) (e := 11) D rfl rfl rfl (by decide) (s0_465 H) (s1_465 H) ⟨rfl, rfl, rfl⟩ rfl (gy qb2) fun q D =>
          j_lldn (pc := 55) D rfl rfl rfl fun D =>
          j_lsub (pc := 56) D rfl fun D =>
          j_as (pc := 57) (a := 465) (e := 11) D rfl ⟨rfl, rfl⟩ rfl (by decide) (s0_465 H) (s1_465 H) ⟨rfl, rfl, rfl⟩ rfl (gy qb2) (gy rfl) fun h7 eh7 S q D =>
          have T := fj_hs_ok H.1 S
          have H := shp_st H T
          j_aldn (pc := 58) D rfl rfl rfl fun D =>
          j_ildn (pc := 59) D rfl rfl rfl fun D =>
          j_iv (pc := 60) (m := 450) (dd := 187) (a := [(0, x1)]) (rest := []) D rfl rfl rfl rfl rfl (by decide) (s0_303 H) (by decide +kernel) (fun v9 h8 e1 D =>
            have T := fj_run_ok _ _ _ _ _ _ H.1 e1
            have H := shp_st H T
            j_istn (pc := 63) (L' := [(2, (0, v9)), (3, (1, v4)), (0, (4, 303)), (1, (0, x1))]) D rfl nl_449 rfl rfl fun D =>
            have D : fk_D 449 [(64, none, .goto (-58), 3, 6, 0, 0)] := fq_of2 cd_449 ow_449 cl_449 rfl (pc := 64) (by decide +kernel)
            j_goto (pc := 64) D rfl <|
            fk_jump cut_449_6 rfl rfl) (fun q10 h8 e1 =>
            j_tx (hx_449 _))) (fun q5 h3 e1 =>
          j_tx (hx_449 _))) (fun q =>
        have D : fk_D 449 [(67, none, .return_, 1, 0, 0, 0)] := fq_of2 cd_449 ow_449 cl_449 rfl (pc := 67) (by decide +kernel)
        j_vret D rt_449))
theorem m_449 (d : Nat) (x1 : Int) {h : fi_H} (H : Shp h) : fj_run (d + 1) 449 h [(4, 303), (0, x1)] =
  ca_ (fj_run d 450 h [(4, 303), (0, x1)]) 0
    (fun v2 h1 =>
    c_449_6 d x1 v2 h1)
    (fun q3 h1 => tx_ q3 h1) := by
  rw [fj_run_eq d (by decide) h [(4, 303), (0, x1)] (Nat.le_of_ble_eq_true (by rw [nl_449]; rfl))]
  show gG (fj_run d) 449 0 [(0, (4, 303)), (1, (0, x1))] [] h = _
  exact
    have D : fk_D 449 [(0, none, .aload_n 0, 1, 0, 0, 0), (1, none, .iload_n 1, 1, 0, 0, 0), (2, none, .invokevirtual 1026, 3, 1, 187, 1), (5, none, .istore_n 2, 1, 0, 0, 0)] := fq_of2 cd_449 ow_449 cl_449 rfl (pc := 0) (by decide +kernel)
    j_aldn (pc := 0) D rfl rfl rfl fun D =>
    j_ildn (pc := 1) D rfl rfl rfl fun D =>
    j_iv (pc := 2) (m := 450) (dd := 187) (a := [(0, x1)]) (rest := []) D rfl rfl rfl rfl rfl (by decide) (s0_303 H) (by decide +kernel) (fun v2 h1 e1 D =>
      have T := fj_run_ok _ _ _ _ _ _ H.1 e1
      have H := shp_st H T
      j_istn (pc := 5) (L' := [(2, (0, v2)), (0, (4, 303)), (1, (0, x1))]) D rfl nl_449 rfl rfl fun D =>
      fk_jump cut_449_6 rfl rfl) (fun q3 h1 e1 =>
      j_tx (hx_449 _))
/-! 450 StatuteHouse.nextOpen(I)I -/
theorem cd_450 : fi_code 450 = prog_1_method_96_code := rfl
theorem hx_450 : ∀ pc, fi_hat 450 pc = none := fun pc => by unfold fi_hat; rw [show fi_hh 450 = [] from rfl]; rfl
theorem rt_450 : fi_ret 450 = some .int := rfl
theorem nl_450 : fi_nl 450 = 4 := rfl
theorem ow_450 : fi_ow 450 = 0 := rfl
theorem cl_450 : fj_cutT.getD 450 [] = [(4, [0, 1, 2, 3]), (65, [0, 1, 3]), (67, [0, 1, 2, 3])] := rfl
theorem cut_450_4 : fj_cut 450 4 = some [0, 1, 2, 3] := by decide +kernel
noncomputable def c_450_4 (d : Nat) (x1 x2 x3 : Int) (h : fi_H) : fk_R := gG (fj_run d) 450 4 [(0, (4, 303)), (1, (0, x1)), (2, (0, x2)), (3, (0, x3))] [] h
theorem cut_450_65 : fj_cut 450 65 = some [0, 1, 3] := by decide +kernel
noncomputable def c_450_65 (d : Nat) (x1 x3 : Int) (h : fi_H) : fk_R := gG (fj_run d) 450 65 [(0, (4, 303)), (1, (0, x1)), (3, (0, x3))] [] h
theorem cut_450_67 : fj_cut 450 67 = some [0, 1, 2, 3] := by decide +kernel
noncomputable def c_450_67 (d : Nat) (x1 x2 x3 : Int) (h : fi_H) : fk_R := gG (fj_run d) 450 67 [(0, (4, 303)), (1, (0, x1)), (2, (0, x2)), (3, (0, x3))] [] h
theorem e_450_4 (d : Nat) (x1 x2 x3 : Int) {h : fi_H} (H : Shp h) : c_450_4 d x1 x2 x3 h =
  if x3 < h 290 303 0 then
    if 0 ≤ x3 ∧ x3 < 400 then
    if h 8 454 x3.toNat = x1 then
      if lc_ (h 11 465 x3.toNat) 0 = 0 then
        c_450_67 d x1 x2 x3 h
      else
        if h 4 469 x3.toNat = 0 then
          if x2 = (-1) then
            c_450_65 d x1 x3 h
          else
            if 0 ≤ x2 ∧ x2 < 400 then
            if h 5 459 x3.toNat < h 5 459 x2.toNat then
              c_450_65 d x1 x3 h
            else
              c_450_67 d x1 x2 x3 h
            else none
        else
          c_450_67 d x1 x2 x3 h
    else
      c_450_67 d x1 x2 x3 h
    else none
  else
    some (.inl (some (0, x2)), h) := by
  unfold c_450_4
  exact
    have D : fk_D 450 [(4, some [0, 1, 2, 3], .iload_n 3, 1, 0, 0, 0), (5, none, .aload_n 0, 1, 0, 0, 0), (6, none, .getfield 923, 3, 290, 100, 10), (9, none, .if_icmp .ge 64, 3, 73, 0, 0), (12, none, .aload_n 0, 1, 0, 0, 0), (13, none, .getfield 716, 3, 294, 100, 12), (16, none, .iload_n 3, 1, 0, 0, 0), (17, none, .baload, 1, 0, 0, 0), (18, none, .iload_n 1, 1, 0, 0, 0), (19, none, .if_icmp .ne 48, 3, 67, 0, 0), (22, none, .aload_n 0, 1, 0, 0, 0), (23, none, .getfield 749, 3, 305, 100, 12), (26, none, .iload_n 3, 1, 0, 0, 0), (27, none, .laload, 1, 0, 0, 0), (28, none, .lconst 0, 1, 0, 0, 0), (29, none, .lcmp, 1, 0, 0, 0), (30, none, .ifCond .eq 37, 3, 67, 0, 0), (33, none, .aload_n 0, 1, 0, 0, 0), (34, none, .getfield 761, 3, 309, 100, 12), (37, none, .iload_n 3, 1, 0, 0, 0)] := fq_of2 cd_450 ow_450 cl_450 rfl (pc := 4) (by decide +kernel)
    j_ildn (pc := 4) D rfl rfl rfl fun D =>
    j_aldn (pc := 5) D rfl rfl rfl fun D =>
    j_gf (pc := 6) (a := 303) D rfl rfl (by decide) rfl (s0_303 H) rfl fun D =>
    j_ige (pc := 9) D rfl (fun q D =>
      j_aldn (pc := 12) D rfl rfl rfl fun D =>
      j_gfc (pc := 13) (a := 303) D rfl rfl (by decide) rfl (s0_303 H) rfl (sf_294_303 H) fun D =>
      j_ildn (pc := 16) D rfl rfl rfl fun D =>
      j_al (pc := 17) (a := 454) (e := 8) D rfl rfl rfl (by decide) (s0_454 H) (s1_454 H) ⟨rfl, rfl, rfl⟩ rfl gn fun qb1 D =>
      j_ildn (pc := 18) D rfl rfl rfl fun D =>
      j_ine (pc := 19) D rfl (fun q D =>
        j_aldn (pc := 22) D rfl rfl rfl fun D =>
        j_gfc (pc := 23) (a := 303) D rfl rfl (by decide) rfl (s0_303 H) rfl (sf_305_303 H) fun D =>
        j_ildn (pc := 26) D rfl rfl rfl fun D =>
        j_al (pc := 27) (a := 465) (e := 11) D rfl rfl rfl (by decide) (s0_465 H) (s1_465 H) ⟨rfl, rfl, rfl⟩ rfl (gy qb1) fun q D =>
        j_c0 (pc := 28) (v := (1, 0)) D rfl rfl (by decide +kernel) fun D =>
        j_lcmp (pc := 29) D rfl fun D =>
        j_ifeq (pc := 30) D rfl (fun q =>
          fk_jump cut_450_67 rfl rfl) (fun q D =>
          j_aldn (pc := 33) D rfl rfl rfl fun D =>
          j_gfc (pc := 34) (a := 303) D rfl rfl (by decide) rfl (s0_303 H) rfl (sf_309_303 H) fun D =>
          j_ildn (pc := 37) D rfl rfl rfl fun D =>
          have D : fk_D 450 [(38, none, .baload, 1, 0, 0, 0), (39, none, .ifCond .eq 6, 3, 45, 0, 0), (42, none, .goto 25, 3, 67, 0, 0)] := fq_of2 cd_450 ow_450 cl_450 rfl (pc := 38) (by decide +kernel)
          j_al (pc := 38) (a := 469) (e := 4) D rfl rfl rfl (by decide) (s0_469 H) (s1_469 H) ⟨rfl, rfl, rfl⟩ rfl (gy qb1) fun q D =>
          j_ifeq (pc := 39) D rfl (fun q =>
            have D : fk_D 450 [(45, none, .iload_n 2, 1, 0, 0, 0), (46, none, .iconst (-1), 1, 0, (-1), 0), (47, none, .if_icmp .eq 18, 3, 65, 0, 0), (50, none, .aload_n 0, 1, 0, 0, 0), (51, none, .getfield 731, 3, 299, 100, 12), (54, none, .iload_n 3, 1, 0, 0, 0), (55, none, .caload, 1, 0, 0, 0), (56, none, .aload_n 0, 1, 0, 0, 0), (57, none, .getfield 731, 3, 299, 100, 12), (60, none, .iload_n 2, 1, 0, 0, 0), (61, none, .caload, 1, 0, 0, 0), (62, none, .if_icmp .ge 5, 3, 67, 0, 0)] := fq_of2 cd_450 ow_450 cl_450 rfl (pc := 45) (by decide +kernel)
            j_ildn (pc := 45) D rfl rfl rfl fun D =>
            j_ic (pc := 46) D rfl fun D =>
            j_ieq (pc := 47) D rfl (fun q =>
              fk_jump cut_450_65 rfl rfl) (fun q D =>
              j_aldn (pc := 50) D rfl rfl rfl fun D =>
              j_gfc (pc := 51) (a := 303) D rfl rfl (by decide) rfl (s0_303 H) rfl (sf_299_303 H) fun D =>
              j_ildn (pc := 54) D rfl rfl rfl fun D =>
              j_al (pc := 55) (a := 459) (e := 5) D rfl rfl rfl (by decide) (s0_459 H) (s1_459 H) ⟨rfl, rfl, rfl⟩ rfl (gy qb1) fun q D =>
              j_aldn (pc := 56) D rfl rfl rfl fun D =>
              j_gfc (pc := 57) (a := 303) D rfl rfl (by decide) rfl (s0_303 H) rfl (sf_299_303 H) fun D =>
              j_ildn (pc := 60) D rfl rfl rfl fun D =>
              j_al (pc := 61) (a := 459) (e := 5) D rfl rfl rfl (by decide) (s0_459 H) (s1_459 H) ⟨rfl, rfl, rfl⟩ rfl gn fun qb2 D =>
              j_ige (pc := 62) D rfl (fun q D =>
                fk_jump cut_450_65 rfl rfl) (fun q =>
                fk_jump cut_450_67 rfl rfl))) (fun q D =>
            j_goto (pc := 42) D rfl <|
            fk_jump cut_450_67 rfl rfl))) (fun q =>
        fk_jump cut_450_67 rfl rfl)) (fun q =>
      have D : fk_D 450 [(73, none, .iload_n 2, 1, 0, 0, 0), (74, none, .ireturn, 1, 0, 0, 0)] := fq_of2 cd_450 ow_450 cl_450 rfl (pc := 73) (by decide +kernel)
      j_ildn (pc := 73) D rfl rfl rfl fun D =>
      j_iret D rt_450)
theorem e_450_65 (d : Nat) (x1 x3 : Int) {h : fi_H} (H : Shp h) : c_450_65 d x1 x3 h =
  c_450_67 d x1 x3 x3 h := by
  unfold c_450_65
  exact
    have D : fk_D 450 [(65, some [0, 1, 3], .iload_n 3, 1, 0, 0, 0), (66, none, .istore_n 2, 1, 0, 0, 0)] := fq_of2 cd_450 ow_450 cl_450 rfl (pc := 65) (by decide +kernel)
    j_ildn (pc := 65) D rfl rfl rfl fun D =>
    j_istn (pc := 66) (L' := [(2, (0, x3)), (0, (4, 303)), (1, (0, x1)), (3, (0, x3))]) D rfl nl_450 rfl rfl fun D =>
    fk_jump cut_450_67 rfl rfl
theorem e_450_67 (d : Nat) (x1 x2 x3 : Int) {h : fi_H} (H : Shp h) : c_450_67 d x1 x2 x3 h =
  c_450_4 d x1 x2 (wI (x3 + 1)) h := by
  unfold c_450_67
  exact
    have D : fk_D 450 [(67, some [0, 1, 2, 3], .iinc 3 1, 3, 0, 1, 0), (70, none, .goto (-66), 3, 4, 0, 0)] := fq_of2 cd_450 ow_450 cl_450 rfl (pc := 67) (by decide +kernel)
    j_inc (pc := 67) (L' := [(3, (0, wI (x3 + 1))), (0, (4, 303)), (1, (0, x1)), (2, (0, x2))]) D rfl rfl rfl (by decide +kernel) rfl fun D =>
    j_goto (pc := 70) D rfl <|
    fk_jump cut_450_4 rfl rfl
theorem m_450 (d : Nat) (x1 : Int) {h : fi_H} (H : Shp h) : fj_run (d + 1) 450 h [(4, 303), (0, x1)] =
  c_450_4 d x1 (-1) 0 h := by
  rw [fj_run_eq d (by decide) h [(4, 303), (0, x1)] (Nat.le_of_ble_eq_true (by rw [nl_450]; rfl))]
  show gG (fj_run d) 450 0 [(0, (4, 303)), (1, (0, x1))] [] h = _
  exact
    have D : fk_D 450 [(0, none, .iconst (-1), 1, 0, (-1), 0), (1, none, .istore_n 2, 1, 0, 0, 0), (2, none, .iconst 0, 1, 0, 0, 0), (3, none, .istore_n 3, 1, 0, 0, 0)] := fq_of2 cd_450 ow_450 cl_450 rfl (pc := 0) (by decide +kernel)
    j_ic (pc := 0) D rfl fun D =>
    j_istn (pc := 1) (L' := [(2, (0, (-1))), (0, (4, 303)), (1, (0, x1))]) D rfl nl_450 rfl rfl fun D =>
    j_ic (pc := 2) D rfl fun D =>
    j_istn (pc := 3) (L' := [(3, (0, 0)), (2, (0, (-1))), (0, (4, 303)), (1, (0, x1))]) D rfl nl_450 rfl rfl fun D =>
    fk_jump cut_450_4 rfl rfl
/-! 451 StatuteHouse.remind(I)I -/
theorem cd_451 : fi_code 451 = prog_1_method_101_code := rfl
theorem rt_451 : fi_ret 451 = some .int := rfl
theorem nl_451 : fi_nl 451 = 6 := rfl
theorem ow_451 : fi_ow 451 = 0 := rfl
theorem cl_451 : fj_cutT.getD 451 [] = [(14, [0, 1, 2, 3]), (37, [0, 1, 3]), (83, []), (118, [0, 1, 2, 3, 4, 5]), (195, [0, 1, 2, 3, 4, 5])] := rfl
theorem cut_451_14 : fj_cut 451 14 = some [0, 1, 2, 3] := by decide +kernel
noncomputable def c_451_14 (d : Nat) (x1 x2 x3 : Int) (h : fi_H) : fk_R := gG (fj_run d) 451 14 [(0, (4, 303)), (1, (0, x1)), (2, (0, x2)), (3, (0, x3))] [] h
theorem cut_451_37 : fj_cut 451 37 = some [0, 1, 3] := by decide +kernel
noncomputable def c_451_37 (d : Nat) (x1 x3 s0 s1 : Int) (h : fi_H) : fk_R := gG (fj_run d) 451 37 [(0, (4, 303)), (1, (0, x1)), (3, (0, x3))] [(0, s1), (0, s0)] h
theorem cut_451_83 : fj_cut 451 83 = some [] := by decide +kernel
noncomputable def c_451_83 (d : Nat) (s0 : Int) (h : fi_H) : fk_R := gG (fj_run d) 451 83 [] [(4, s0)] h
theorem cut_451_118 : fj_cut 451 118 = some [0, 1, 2, 3, 4, 5] := by decide +kernel
noncomputable def c_451_118 (d : Nat) (x1 x2 x3 x4 x5 : Int) (h : fi_H) : fk_R := gG (fj_run d) 451 118 [(0, (4, 303)), (1, (0, x1)), (2, (0, x2)), (3, (0, x3)), (4, (0, x4)), (5, (0, x5))] [] h
theorem cut_451_195 : fj_cut 451 195 = some [0, 1, 2, 3, 4, 5] := by decide +kernel
noncomputable def c_451_195 (d : Nat) (x1 x2 x3 x4 x5 : Int) (h : fi_H) : fk_R := gG (fj_run d) 451 195 [(0, (4, 303)), (1, (0, x1)), (2, (0, x2)), (3, (0, x3)), (4, (0, x4)), (5, (0, x5))] [] h
theorem e_451_14 (d : Nat) (x1 x2 x3 : Int) {h : fi_H} (H : Shp h) : c_451_14 d x1 x2 x3 h =
  if x3 < h 290 303 0 then
    ca_ (fj_run d 452 h [(4, 303), (0, x3), (0, x1)]) 0
      (fun v2 h1 =>
      if v2 = 0 then
        c_451_37 d x1 x3 x2 0 h1
      else
        c_451_37 d x1 x3 x2 1 h1)
      (fun q3 h1 => tx_ q3 h1)
  else
    if x2 = 0 then
      some (.inl (some (0, 0)), h)
    else
      lt_ (fi_upd h 249 303 0 0) fun h4 =>
      lt_ (fi_upd h4 250 303 0 0) fun h5 =>
      ca_ (fj_run d 350 h5 [(4, 306), (0, h5 239 303 0), (0, 0), (0, 14)]) 0
        (fun v7 h6 =>
        ca_ (fj_run d 453 h6 [(4, 303), (0, v7)]) 0
          (fun v10 h9 =>
          if 400 < wI ((h9 290 303 0) + x2) then
            some (.inl (some (0, (-4))), h9)
          else
            c_451_118 d x1 x2 v10 (h9 290 303 0) 0 h9)
          (fun q11 h9 => tc_ 107 q11 h9 (c_451_83 d (q11 : Int) h9)))
        (fun q8 h6 => tc_ 107 q8 h6 (c_451_83 d (q8 : Int) h6)) := by
  unfold c_451_14
  exact
    have D : fk_D 451 [(14, some [0, 1, 2, 3], .iload_n 3, 1, 0, 0, 0), (15, none, .aload_n 0, 1, 0, 0, 0), (16, none, .getfield 923, 3, 290, 100, 10), (19, none, .if_icmp .ge 26, 3, 45, 0, 0), (22, none, .iload_n 2, 1, 0, 0, 0), (23, none, .aload_n 0, 1, 0, 0, 0), (24, none, .iload_n 3, 1, 0, 0, 0), (25, none, .iload_n 1, 1, 0, 0, 0), (26, none, .invokevirtual 1043, 3, 2, 189, 1), (29, none, .ifCond .eq 7, 3, 36, 0, 0), (32, none, .iconst 1, 1, 0, 1, 0), (33, none, .goto 4, 3, 37, 0, 0)] := fq_of2 cd_451 ow_451 cl_451 rfl (pc := 14) (by decide +kernel)
    j_ildn (pc := 14) D rfl rfl rfl fun D =>
    j_aldn (pc := 15) D rfl rfl rfl fun D =>
    j_gf (pc := 16) (a := 303) D rfl rfl (by decide) rfl (s0_303 H) rfl fun D =>
    j_ige (pc := 19) D rfl (fun q D =>
      j_ildn (pc := 22) D rfl rfl rfl fun D =>
      j_aldn (pc := 23) D rfl rfl rfl fun D =>
      j_ildn (pc := 24) D rfl rfl rfl fun D =>
      j_ildn (pc := 25) D rfl rfl rfl fun D =>
      j_iv (pc := 26) (m := 452) (dd := 189) (a := [(0, x3), (0, x1)]) (rest := [(0, x2)]) D rfl rfl rfl rfl rfl (by decide) (s0_303 H) (by decide +kernel) (fun v2 h1 e1 D =>
        have T := fj_run_ok _ _ _ _ _ _ H.1 e1
        have H := shp_st H T
        j_ifeq (pc := 29) D rfl (fun q =>
          have D : fk_D 451 [(36, none, .iconst 0, 1, 0, 0, 0)] := fq_of2 cd_451 ow_451 cl_451 rfl (pc := 36) (by decide +kernel)
          j_ic (pc := 36) D rfl fun D =>
          fk_jump cut_451_37 rfl rfl) (fun q D =>
          j_ic (pc := 32) D rfl fun D =>
          j_goto (pc := 33) D rfl <|
          fk_jump cut_451_37 rfl rfl)) (fun q3 h1 e1 =>
        j_tx (by decide +kernel))) (fun q =>
      have D : fk_D 451 [(45, none, .iload_n 2, 1, 0, 0, 0), (46, none, .ifCond .ne 5, 3, 51, 0, 0), (49, none, .iconst 0, 1, 0, 0, 0), (50, none, .ireturn, 1, 0, 0, 0)] := fq_of2 cd_451 ow_451 cl_451 rfl (pc := 45) (by decide +kernel)
      j_ildn (pc := 45) D rfl rfl rfl fun D =>
      j_ifne (pc := 46) D rfl (fun q D =>
        j_ic (pc := 49) D rfl fun D =>
        j_iret D rt_451) (fun q =>
        have D : fk_D 451 [(51, none, .aload_n 0, 1, 0, 0, 0), (52, none, .iconst 0, 1, 0, 0, 0), (53, none, .putfield 276, 3, 249, 100, 10), (56, none, .aload_n 0, 1, 0, 0, 0), (57, none, .aconst_null, 1, 0, 0, 0), (58, none, .putfield 326, 3, 250, 100, 12), (61, none, .aload_n 0, 1, 0, 0, 0), (62, none, .aload_n 0, 1, 0, 0, 0), (63, none, .getfield 16, 3, 209, 100, 12), (66, none, .aload_n 0, 1, 0, 0, 0), (67, none, .getfield 615, 3, 239, 100, 10), (70, none, .iconst 0, 1, 0, 0, 0), (71, none, .bipush 14, 2, 0, 14, 0), (73, none, .invokevirtual 168, 3, 3, 119, 1), (76, none, .invokevirtual 1046, 3, 1, 190, 1), (79, none, .istore_n 3, 1, 0, 0, 0), (80, none, .goto 14, 3, 94, 0, 0)] := fq_of2 cd_451 ow_451 cl_451 rfl (pc := 51) (by decide +kernel)
        j_aldn (pc := 51) D rfl rfl rfl fun D =>
        j_ic (pc := 52) D rfl fun D =>
        j_pf (pc := 53) (a := 303) D rfl rfl rfl (s0_303 H) rfl rfl (gy (by decide)) (gy rfl) fun h4 eh4 S D =>
        have T := fj_hs_ok H.1 S
        have H := shp_st H T
        j_aldn (pc := 56) D rfl rfl rfl fun D =>
        j_c0 (pc := 57) (v := (4, 0)) D rfl rfl (by decide +kernel) fun D =>
        j_pf (pc := 58) (a := 303) D rfl rfl rfl (s0_303 H) rfl rfl (gy (by decide)) (gy rfl) fun h5 eh5 S D =>
        have T := fj_hs_ok H.1 S
        have H := shp_st H T
        j_aldn (pc := 61) D rfl rfl rfl fun D =>
        j_aldn (pc := 62) D rfl rfl rfl fun D =>
        j_gfc (pc := 63) (a := 303) D rfl rfl (by decide) rfl (s0_303 H) rfl (sf_209_303 H) fun D =>
        j_aldn (pc := 66) D rfl rfl rfl fun D =>
        j_gf (pc := 67) (a := 303) D rfl rfl (by decide) rfl (s0_303 H) rfl fun D =>
        j_ic (pc := 70) D rfl fun D =>
        j_bp (pc := 71) D rfl fun D =>
        j_iv (pc := 73) (m := 350) (dd := 119) (a := [(0, h5 239 303 0), (0, 0), (0, 14)]) (rest := [(4, 303)]) D rfl rfl rfl rfl rfl (by decide) (s0_306 H) (by decide +kernel) (fun v7 h6 e1 D =>
          have T := fj_run_ok _ _ _ _ _ _ H.1 e1
          have H := shp_st H T
          j_iv (pc := 76) (m := 453) (dd := 190) (a := [(0, v7)]) (rest := []) D rfl rfl rfl rfl rfl (by decide) (s0_303 H) (by decide +kernel) (fun v10 h9 e1 D =>
            have T := fj_run_ok _ _ _ _ _ _ H.1 e1
            have H := shp_st H T
            j_istn (pc := 79) (L' := [(3, (0, v10)), (0, (4, 303)), (1, (0, x1)), (2, (0, x2))]) D rfl nl_451 rfl rfl fun D =>
            j_goto (pc := 80) D rfl <|
            have D : fk_D 451 [(94, none, .aload_n 0, 1, 0, 0, 0), (95, none, .getfield 923, 3, 290, 100, 10), (98, none, .iload_n 2, 1, 0, 0, 0), (99, none, .iadd, 1, 0, 0, 0), (100, none, .sipush 400, 3, 0, 400, 0), (103, none, .if_icmp .le 6, 3, 109, 0, 0), (106, none, .bipush (-4), 2, 0, (-4), 0), (108, none, .ireturn, 1, 0, 0, 0)] := fq_of2 cd_451 ow_451 cl_451 rfl (pc := 94) (by decide +kernel)
            j_aldn (pc := 94) D rfl rfl rfl fun D =>
            j_gf (pc := 95) (a := 303) D rfl rfl (by decide) rfl (s0_303 H) rfl fun D =>
            j_ildn (pc := 98) D rfl rfl rfl fun D =>
            j_iadd (pc := 99) D rfl fun D =>
            j_sp (pc := 100) D rfl fun D =>
            j_ile (pc := 103) D rfl (fun q D =>
              j_bp (pc := 106) D rfl fun D =>
              j_iret D rt_451) (fun q =>
              have D : fk_D 451 [(109, none, .aload_n 0, 1, 0, 0, 0), (110, none, .getfield 923, 3, 290, 100, 10), (113, none, .istore 4, 2, 0, 0, 0), (115, none, .iconst 0, 1, 0, 0, 0), (116, none, .istore 5, 2, 0, 0, 0)] := fq_of2 cd_451 ow_451 cl_451 rfl (pc := 109) (by decide +kernel)
              j_aldn (pc := 109) D rfl rfl rfl fun D =>
              j_gf (pc := 110) (a := 303) D rfl rfl (by decide) rfl (s0_303 H) rfl fun D =>
              j_ist (pc := 113) (L' := [(4, (0, h9 290 303 0)), (3, (0, v10)), (0, (4, 303)), (1, (0, x1)), (2, (0, x2))]) D rfl nl_451 rfl rfl fun D =>
              j_ic (pc := 115) D rfl fun D =>
              j_ist (pc := 116) (L' := [(5, (0, 0)), (4, (0, h9 290 303 0)), (3, (0, v10)), (0, (4, 303)), (1, (0, x1)), (2, (0, x2))]) D rfl nl_451 rfl rfl fun D =>
              fk_jump cut_451_118 rfl rfl)) (fun q11 h9 e1 =>
            j_tc_ (n := 107) (fk_at (cu := none) (by decide +kernel) rfl) (s := 61) (e := 80) (hp := 83) (ct := 312) (by decide +kernel) rfl (by decide +kernel) <|
            fk_jump cut_451_83 rfl rfl)) (fun q8 h6 e1 =>
          j_tc_ (n := 107) (fk_at (cu := none) (by decide +kernel) rfl) (s := 61) (e := 80) (hp := 83) (ct := 312) (by decide +kernel) rfl (by decide +kernel) <|
          fk_jump cut_451_83 rfl rfl)))
theorem e_451_37 (d : Nat) (x1 x3 s0 s1 : Int) {h : fi_H} (H : Shp h) : c_451_37 d x1 x3 s0 s1 h =
  c_451_14 d x1 (wI (s0 + s1)) (wI (x3 + 1)) h := by
  unfold c_451_37
  exact
    have D : fk_D 451 [(37, some [0, 1, 3], .iadd, 1, 0, 0, 0), (38, none, .istore_n 2, 1, 0, 0, 0), (39, none, .iinc 3 1, 3, 0, 1, 0), (42, none, .goto (-28), 3, 14, 0, 0)] := fq_of2 cd_451 ow_451 cl_451 rfl (pc := 37) (by decide +kernel)
    j_iadd (pc := 37) D rfl fun D =>
    j_istn (pc := 38) (L' := [(2, (0, wI (s0 + s1))), (0, (4, 303)), (1, (0, x1)), (3, (0, x3))]) D rfl nl_451 rfl rfl fun D =>
    j_inc (pc := 39) (L' := [(3, (0, wI (x3 + 1))), (2, (0, wI (s0 + s1))), (0, (4, 303)), (1, (0, x1))]) D rfl rfl rfl (by decide +kernel) rfl fun D =>
    j_goto (pc := 42) D rfl <|
    fk_jump cut_451_14 rfl rfl
theorem e_451_83 (d : Nat) (s0 : Int) {h : fi_H} (H : Shp h) : c_451_83 d s0 h =
  if h 0 s0.toNat 0 = 107 then
  some (.inl (some (0, wI ((-10) - (h 110 s0.toNat 0)))), h)
  else none := by
  unfold c_451_83
  exact
    have D : fk_D 451 [(83, some [], .astore 4, 2, 0, 0, 0), (85, none, .bipush (-10), 2, 0, (-10), 0), (87, none, .aload 4, 2, 0, 0, 0), (89, none, .getfield 311, 3, 110, (-107), 10), (92, none, .isub, 1, 0, 0, 0), (93, none, .ireturn, 1, 0, 0, 0)] := fq_of2 cd_451 ow_451 cl_451 rfl (pc := 83) (by decide +kernel)
    j_ast (pc := 83) (L' := [(4, (4, s0))]) D rfl nl_451 rfl rfl fun D =>
    j_bp (pc := 85) D rfl fun D =>
    j_ald (pc := 87) D rfl rfl rfl fun D =>
    j_gfo (pc := 89) H.2.1 D rfl rfl rfl rfl fun kc1 D =>
    j_isub (pc := 92) D rfl fun D =>
    j_iret D rt_451
theorem e_451_118 (d : Nat) (x1 x2 x3 x4 x5 : Int) {h : fi_H} (H : Shp h) : c_451_118 d x1 x2 x3 x4 x5 h =
  if x5 < x4 then
    ca_ (fj_run d 452 h [(4, 303), (0, x5), (0, x1)]) 0
      (fun v2 h1 =>
      if v2 = 0 then
        c_451_195 d x1 x2 x3 x4 x5 h1
      else
        if 0 ≤ x5 ∧ x5 < 400 then
        lt_ (fi_upd h1 8 467 x5.toNat (wB (wI ((h1 8 467 x5.toNat) + 1)))) fun h5 =>
        lt_ (fi_upd h5 10 468 x5.toNat (h5 239 303 0)) fun h6 =>
        cv_ (fj_run d 454 h6 [(4, 303), (0, h6 8 455 x5.toNat), (0, h6 8 456 x5.toNat), (1, wJ ((wI (h6 310 303 0)) * (wI (h6 8 467 x5.toNat)))), (0, x3), (0, 3)])
          (fun h7 =>
          c_451_195 d x1 x2 x3 x4 x5 h7)
          (fun q9 h7 => tx_ q9 h7)
        else none)
      (fun q3 h1 => tx_ q3 h1)
  else
    cv_ (fj_run d 449 h [(4, 303), (0, x1)])
      (fun h10 =>
      some (.inl (some (0, x2)), h10))
      (fun q12 h10 => tx_ q12 h10) := by
  unfold c_451_118
  exact
    have D : fk_D 451 [(118, some [0, 1, 2, 3, 4, 5], .iload 5, 2, 0, 0, 0), (120, none, .iload 4, 2, 0, 0, 0), (122, none, .if_icmp .ge 79, 3, 201, 0, 0), (125, none, .aload_n 0, 1, 0, 0, 0), (126, none, .iload 5, 2, 0, 0, 0), (128, none, .iload_n 1, 1, 0, 0, 0), (129, none, .invokevirtual 1043, 3, 2, 189, 1), (132, none, .ifCond .ne 6, 3, 138, 0, 0), (135, none, .goto 60, 3, 195, 0, 0)] := fq_of2 cd_451 ow_451 cl_451 rfl (pc := 118) (by decide +kernel)
    j_ild (pc := 118) D rfl rfl rfl fun D =>
    j_ild (pc := 120) D rfl rfl rfl fun D =>
    j_ige (pc := 122) D rfl (fun q D =>
      j_aldn (pc := 125) D rfl rfl rfl fun D =>
      j_ild (pc := 126) D rfl rfl rfl fun D =>
      j_ildn (pc := 128) D rfl rfl rfl fun D =>
      j_iv (pc := 129) (m := 452) (dd := 189) (a := [(0, x5), (0, x1)]) (rest := []) D rfl rfl rfl rfl rfl (by decide) (s0_303 H) (by decide +kernel) (fun v2 h1 e1 D =>
        have T := fj_run_ok _ _ _ _ _ _ H.1 e1
        have H := shp_st H T
        j_ifne (pc := 132) D rfl (fun q D =>
          j_goto (pc := 135) D rfl <|
          fk_jump cut_451_195 rfl rfl) (fun q =>
          have D : fk_D 451 [(138, none, .aload_n 0, 1, 0, 0, 0), (139, none, .getfield 755, 3, 307, 100, 12), (142, none, .iload 5, 2, 0, 0, 0), (144, none, .dup2, 1, 0, 0, 0), (145, none, .baload, 1, 0, 0, 0), (146, none, .iconst 1, 1, 0, 1, 0), (147, none, .iadd, 1, 0, 0, 0), (148, none, .i2b, 1, 0, 0, 0), (149, none, .bastore, 1, 0, 0, 0), (150, none, .aload_n 0, 1, 0, 0, 0), (151, none, .getfield 758, 3, 308, 100, 12), (154, none, .iload 5, 2, 0, 0, 0), (156, none, .aload_n 0, 1, 0, 0, 0), (157, none, .getfield 615, 3, 239, 100, 10), (160, none, .iastore, 1, 0, 0, 0), (161, none, .aload_n 0, 1, 0, 0, 0), (162, none, .aload_n 0, 1, 0, 0, 0), (163, none, .getfield 719, 3, 295, 100, 12), (166, none, .iload 5, 2, 0, 0, 0), (168, none, .baload, 1, 0, 0, 0)] := fq_of2 cd_451 ow_451 cl_451 rfl (pc := 138) (by decide +kernel)
          j_aldn (pc := 138) D rfl rfl rfl fun D =>
          j_gfc (pc := 139) (a := 303) D rfl rfl (by decide) rfl (s0_303 H) rfl (sf_307_303 H) fun D =>
          j_ild (pc := 142) D rfl rfl rfl fun D =>
          j_sh (pc := 144) D rfl rfl rfl fun D =>
          j_al (pc := 145) (a := 467) (e := 8) D rfl rfl rfl (by decide) (s0_467 H) (s1_467 H) ⟨rfl, rfl, rfl⟩ rfl gn fun qb4 D =>
          j_ic (pc := 146) D rfl fun D =>
          j_iadd (pc := 147) D rfl fun D =>
          j_i2b (pc := 148) D rfl fun D =>
          j_as (pc := 149) (a := 467) (e := 8) D rfl ⟨rfl, rfl⟩ rfl (by decide) (s0_467 H) (s1_467 H) ⟨rfl, rfl, rfl⟩ rfl (gy qb4) (gy (fk_rgB _)) fun h5 eh5 S q D =>
          have T := fj_hs_ok H.1 S
          have H := shp_st H T
          j_aldn (pc := 150) D rfl rfl rfl fun D =>
          j_gfc (pc := 151) (a := 303) D rfl rfl (by decide) rfl (s0_303 H) rfl (sf_308_303 H) fun D =>
          j_ild (pc := 154) D rfl rfl rfl fun D =>
          j_aldn (pc := 156) D rfl rfl rfl fun D =>
          j_gf (pc := 157) (a := 303) D rfl rfl (by decide) rfl (s0_303 H) rfl fun D =>
          j_as (pc := 160) (a := 468) (e := 10) D rfl ⟨rfl, rfl⟩ rfl (by decide) (s0_468 H) (s1_468 H) ⟨rfl, rfl, rfl⟩ rfl (gy qb4) (gy rfl) fun h6 eh6 S q D =>
          have T := fj_hs_ok H.1 S
          have H := shp_st H T
          j_aldn (pc := 161) D rfl rfl rfl fun D =>
          j_aldn (pc := 162) D rfl rfl rfl fun D =>
          j_gfc (pc := 163) (a := 303) D rfl rfl (by decide) rfl (s0_303 H) rfl (sf_295_303 H) fun D =>
          j_ild (pc := 166) D rfl rfl rfl fun D =>
          j_al (pc := 168) (a := 455) (e := 8) D rfl rfl rfl (by decide) (s0_455 H) (s1_455 H) ⟨rfl, rfl, rfl⟩ rfl (gy qb4) fun q D =>
          have D : fk_D 451 [(169, none, .aload_n 0, 1, 0, 0, 0), (170, none, .getfield 722, 3, 296, 100, 12), (173, none, .iload 5, 2, 0, 0, 0), (175, none, .baload, 1, 0, 0, 0), (176, none, .aload_n 0, 1, 0, 0, 0), (177, none, .getfield 764, 3, 310, 100, 10), (180, none, .i2l, 1, 0, 0, 0), (181, none, .aload_n 0, 1, 0, 0, 0), (182, none, .getfield 755, 3, 307, 100, 12), (185, none, .iload 5, 2, 0, 0, 0), (187, none, .baload, 1, 0, 0, 0), (188, none, .i2l, 1, 0, 0, 0), (189, none, .lmul, 1, 0, 0, 0), (190, none, .iload_n 3, 1, 0, 0, 0), (191, none, .iconst 3, 1, 0, 3, 0), (192, none, .invokevirtual 1049, 3, 5, 191, 0)] := fq_of2 cd_451 ow_451 cl_451 rfl (pc := 169) (by decide +kernel)
          j_aldn (pc := 169) D rfl rfl rfl fun D =>
          j_gfc (pc := 170) (a := 303) D rfl rfl (by decide) rfl (s0_303 H) rfl (sf_296_303 H) fun D =>
          j_ild (pc := 173) D rfl rfl rfl fun D =>
          j_al (pc := 175) (a := 456) (e := 8) D rfl rfl rfl (by decide) (s0_456 H) (s1_456 H) ⟨rfl, rfl, rfl⟩ rfl (gy qb4) fun q D =>
          j_aldn (pc := 176) D rfl rfl rfl fun D =>
          j_gf (pc := 177) (a := 303) D rfl rfl (by decide) rfl (s0_303 H) rfl fun D =>
          j_i2l (pc := 180) D rfl fun D =>
          j_aldn (pc := 181) D rfl rfl rfl fun D =>
          j_gfc (pc := 182) (a := 303) D rfl rfl (by decide) rfl (s0_303 H) rfl (sf_307_303 H) fun D =>
          j_ild (pc := 185) D rfl rfl rfl fun D =>
          j_al (pc := 187) (a := 467) (e := 8) D rfl rfl rfl (by decide) (s0_467 H) (s1_467 H) ⟨rfl, rfl, rfl⟩ rfl (gy qb4) fun q D =>
          j_i2l (pc := 188) D rfl fun D =>
          j_lmul (pc := 189) D rfl fun D =>
          j_ildn (pc := 190) D rfl rfl rfl fun D =>
          j_ic (pc := 191) D rfl fun D =>
          j_ivv (pc := 192) (m := 454) (dd := 191) (a := [(0, h6 8 455 x5.toNat), (0, h6 8 456 x5.toNat), (1, wJ ((wI (h6 310 303 0)) * (wI (h6 8 467 x5.toNat)))), (0, x3), (0, 3)]) (rest := []) D rfl rfl rfl rfl rfl (by decide) (s0_303 H) (by decide +kernel) (fun h7 e1 D =>
            have T := fj_run_ok _ _ _ _ _ _ H.1 e1
            have H := shp_st H T
            fk_jump cut_451_195 rfl rfl) (fun q9 h7 e1 =>
            j_tx (by decide +kernel)))) (fun q3 h1 e1 =>
        j_tx (by decide +kernel))) (fun q =>
      have D : fk_D 451 [(201, none, .aload_n 0, 1, 0, 0, 0), (202, none, .iload_n 1, 1, 0, 0, 0), (203, none, .invokevirtual 1040, 3, 1, 188, 0), (206, none, .iload_n 2, 1, 0, 0, 0), (207, none, .ireturn, 1, 0, 0, 0)] := fq_of2 cd_451 ow_451 cl_451 rfl (pc := 201) (by decide +kernel)
      j_aldn (pc := 201) D rfl rfl rfl fun D =>
      j_ildn (pc := 202) D rfl rfl rfl fun D =>
      j_ivv (pc := 203) (m := 449) (dd := 188) (a := [(0, x1)]) (rest := []) D rfl rfl rfl rfl rfl (by decide) (s0_303 H) (by decide +kernel) (fun h10 e1 D =>
        have T := fj_run_ok _ _ _ _ _ _ H.1 e1
        have H := shp_st H T
        j_ildn (pc := 206) D rfl rfl rfl fun D =>
        j_iret D rt_451) (fun q12 h10 e1 =>
        j_tx (by decide +kernel)))
theorem e_451_195 (d : Nat) (x1 x2 x3 x4 x5 : Int) {h : fi_H} (H : Shp h) : c_451_195 d x1 x2 x3 x4 x5 h =
  c_451_118 d x1 x2 x3 x4 (wI (x5 + 1)) h := by
  unfold c_451_195
  exact
    have D : fk_D 451 [(195, some [0, 1, 2, 3, 4, 5], .iinc 5 1, 3, 0, 1, 0), (198, none, .goto (-80), 3, 118, 0, 0)] := fq_of2 cd_451 ow_451 cl_451 rfl (pc := 195) (by decide +kernel)
    j_inc (pc := 195) (L' := [(5, (0, wI (x5 + 1))), (0, (4, 303)), (1, (0, x1)), (2, (0, x2)), (3, (0, x3)), (4, (0, x4))]) D rfl rfl rfl (by decide +kernel) rfl fun D =>
    j_goto (pc := 198) D rfl <|
    fk_jump cut_451_118 rfl rfl
theorem m_451 (d : Nat) (x1 : Int) {h : fi_H} (H : Shp h) : fj_run (d + 1) 451 h [(4, 303), (0, x1)] =
  ca_ (fj_run d 303 h [(4, 303), (0, x1)]) 0
    (fun v2 h1 =>
    if v2 = 0 then
      some (.inl (some (0, (-1))), h1)
    else
      c_451_14 d x1 0 0 h1)
    (fun q3 h1 => tx_ q3 h1) := by
  rw [fj_run_eq d (by decide) h [(4, 303), (0, x1)] (Nat.le_of_ble_eq_true (by rw [nl_451]; rfl))]
  show gG (fj_run d) 451 0 [(0, (4, 303)), (1, (0, x1))] [] h = _
  exact
    have D : fk_D 451 [(0, none, .aload_n 0, 1, 0, 0, 0), (1, none, .iload_n 1, 1, 0, 0, 0), (2, none, .invokevirtual 870, 3, 1, 167, 1), (5, none, .ifCond .ne 5, 3, 10, 0, 0), (8, none, .iconst (-1), 1, 0, (-1), 0), (9, none, .ireturn, 1, 0, 0, 0)] := fq_of2 cd_451 ow_451 cl_451 rfl (pc := 0) (by decide +kernel)
    j_aldn (pc := 0) D rfl rfl rfl fun D =>
    j_ildn (pc := 1) D rfl rfl rfl fun D =>
    j_iv (pc := 2) (m := 303) (dd := 167) (a := [(0, x1)]) (rest := []) D rfl rfl rfl rfl rfl (by decide) (s0_303 H) (by decide +kernel) (fun v2 h1 e1 D =>
      have T := fj_run_ok _ _ _ _ _ _ H.1 e1
      have H := shp_st H T
      j_ifne (pc := 5) D rfl (fun q D =>
        j_ic (pc := 8) D rfl fun D =>
        j_iret D rt_451) (fun q =>
        have D : fk_D 451 [(10, none, .iconst 0, 1, 0, 0, 0), (11, none, .istore_n 2, 1, 0, 0, 0), (12, none, .iconst 0, 1, 0, 0, 0), (13, none, .istore_n 3, 1, 0, 0, 0)] := fq_of2 cd_451 ow_451 cl_451 rfl (pc := 10) (by decide +kernel)
        j_ic (pc := 10) D rfl fun D =>
        j_istn (pc := 11) (L' := [(2, (0, 0)), (0, (4, 303)), (1, (0, x1))]) D rfl nl_451 rfl rfl fun D =>
        j_ic (pc := 12) D rfl fun D =>
        j_istn (pc := 13) (L' := [(3, (0, 0)), (2, (0, 0)), (0, (4, 303)), (1, (0, x1))]) D rfl nl_451 rfl rfl fun D =>
        fk_jump cut_451_14 rfl rfl)) (fun q3 h1 e1 =>
      j_tx (by decide +kernel))
/-! 452 StatuteHouse.mayRemind(II)Z -/
theorem cd_452 : fi_code 452 = prog_1_method_100_code := rfl
theorem hx_452 : ∀ pc, fi_hat 452 pc = none := fun pc => by unfold fi_hat; rw [show fi_hh 452 = [] from rfl]; rfl
theorem rt_452 : fi_ret 452 = some .boolean := rfl
theorem nl_452 : fi_nl 452 = 3 := rfl
theorem ow_452 : fi_ow 452 = 0 := rfl
theorem cl_452 : fj_cutT.getD 452 [] = [] := rfl
theorem m_452 (d : Nat) (x1 x2 : Int) {h : fi_H} (H : Shp h) : fj_run (d + 1) 452 h [(4, 303), (0, x1), (0, x2)] =
  if 0 ≤ x1 ∧ x1 < 400 then
  if h 8 454 x1.toNat = x2 then
    if lc_ (h 11 465 x1.toNat) 0 = 0 then
      some (.inl (some (0, 0)), h)
    else
      if h 8 457 x1.toNat = 3 then
        some (.inl (some (0, 0)), h)
      else
        if h 4 469 x1.toNat = 0 then
          if h 8 467 x1.toNat = 3 then
            some (.inl (some (0, 0)), h)
          else
            if wI ((h 5 459 x1.toNat) + 14) < h 239 303 0 then
              if h 10 468 x1.toNat = (-1) then
                some (.inl (some (0, 1)), h)
              else
                if wI ((h 10 468 x1.toNat) + 14) < h 239 303 0 then
                  some (.inl (some (0, 1)), h)
                else
                  some (.inl (some (0, 0)), h)
            else
              some (.inl (some (0, 0)), h)
        else
          some (.inl (some (0, 0)), h)
  else
    some (.inl (some (0, 0)), h)
  else none := by
  rw [fj_run_eq d (by decide) h [(4, 303), (0, x1), (0, x2)] (Nat.le_of_ble_eq_true (by rw [nl_452]; rfl))]
  show gG (fj_run d) 452 0 [(0, (4, 303)), (1, (0, x1)), (2, (0, x2))] [] h = _
  exact
    have D : fk_D 452 [(0, none, .aload_n 0, 1, 0, 0, 0), (1, none, .getfield 716, 3, 294, 100, 12), (4, none, .iload_n 1, 1, 0, 0, 0), (5, none, .baload, 1, 0, 0, 0), (6, none, .iload_n 2, 1, 0, 0, 0), (7, none, .if_icmp .ne 43, 3, 50, 0, 0), (10, none, .aload_n 0, 1, 0, 0, 0), (11, none, .getfield 749, 3, 305, 100, 12), (14, none, .iload_n 1, 1, 0, 0, 0), (15, none, .laload, 1, 0, 0, 0), (16, none, .lconst 0, 1, 0, 0, 0), (17, none, .lcmp, 1, 0, 0, 0), (18, none, .ifCond .eq 32, 3, 50, 0, 0), (21, none, .aload_n 0, 1, 0, 0, 0), (22, none, .getfield 725, 3, 297, 100, 12), (25, none, .iload_n 1, 1, 0, 0, 0), (26, none, .baload, 1, 0, 0, 0), (27, none, .iconst 3, 1, 0, 3, 0), (28, none, .if_icmp .eq 22, 3, 50, 0, 0), (31, none, .aload_n 0, 1, 0, 0, 0)] := fq_of2 cd_452 ow_452 cl_452 rfl (pc := 0) (by decide +kernel)
    j_aldn (pc := 0) D rfl rfl rfl fun D =>
    j_gfc (pc := 1) (a := 303) D rfl rfl (by decide) rfl (s0_303 H) rfl (sf_294_303 H) fun D =>
    j_ildn (pc := 4) D rfl rfl rfl fun D =>
    j_al (pc := 5) (a := 454) (e := 8) D rfl rfl rfl (by decide) (s0_454 H) (s1_454 H) ⟨rfl, rfl, rfl⟩ rfl gn fun qb1 D =>
    j_ildn (pc := 6) D rfl rfl rfl fun D =>
    j_ine (pc := 7) D rfl (fun q D =>
      j_aldn (pc := 10) D rfl rfl rfl fun D =>
      j_gfc (pc := 11) (a := 303) D rfl rfl (by decide) rfl (s0_303 H) rfl (sf_305_303 H) fun D =>
      j_ildn (pc := 14) D rfl rfl rfl fun D =>
      j_al (pc := 15) (a := 465) (e := 11) D rfl rfl rfl (by decide) (s0_465 H) (s1_465 H) ⟨rfl, rfl, rfl⟩ rfl (gy qb1) fun q D =>
      j_c0 (pc := 16) (v := (1, 0)) D rfl rfl (by decide +kernel) fun D =>
      j_lcmp (pc := 17) D rfl fun D =>
      j_ifeq (pc := 18) D rfl (fun q =>
        have D : fk_D 452 [(50, none, .iconst 0, 1, 0, 0, 0), (51, none, .ireturn, 1, 0, 0, 0)] := fq_of2 cd_452 ow_452 cl_452 rfl (pc := 50) (by decide +kernel)
        j_ic (pc := 50) D rfl fun D =>
        j_zret D rt_452 (gy (by decide))) (fun q D =>
        j_aldn (pc := 21) D rfl rfl rfl fun D =>
        j_gfc (pc := 22) (a := 303) D rfl rfl (by decide) rfl (s0_303 H) rfl (sf_297_303 H) fun D =>
        j_ildn (pc := 25) D rfl rfl rfl fun D =>
        j_al (pc := 26) (a := 457) (e := 8) D rfl rfl rfl (by decide) (s0_457 H) (s1_457 H) ⟨rfl, rfl, rfl⟩ rfl (gy qb1) fun q D =>
        j_ic (pc := 27) D rfl fun D =>
        j_ieq (pc := 28) D rfl (fun q =>
          have D : fk_D 452 [(50, none, .iconst 0, 1, 0, 0, 0), (51, none, .ireturn, 1, 0, 0, 0)] := fq_of2 cd_452 ow_452 cl_452 rfl (pc := 50) (by decide +kernel)
          j_ic (pc := 50) D rfl fun D =>
          j_zret D rt_452 (gy (by decide))) (fun q D =>
          j_aldn (pc := 31) D rfl rfl rfl fun D =>
          have D : fk_D 452 [(32, none, .getfield 761, 3, 309, 100, 12), (35, none, .iload_n 1, 1, 0, 0, 0), (36, none, .baload, 1, 0, 0, 0), (37, none, .ifCond .ne 13, 3, 50, 0, 0), (40, none, .aload_n 0, 1, 0, 0, 0), (41, none, .getfield 755, 3, 307, 100, 12), (44, none, .iload_n 1, 1, 0, 0, 0), (45, none, .baload, 1, 0, 0, 0), (46, none, .iconst 3, 1, 0, 3, 0), (47, none, .if_icmp .ne 5, 3, 52, 0, 0), (50, none, .iconst 0, 1, 0, 0, 0), (51, none, .ireturn, 1, 0, 0, 0)] := fq_of2 cd_452 ow_452 cl_452 rfl (pc := 32) (by decide +kernel)
          j_gfc (pc := 32) (a := 303) D rfl rfl (by decide) rfl (s0_303 H) rfl (sf_309_303 H) fun D =>
          j_ildn (pc := 35) D rfl rfl rfl fun D =>
          j_al (pc := 36) (a := 469) (e := 4) D rfl rfl rfl (by decide) (s0_469 H) (s1_469 H) ⟨rfl, rfl, rfl⟩ rfl (gy qb1) fun q D =>
          j_ifne (pc := 37) D rfl (fun q D =>
            j_aldn (pc := 40) D rfl rfl rfl fun D =>
            j_gfc (pc := 41) (a := 303) D rfl rfl (by decide) rfl (s0_303 H) rfl (sf_307_303 H) fun D =>
            j_ildn (pc := 44) D rfl rfl rfl fun D =>
            j_al (pc := 45) (a := 467) (e := 8) D rfl rfl rfl (by decide) (s0_467 H) (s1_467 H) ⟨rfl, rfl, rfl⟩ rfl (gy qb1) fun q D =>
            j_ic (pc := 46) D rfl fun D =>
            j_ine (pc := 47) D rfl (fun q D =>
              j_ic (pc := 50) D rfl fun D =>
              j_zret D rt_452 (gy (by decide))) (fun q =>
              have D : fk_D 452 [(52, none, .aload_n 0, 1, 0, 0, 0), (53, none, .getfield 731, 3, 299, 100, 12), (56, none, .iload_n 1, 1, 0, 0, 0), (57, none, .caload, 1, 0, 0, 0), (58, none, .bipush 14, 2, 0, 14, 0), (60, none, .iadd, 1, 0, 0, 0), (61, none, .aload_n 0, 1, 0, 0, 0), (62, none, .getfield 615, 3, 239, 100, 10), (65, none, .if_icmp .ge 33, 3, 98, 0, 0), (68, none, .aload_n 0, 1, 0, 0, 0), (69, none, .getfield 758, 3, 308, 100, 12), (72, none, .iload_n 1, 1, 0, 0, 0), (73, none, .iaload, 1, 0, 0, 0), (74, none, .iconst (-1), 1, 0, (-1), 0), (75, none, .if_icmp .eq 19, 3, 94, 0, 0), (78, none, .aload_n 0, 1, 0, 0, 0), (79, none, .getfield 758, 3, 308, 100, 12), (82, none, .iload_n 1, 1, 0, 0, 0), (83, none, .iaload, 1, 0, 0, 0), (84, none, .bipush 14, 2, 0, 14, 0)] := fq_of2 cd_452 ow_452 cl_452 rfl (pc := 52) (by decide +kernel)
              j_aldn (pc := 52) D rfl rfl rfl fun D =>
              j_gfc (pc := 53) (a := 303) D rfl rfl (by decide) rfl (s0_303 H) rfl (sf_299_303 H) fun D =>
              j_ildn (pc := 56) D rfl rfl rfl fun D =>
              j_al (pc := 57) (a := 459) (e := 5) D rfl rfl rfl (by decide) (s0_459 H) (s1_459 H) ⟨rfl, rfl, rfl⟩ rfl (gy qb1) fun q D =>
              j_bp (pc := 58) D rfl fun D =>
              j_iadd (pc := 60) D rfl fun D =>
              j_aldn (pc := 61) D rfl rfl rfl fun D =>
              j_gf (pc := 62) (a := 303) D rfl rfl (by decide) rfl (s0_303 H) rfl fun D =>
              j_ige (pc := 65) D rfl (fun q D =>
                j_aldn (pc := 68) D rfl rfl rfl fun D =>
                j_gfc (pc := 69) (a := 303) D rfl rfl (by decide) rfl (s0_303 H) rfl (sf_308_303 H) fun D =>
                j_ildn (pc := 72) D rfl rfl rfl fun D =>
                j_al (pc := 73) (a := 468) (e := 10) D rfl rfl rfl (by decide) (s0_468 H) (s1_468 H) ⟨rfl, rfl, rfl⟩ rfl (gy qb1) fun q D =>
                j_ic (pc := 74) D rfl fun D =>
                j_ieq (pc := 75) D rfl (fun q =>
                  have D : fk_D 452 [(94, none, .iconst 1, 1, 0, 1, 0), (95, none, .goto 4, 3, 99, 0, 0)] := fq_of2 cd_452 ow_452 cl_452 rfl (pc := 94) (by decide +kernel)
                  j_ic (pc := 94) D rfl fun D =>
                  j_goto (pc := 95) D rfl <|
                  have D : fk_D 452 [(99, none, .ireturn, 1, 0, 0, 0)] := fq_of2 cd_452 ow_452 cl_452 rfl (pc := 99) (by decide +kernel)
                  j_zret D rt_452 (gy (by decide))) (fun q D =>
                  j_aldn (pc := 78) D rfl rfl rfl fun D =>
                  j_gfc (pc := 79) (a := 303) D rfl rfl (by decide) rfl (s0_303 H) rfl (sf_308_303 H) fun D =>
                  j_ildn (pc := 82) D rfl rfl rfl fun D =>
                  j_al (pc := 83) (a := 468) (e := 10) D rfl rfl rfl (by decide) (s0_468 H) (s1_468 H) ⟨rfl, rfl, rfl⟩ rfl (gy qb1) fun q D =>
                  j_bp (pc := 84) D rfl fun D =>
                  have D : fk_D 452 [(86, none, .iadd, 1, 0, 0, 0), (87, none, .aload_n 0, 1, 0, 0, 0), (88, none, .getfield 615, 3, 239, 100, 10), (91, none, .if_icmp .ge 7, 3, 98, 0, 0), (94, none, .iconst 1, 1, 0, 1, 0), (95, none, .goto 4, 3, 99, 0, 0)] := fq_of2 cd_452 ow_452 cl_452 rfl (pc := 86) (by decide +kernel)
                  j_iadd (pc := 86) D rfl fun D =>
                  j_aldn (pc := 87) D rfl rfl rfl fun D =>
                  j_gf (pc := 88) (a := 303) D rfl rfl (by decide) rfl (s0_303 H) rfl fun D =>
                  j_ige (pc := 91) D rfl (fun q D =>
                    j_ic (pc := 94) D rfl fun D =>
                    j_goto (pc := 95) D rfl <|
                    have D : fk_D 452 [(99, none, .ireturn, 1, 0, 0, 0)] := fq_of2 cd_452 ow_452 cl_452 rfl (pc := 99) (by decide +kernel)
                    j_zret D rt_452 (gy (by decide))) (fun q =>
                    have D : fk_D 452 [(98, none, .iconst 0, 1, 0, 0, 0), (99, none, .ireturn, 1, 0, 0, 0)] := fq_of2 cd_452 ow_452 cl_452 rfl (pc := 98) (by decide +kernel)
                    j_ic (pc := 98) D rfl fun D =>
                    j_zret D rt_452 (gy (by decide))))) (fun q =>
                have D : fk_D 452 [(98, none, .iconst 0, 1, 0, 0, 0), (99, none, .ireturn, 1, 0, 0, 0)] := fq_of2 cd_452 ow_452 cl_452 rfl (pc := 98) (by decide +kernel)
                j_ic (pc := 98) D rfl fun D =>
                j_zret D rt_452 (gy (by decide))))) (fun q =>
            have D : fk_D 452 [(50, none, .iconst 0, 1, 0, 0, 0), (51, none, .ireturn, 1, 0, 0, 0)] := fq_of2 cd_452 ow_452 cl_452 rfl (pc := 50) (by decide +kernel)
            j_ic (pc := 50) D rfl fun D =>
            j_zret D rt_452 (gy (by decide)))))) (fun q =>
      have D : fk_D 452 [(50, none, .iconst 0, 1, 0, 0, 0), (51, none, .ireturn, 1, 0, 0, 0)] := fq_of2 cd_452 ow_452 cl_452 rfl (pc := 50) (by decide +kernel)
      j_ic (pc := 50) D rfl fun D =>
      j_zret D rt_452 (gy (by decide)))
/-! 453 StatuteHouse.dueAt(I)I -/
theorem cd_453 : fi_code 453 = prog_1_method_103_code := rfl
theorem hx_453 : ∀ pc, fi_hat 453 pc = none := fun pc => by unfold fi_hat; rw [show fi_hh 453 = [] from rfl]; rfl
theorem rt_453 : fi_ret 453 = some .int := rfl
theorem nl_453 : fi_nl 453 = 3 := rfl
theorem ow_453 : fi_ow 453 = 0 := rfl
theorem cl_453 : fj_cutT.getD 453 [] = [(14, [0])] := rfl
theorem cut_453_14 : fj_cut 453 14 = some [0] := by decide +kernel
noncomputable def c_453_14 (d : Nat) (s0 : Int) (h : fi_H) : fk_R := gG (fj_run d) 453 14 [(0, (4, 303))] [(0, s0)] h
theorem e_453_14 (d : Nat) (s0 : Int) {h : fi_H} (H : Shp h) : c_453_14 d s0 h =
  if s0 = (-1) then
    ca_ (fj_run d 310 h [(4, 303), (0, 8)]) 4
      (fun v2 h1 =>
      if v2 ≠ 0 then
      tx_ v2.toNat h1
      else none)
      (fun q3 h1 => tx_ q3 h1)
  else
    some (.inl (some (0, s0)), h) := by
  unfold c_453_14
  exact
    have D : fk_D 453 [(14, some [0], .istore_n 2, 1, 0, 0, 0), (15, none, .iload_n 2, 1, 0, 0, 0), (16, none, .iconst (-1), 1, 0, (-1), 0), (17, none, .if_icmp .ne 10, 3, 27, 0, 0), (20, none, .aload_n 0, 1, 0, 0, 0), (21, none, .bipush 8, 2, 0, 8, 0), (23, none, .invokevirtual 109, 3, 1, 112, 5), (26, none, .athrow, 1, 0, 0, 0)] := fq_of2 cd_453 ow_453 cl_453 rfl (pc := 14) (by decide +kernel)
    j_istn (pc := 14) (L' := [(2, (0, s0)), (0, (4, 303))]) D rfl nl_453 rfl rfl fun D =>
    j_ildn (pc := 15) D rfl rfl rfl fun D =>
    j_ic (pc := 16) D rfl fun D =>
    j_ine (pc := 17) D rfl (fun q D =>
      j_aldn (pc := 20) D rfl rfl rfl fun D =>
      j_bp (pc := 21) D rfl fun D =>
      j_iv (pc := 23) (m := 310) (dd := 112) (a := [(0, 8)]) (rest := []) D rfl rfl rfl rfl rfl (by decide) (s0_303 H) (by decide +kernel) (fun v2 h1 e1 D =>
        have T := fj_run_ok _ _ _ _ _ _ H.1 e1
        have H := shp_st H T
        j_at (pc := 26) D gn <|
        j_tx (hx_453 _)) (fun q3 h1 e1 =>
        j_tx (hx_453 _))) (fun q =>
      have D : fk_D 453 [(27, none, .iload_n 2, 1, 0, 0, 0), (28, none, .ireturn, 1, 0, 0, 0)] := fq_of2 cd_453 ow_453 cl_453 rfl (pc := 27) (by decide +kernel)
      j_ildn (pc := 27) D rfl rfl rfl fun D =>
      j_iret D rt_453)
theorem m_453 (d : Nat) (x1 : Int) {h : fi_H} (H : Shp h) : fj_run (d + 1) 453 h [(4, 303), (0, x1)] =
  if x1 = (-1) then
    c_453_14 d (-1) h
  else
    ca_ (fj_run d 391 h [(4, 303), (0, x1)]) 0
      (fun v2 h1 =>
      c_453_14 d v2 h1)
      (fun q3 h1 => tx_ q3 h1) := by
  rw [fj_run_eq d (by decide) h [(4, 303), (0, x1)] (Nat.le_of_ble_eq_true (by rw [nl_453]; rfl))]
  show gG (fj_run d) 453 0 [(0, (4, 303)), (1, (0, x1))] [] h = _
  exact
    have D : fk_D 453 [(0, none, .iload_n 1, 1, 0, 0, 0), (1, none, .iconst (-1), 1, 0, (-1), 0), (2, none, .if_icmp .ne 7, 3, 9, 0, 0), (5, none, .iconst (-1), 1, 0, (-1), 0), (6, none, .goto 8, 3, 14, 0, 0)] := fq_of2 cd_453 ow_453 cl_453 rfl (pc := 0) (by decide +kernel)
    j_ildn (pc := 0) D rfl rfl rfl fun D =>
    j_ic (pc := 1) D rfl fun D =>
    j_ine (pc := 2) D rfl (fun q D =>
      j_ic (pc := 5) D rfl fun D =>
      j_goto (pc := 6) D rfl <|
      fk_jump cut_453_14 rfl rfl) (fun q =>
      have D : fk_D 453 [(9, none, .aload_n 0, 1, 0, 0, 0), (10, none, .iload_n 1, 1, 0, 0, 0), (11, none, .invokevirtual 929, 3, 1, 176, 1)] := fq_of2 cd_453 ow_453 cl_453 rfl (pc := 9) (by decide +kernel)
      j_aldn (pc := 9) D rfl rfl rfl fun D =>
      j_ildn (pc := 10) D rfl rfl rfl fun D =>
      j_iv (pc := 11) (m := 391) (dd := 176) (a := [(0, x1)]) (rest := []) D rfl rfl rfl rfl rfl (by decide) (s0_303 H) (by decide +kernel) (fun v2 h1 e1 D =>
        have T := fj_run_ok _ _ _ _ _ _ H.1 e1
        have H := shp_st H T
        fk_jump cut_453_14 rfl rfl) (fun q3 h1 e1 =>
        j_tx (hx_453 _)))
/-! 454 StatuteHouse.book(IIJII)V -/
theorem cd_454 : fi_code 454 = prog_1_method_95_code := rfl
theorem hx_454 : ∀ pc, fi_hat 454 pc = none := fun pc => by unfold fi_hat; rw [show fi_hh 454 = [] from rfl]; rfl
theorem rt_454 : fi_ret 454 = none := rfl
theorem nl_454 : fi_nl 454 = 7 := rfl
theorem ow_454 : fi_ow 454 = 0 := rfl
theorem cl_454 : fj_cutT.getD 454 [] = [(63, [0, 3, 6]), (113, [0])] := rfl
theorem cut_454_63 : fj_cut 454 63 = some [0, 3, 6] := by decide +kernel
noncomputable def c_454_63 (d : Nat) (x3 x6 : Int) (h : fi_H) : fk_R := gG (fj_run d) 454 63 [(0, (4, 303)), (3, (1, x3)), (6, (0, x6))] [] h
theorem cut_454_113 : fj_cut 454 113 = some [0] := by decide +kernel
noncomputable def c_454_113 (d : Nat) (h : fi_H) : fk_R := gG (fj_run d) 454 113 [(0, (4, 303))] [] h
theorem e_454_63 (d : Nat) (x3 x6 : Int) {h : fi_H} (H : Shp h) : c_454_63 d x3 x6 h =
  if 0 ≤ h 290 303 0 ∧ h 290 303 0 < 400 then
  lt_ (fi_upd h 8 457 (h 290 303 0).toNat (wB x6)) fun h1 =>
  ca_ (fj_run d 455 h1 [(1, x3), (1, 0)]) 1
    (fun v4 h3 =>
    if 0 ≤ h1 290 303 0 ∧ h1 290 303 0 < 400 then
    lt_ (fi_upd h3 11 465 (h1 290 303 0).toNat v4) fun h6 =>
    if lc_ x3 0 < 0 then
      if 0 ≤ h6 290 303 0 ∧ h6 290 303 0 < 400 then
      if 0 ≤ h6 8 454 (h6 290 303 0).toNat ∧ h6 8 454 (h6 290 303 0).toNat < 30 then
      lt_ (fi_upd h6 11 466 (h6 8 454 (h6 290 303 0).toNat).toNat (wJ ((h6 11 466 (h6 8 454 (h6 290 303 0).toNat).toNat) - x3))) fun h10 =>
      c_454_113 d h10
      else none
      else none
    else
      c_454_113 d h6
    else none)
    (fun q5 h3 => tx_ q5 h3)
  else none := by
  unfold c_454_63
  exact
    have D : fk_D 454 [(63, some [0, 3, 6], .aload_n 0, 1, 0, 0, 0), (64, none, .getfield 725, 3, 297, 100, 12), (67, none, .aload_n 0, 1, 0, 0, 0), (68, none, .getfield 923, 3, 290, 100, 10), (71, none, .iload 6, 2, 0, 0, 0), (73, none, .i2b, 1, 0, 0, 0), (74, none, .bastore, 1, 0, 0, 0), (75, none, .aload_n 0, 1, 0, 0, 0), (76, none, .getfield 749, 3, 305, 100, 12), (79, none, .aload_n 0, 1, 0, 0, 0), (80, none, .getfield 923, 3, 290, 100, 10), (83, none, .lload_n 3, 1, 0, 0, 0), (84, none, .lconst 0, 1, 0, 0, 0), (85, none, .invokestatic 1024, 3, 2, 455, 2), (88, none, .lastore, 1, 0, 0, 0), (89, none, .lload_n 3, 1, 0, 0, 0), (90, none, .lconst 0, 1, 0, 0, 0), (91, none, .lcmp, 1, 0, 0, 0), (92, none, .ifCond .ge 21, 3, 113, 0, 0), (95, none, .aload_n 0, 1, 0, 0, 0)] := fq_of2 cd_454 ow_454 cl_454 rfl (pc := 63) (by decide +kernel)
    j_aldn (pc := 63) D rfl rfl rfl fun D =>
    j_gfc (pc := 64) (a := 303) D rfl rfl (by decide) rfl (s0_303 H) rfl (sf_297_303 H) fun D =>
    j_aldn (pc := 67) D rfl rfl rfl fun D =>
    j_gf (pc := 68) (a := 303) D rfl rfl (by decide) rfl (s0_303 H) rfl fun D =>
    j_ild (pc := 71) D rfl rfl rfl fun D =>
    j_i2b (pc := 73) D rfl fun D =>
    j_as (pc := 74) (a := 457) (e := 8) D rfl ⟨rfl, rfl⟩ rfl (by decide) (s0_457 H) (s1_457 H) ⟨rfl, rfl, rfl⟩ rfl gn (gy (fk_rgB _)) fun h1 eh1 S qb2 D =>
    have T := fj_hs_ok H.1 S
    have H := shp_st H T
    j_aldn (pc := 75) D rfl rfl rfl fun D =>
    j_gfc (pc := 76) (a := 303) D rfl rfl (by decide) rfl (s0_303 H) rfl (sf_305_303 H) fun D =>
    j_aldn (pc := 79) D rfl rfl rfl fun D =>
    j_gf (pc := 80) (a := 303) D rfl rfl (by decide) rfl (s0_303 H) rfl fun D =>
    j_lldn (pc := 83) D rfl rfl rfl fun D =>
    j_c0 (pc := 84) (v := (1, 0)) D rfl rfl (by decide +kernel) fun D =>
    j_is (pc := 85) (m := 455) (a := [(1, x3), (1, 0)]) (rest := [(0, h1 290 303 0), (4, 465)]) D rfl rfl rfl rfl (fun v4 h3 e1 D =>
      have T := fj_run_ok _ _ _ _ _ _ H.1 e1
      have H := shp_st H T
      j_as (pc := 88) (a := 465) (e := 11) D rfl ⟨rfl, rfl⟩ rfl (by decide) (s0_465 H) (s1_465 H) ⟨rfl, rfl, rfl⟩ rfl gn (gy rfl) fun h6 eh6 S qb7 D =>
      have T := fj_hs_ok H.1 S
      have H := shp_st H T
      j_lldn (pc := 89) D rfl rfl rfl fun D =>
      j_c0 (pc := 90) (v := (1, 0)) D rfl rfl (by decide +kernel) fun D =>
      j_lcmp (pc := 91) D rfl fun D =>
      j_ifge (pc := 92) D rfl (fun q D =>
        j_aldn (pc := 95) D rfl rfl rfl fun D =>
        have D : fk_D 454 [(96, none, .getfield 752, 3, 306, 100, 12), (99, none, .aload_n 0, 1, 0, 0, 0), (100, none, .getfield 716, 3, 294, 100, 12), (103, none, .aload_n 0, 1, 0, 0, 0), (104, none, .getfield 923, 3, 290, 100, 10), (107, none, .baload, 1, 0, 0, 0), (108, none, .dup2, 1, 0, 0, 0), (109, none, .laload, 1, 0, 0, 0), (110, none, .lload_n 3, 1, 0, 0, 0), (111, none, .lsub, 1, 0, 0, 0), (112, none, .lastore, 1, 0, 0, 0)] := fq_of2 cd_454 ow_454 cl_454 rfl (pc := 96) (by decide +kernel)
        j_gfc (pc := 96) (a := 303) D rfl rfl (by decide) rfl (s0_303 H) rfl (sf_306_303 H) fun D =>
        j_aldn (pc := 99) D rfl rfl rfl fun D =>
        j_gfc (pc := 100) (a := 303) D rfl rfl (by decide) rfl (s0_303 H) rfl (sf_294_303 H) fun D =>
        j_aldn (pc := 103) D rfl rfl rfl fun D =>
        j_gf (pc := 104) (a := 303) D rfl rfl (by decide) rfl (s0_303 H) rfl fun D =>
        j_al (pc := 107) (a := 454) (e := 8) D rfl rfl rfl (by decide) (s0_454 H) (s1_454 H) ⟨rfl, rfl, rfl⟩ rfl gn fun qb8 D =>
        j_sh (pc := 108) D rfl rfl rfl fun D =>
        j_al (pc := 109) (a := 466) (e := 11) D rfl rfl rfl (by decide) (s0_466 H) (s1_466 H) ⟨rfl, rfl, rfl⟩ rfl gn fun qb9 D =>
        j_lldn (pc := 110) D rfl rfl rfl fun D =>
        j_lsub (pc := 111) D rfl fun D =>
        j_as (pc := 112) (a := 466) (e := 11) D rfl ⟨rfl, rfl⟩ rfl (by decide) (s0_466 H) (s1_466 H) ⟨rfl, rfl, rfl⟩ rfl (gy qb9) (gy rfl) fun h10 eh10 S q D =>
        have T := fj_hs_ok H.1 S
        have H := shp_st H T
        fk_jump cut_454_113 rfl rfl) (fun q =>
        fk_jump cut_454_113 rfl rfl)) (fun q5 h3 e1 =>
      j_tx (hx_454 _))
theorem e_454_113 (d : Nat) {h : fi_H} (H : Shp h) : c_454_113 d h =
  if 0 ≤ h 290 303 0 ∧ h 290 303 0 < 400 then
  lt_ (fi_upd h 8 467 (h 290 303 0).toNat 0) fun h1 =>
  if 0 ≤ h1 290 303 0 ∧ h1 290 303 0 < 400 then
  lt_ (fi_upd h1 10 468 (h1 290 303 0).toNat (-1)) fun h3 =>
  if 0 ≤ h3 290 303 0 ∧ h3 290 303 0 < 400 then
  lt_ (fi_upd h3 4 469 (h3 290 303 0).toNat 0) fun h5 =>
  lt_ (fi_upd h5 290 303 0 (wI ((h5 290 303 0) + 1))) fun h7 =>
  some (.inl none, h7)
  else none
  else none
  else none := by
  unfold c_454_113
  exact
    have D : fk_D 454 [(113, some [0], .aload_n 0, 1, 0, 0, 0), (114, none, .getfield 755, 3, 307, 100, 12), (117, none, .aload_n 0, 1, 0, 0, 0), (118, none, .getfield 923, 3, 290, 100, 10), (121, none, .iconst 0, 1, 0, 0, 0), (122, none, .bastore, 1, 0, 0, 0), (123, none, .aload_n 0, 1, 0, 0, 0), (124, none, .getfield 758, 3, 308, 100, 12), (127, none, .aload_n 0, 1, 0, 0, 0), (128, none, .getfield 923, 3, 290, 100, 10), (131, none, .iconst (-1), 1, 0, (-1), 0), (132, none, .iastore, 1, 0, 0, 0), (133, none, .aload_n 0, 1, 0, 0, 0), (134, none, .getfield 761, 3, 309, 100, 12), (137, none, .aload_n 0, 1, 0, 0, 0), (138, none, .getfield 923, 3, 290, 100, 10), (141, none, .iconst 0, 1, 0, 0, 0), (142, none, .bastore, 1, 0, 0, 0), (143, none, .aload_n 0, 1, 0, 0, 0), (144, none, .dup, 1, 0, 0, 0)] := fq_of2 cd_454 ow_454 cl_454 rfl (pc := 113) (by decide +kernel)
    j_aldn (pc := 113) D rfl rfl rfl fun D =>
    j_gfc (pc := 114) (a := 303) D rfl rfl (by decide) rfl (s0_303 H) rfl (sf_307_303 H) fun D =>
    j_aldn (pc := 117) D rfl rfl rfl fun D =>
    j_gf (pc := 118) (a := 303) D rfl rfl (by decide) rfl (s0_303 H) rfl fun D =>
    j_ic (pc := 121) D rfl fun D =>
    j_as (pc := 122) (a := 467) (e := 8) D rfl ⟨rfl, rfl⟩ rfl (by decide) (s0_467 H) (s1_467 H) ⟨rfl, rfl, rfl⟩ rfl gn (gy (by decide)) fun h1 eh1 S qb2 D =>
    have T := fj_hs_ok H.1 S
    have H := shp_st H T
    j_aldn (pc := 123) D rfl rfl rfl fun D =>
    j_gfc (pc := 124) (a := 303) D rfl rfl (by decide) rfl (s0_303 H) rfl (sf_308_303 H) fun D =>
    j_aldn (pc := 127) D rfl rfl rfl fun D =>
    j_gf (pc := 128) (a := 303) D rfl rfl (by decide) rfl (s0_303 H) rfl fun D =>
    j_ic (pc := 131) D rfl fun D =>
    j_as (pc := 132) (a := 468) (e := 10) D rfl ⟨rfl, rfl⟩ rfl (by decide) (s0_468 H) (s1_468 H) ⟨rfl, rfl, rfl⟩ rfl gn (gy rfl) fun h3 eh3 S qb4 D =>
    have T := fj_hs_ok H.1 S
    have H := shp_st H T
    j_aldn (pc := 133) D rfl rfl rfl fun D =>
    j_gfc (pc := 134) (a := 303) D rfl rfl (by decide) rfl (s0_303 H) rfl (sf_309_303 H) fun D =>
    j_aldn (pc := 137) D rfl rfl rfl fun D =>
    j_gf (pc := 138) (a := 303) D rfl rfl (by decide) rfl (s0_303 H) rfl fun D =>
    j_ic (pc := 141) D rfl fun D =>
    j_as (pc := 142) (a := 469) (e := 4) D rfl ⟨rfl, rfl⟩ rfl (by decide) (s0_469 H) (s1_469 H) ⟨rfl, rfl, rfl⟩ rfl gn (gy (by decide)) fun h5 eh5 S qb6 D =>
    have T := fj_hs_ok H.1 S
    have H := shp_st H T
    j_aldn (pc := 143) D rfl rfl rfl fun D =>
    j_sh (pc := 144) D rfl rfl rfl fun D =>
    have D : fk_D 454 [(145, none, .getfield 923, 3, 290, 100, 10), (148, none, .iconst 1, 1, 0, 1, 0), (149, none, .iadd, 1, 0, 0, 0), (150, none, .putfield 923, 3, 290, 100, 10), (153, none, .return_, 1, 0, 0, 0)] := fq_of2 cd_454 ow_454 cl_454 rfl (pc := 145) (by decide +kernel)
    j_gf (pc := 145) (a := 303) D rfl rfl (by decide) rfl (s0_303 H) rfl fun D =>
    j_ic (pc := 148) D rfl fun D =>
    j_iadd (pc := 149) D rfl fun D =>
    j_pf (pc := 150) (a := 303) D rfl rfl rfl (s0_303 H) rfl rfl (gy (by decide)) (gy rfl) fun h7 eh7 S D =>
    have T := fj_hs_ok H.1 S
    have H := shp_st H T
    j_vret D rt_454
theorem m_454 (d : Nat) (x1 x2 x3 x5 x6 : Int) {h : fi_H} (H : Shp h) : fj_run (d + 1) 454 h [(4, 303), (0, x1), (0, x2), (1, x3), (0, x5), (0, x6)] =
  if 0 ≤ x1 ∧ x1 < 30 then
  if h 0 (h 12 453 x1.toNat).toNat 0 = 104 then
  if 0 ≤ h 290 303 0 ∧ h 290 303 0 < 400 then
  lt_ (fi_upd h 8 454 (h 290 303 0).toNat (wB (h 375 (h 12 453 x1.toNat).toNat 0))) fun h3 =>
  if 0 ≤ h3 290 303 0 ∧ h3 290 303 0 < 400 then
  lt_ (fi_upd h3 8 455 (h3 290 303 0).toNat (wB x1)) fun h5 =>
  if 0 ≤ h5 290 303 0 ∧ h5 290 303 0 < 400 then
  lt_ (fi_upd h5 8 456 (h5 290 303 0).toNat (wB x2)) fun h7 =>
  if 0 ≤ h7 290 303 0 ∧ h7 290 303 0 < 400 then
  lt_ (fi_upd h7 11 458 (h7 290 303 0).toNat x3) fun h9 =>
  if 0 ≤ h9 290 303 0 ∧ h9 290 303 0 < 400 then
  lt_ (fi_upd h9 5 459 (h9 290 303 0).toNat (wC x5)) fun h11 =>
  c_454_63 d x3 x6 h11
  else none
  else none
  else none
  else none
  else none
  else none
  else none := by
  rw [fj_run_eq d (by decide) h [(4, 303), (0, x1), (0, x2), (1, x3), (0, x5), (0, x6)] (Nat.le_of_ble_eq_true (by rw [nl_454]; rfl))]
  show gG (fj_run d) 454 0 [(0, (4, 303)), (1, (0, x1)), (2, (0, x2)), (3, (1, x3)), (5, (0, x5)), (6, (0, x6))] [] h = _
  exact
    have D : fk_D 454 [(0, none, .aload_n 0, 1, 0, 0, 0), (1, none, .getfield 716, 3, 294, 100, 12), (4, none, .aload_n 0, 1, 0, 0, 0), (5, none, .getfield 923, 3, 290, 100, 10), (8, none, .aload_n 0, 1, 0, 0, 0), (9, none, .getfield 703, 3, 288, 100, 12), (12, none, .iload_n 1, 1, 0, 0, 0), (13, none, .aaload, 1, 0, 0, 0), (14, none, .getfield 1022, 3, 375, (-104), 10), (17, none, .i2b, 1, 0, 0, 0), (18, none, .bastore, 1, 0, 0, 0), (19, none, .aload_n 0, 1, 0, 0, 0), (20, none, .getfield 719, 3, 295, 100, 12), (23, none, .aload_n 0, 1, 0, 0, 0), (24, none, .getfield 923, 3, 290, 100, 10), (27, none, .iload_n 1, 1, 0, 0, 0), (28, none, .i2b, 1, 0, 0, 0), (29, none, .bastore, 1, 0, 0, 0), (30, none, .aload_n 0, 1, 0, 0, 0), (31, none, .getfield 722, 3, 296, 100, 12)] := fq_of2 cd_454 ow_454 cl_454 rfl (pc := 0) (by decide +kernel)
    j_aldn (pc := 0) D rfl rfl rfl fun D =>
    j_gfc (pc := 1) (a := 303) D rfl rfl (by decide) rfl (s0_303 H) rfl (sf_294_303 H) fun D =>
    j_aldn (pc := 4) D rfl rfl rfl fun D =>
    j_gf (pc := 5) (a := 303) D rfl rfl (by decide) rfl (s0_303 H) rfl fun D =>
    j_aldn (pc := 8) D rfl rfl rfl fun D =>
    j_gfc (pc := 9) (a := 303) D rfl rfl (by decide) rfl (s0_303 H) rfl (sf_288_303 H) fun D =>
    j_ildn (pc := 12) D rfl rfl rfl fun D =>
    j_al (pc := 13) (a := 453) (e := 12) D rfl rfl rfl (by decide) (s0_453 H) (s1_453 H) ⟨rfl, rfl, rfl⟩ rfl gn fun qb1 D =>
    j_gfo (pc := 14) H.2.1 D rfl rfl rfl rfl fun kc2 D =>
    j_i2b (pc := 17) D rfl fun D =>
    j_as (pc := 18) (a := 454) (e := 8) D rfl ⟨rfl, rfl⟩ rfl (by decide) (s0_454 H) (s1_454 H) ⟨rfl, rfl, rfl⟩ rfl gn (gy (fk_rgB _)) fun h3 eh3 S qb4 D =>
    have T := fj_hs_ok H.1 S
    have H := shp_st H T
    j_aldn (pc := 19) D rfl rfl rfl fun D =>
    j_gfc (pc := 20) (a := 303) D rfl rfl (by decide) rfl (s0_303 H) rfl (sf_295_303 H) fun D =>
    j_aldn (pc := 23) D rfl rfl rfl fun D =>
    j_gf (pc := 24) (a := 303) D rfl rfl (by decide) rfl (s0_303 H) rfl fun D =>
    j_ildn (pc := 27) D rfl rfl rfl fun D =>
    j_i2b (pc := 28) D rfl fun D =>
    j_as (pc := 29) (a := 455) (e := 8) D rfl ⟨rfl, rfl⟩ rfl (by decide) (s0_455 H) (s1_455 H) ⟨rfl, rfl, rfl⟩ rfl gn (gy (fk_rgB _)) fun h5 eh5 S qb6 D =>
    have T := fj_hs_ok H.1 S
    have H := shp_st H T
    j_aldn (pc := 30) D rfl rfl rfl fun D =>
    j_gfc (pc := 31) (a := 303) D rfl rfl (by decide) rfl (s0_303 H) rfl (sf_296_303 H) fun D =>
    have D : fk_D 454 [(34, none, .aload_n 0, 1, 0, 0, 0), (35, none, .getfield 923, 3, 290, 100, 10), (38, none, .iload_n 2, 1, 0, 0, 0), (39, none, .i2b, 1, 0, 0, 0), (40, none, .bastore, 1, 0, 0, 0), (41, none, .aload_n 0, 1, 0, 0, 0), (42, none, .getfield 728, 3, 298, 100, 12), (45, none, .aload_n 0, 1, 0, 0, 0), (46, none, .getfield 923, 3, 290, 100, 10), (49, none, .lload_n 3, 1, 0, 0, 0), (50, none, .lastore, 1, 0, 0, 0), (51, none, .aload_n 0, 1, 0, 0, 0), (52, none, .getfield 731, 3, 299, 100, 12), (55, none, .aload_n 0, 1, 0, 0, 0), (56, none, .getfield 923, 3, 290, 100, 10), (59, none, .iload 5, 2, 0, 0, 0), (61, none, .i2c, 1, 0, 0, 0), (62, none, .castore, 1, 0, 0, 0)] := fq_of2 cd_454 ow_454 cl_454 rfl (pc := 34) (by decide +kernel)
    j_aldn (pc := 34) D rfl rfl rfl fun D =>
    j_gf (pc := 35) (a := 303) D rfl rfl (by decide) rfl (s0_303 H) rfl fun D =>
    j_ildn (pc := 38) D rfl rfl rfl fun D =>
    j_i2b (pc := 39) D rfl fun D =>
    j_as (pc := 40) (a := 456) (e := 8) D rfl ⟨rfl, rfl⟩ rfl (by decide) (s0_456 H) (s1_456 H) ⟨rfl, rfl, rfl⟩ rfl gn (gy (fk_rgB _)) fun h7 eh7 S qb8 D =>
    have T := fj_hs_ok H.1 S
    have H := shp_st H T
    j_aldn (pc := 41) D rfl rfl rfl fun D =>
    j_gfc (pc := 42) (a := 303) D rfl rfl (by decide) rfl (s0_303 H) rfl (sf_298_303 H) fun D =>
    j_aldn (pc := 45) D rfl rfl rfl fun D =>
    j_gf (pc := 46) (a := 303) D rfl rfl (by decide) rfl (s0_303 H) rfl fun D =>
    j_lldn (pc := 49) D rfl rfl rfl fun D =>
    j_as (pc := 50) (a := 458) (e := 11) D rfl ⟨rfl, rfl⟩ rfl (by decide) (s0_458 H) (s1_458 H) ⟨rfl, rfl, rfl⟩ rfl gn (gy rfl) fun h9 eh9 S qb10 D =>
    have T := fj_hs_ok H.1 S
    have H := shp_st H T
    j_aldn (pc := 51) D rfl rfl rfl fun D =>
    j_gfc (pc := 52) (a := 303) D rfl rfl (by decide) rfl (s0_303 H) rfl (sf_299_303 H) fun D =>
    j_aldn (pc := 55) D rfl rfl rfl fun D =>
    j_gf (pc := 56) (a := 303) D rfl rfl (by decide) rfl (s0_303 H) rfl fun D =>
    j_ild (pc := 59) D rfl rfl rfl fun D =>
    j_i2c (pc := 61) D rfl fun D =>
    j_as (pc := 62) (a := 459) (e := 5) D rfl ⟨rfl, rfl⟩ rfl (by decide) (s0_459 H) (s1_459 H) ⟨rfl, rfl, rfl⟩ rfl gn (gy (fk_rgC _)) fun h11 eh11 S qb12 D =>
    have T := fj_hs_ok H.1 S
    have H := shp_st H T
    fk_jump cut_454_63 rfl rfl
/-! 455 java/lang/Math.max(JJ)J -/
theorem cd_455 : fi_code 455 = prog_82_method_66_code := rfl
theorem hx_455 : ∀ pc, fi_hat 455 pc = none := fun pc => by unfold fi_hat; rw [show fi_hh 455 = [] from rfl]; rfl
theorem rt_455 : fi_ret 455 = some .long := rfl
theorem nl_455 : fi_nl 455 = 4 := rfl
theorem ow_455 : fi_ow 455 = 75 := rfl
theorem cl_455 : fj_cutT.getD 455 [] = [] := rfl
theorem m_455 (d : Nat) (x0 x2 : Int) {h : fi_H} (H : Shp h) : fj_run (d + 1) 455 h [(1, x0), (1, x2)] =
  if lc_ x0 x2 < 0 then
    some (.inl (some (1, x2)), h)
  else
    some (.inl (some (1, x0)), h) := by
  rw [fj_run_eq d (by decide) h [(1, x0), (1, x2)] (Nat.le_of_ble_eq_true (by rw [nl_455]; rfl))]
  show gG (fj_run d) 455 0 [(0, (1, x0)), (2, (1, x2))] [] h = _
  exact
    have D : fk_D 455 [(0, none, .lload_n 0, 1, 0, 0, 0), (1, none, .lload_n 2, 1, 0, 0, 0), (2, none, .lcmp, 1, 0, 0, 0), (3, none, .ifCond .lt 7, 3, 10, 0, 0), (6, none, .lload_n 0, 1, 0, 0, 0), (7, none, .goto 4, 3, 11, 0, 0)] := fq_of2 cd_455 ow_455 cl_455 rfl (pc := 0) (by decide +kernel)
    j_lldn (pc := 0) D rfl rfl rfl fun D =>
    j_lldn (pc := 1) D rfl rfl rfl fun D =>
    j_lcmp (pc := 2) D rfl fun D =>
    j_iflt (pc := 3) D rfl (fun q =>
      have D : fk_D 455 [(10, none, .lload_n 2, 1, 0, 0, 0), (11, none, .lreturn, 1, 0, 0, 0)] := fq_of2 cd_455 ow_455 cl_455 rfl (pc := 10) (by decide +kernel)
      j_lldn (pc := 10) D rfl rfl rfl fun D =>
      j_lret D rt_455) (fun q D =>
      j_lldn (pc := 6) D rfl rfl rfl fun D =>
      j_goto (pc := 7) D rfl <|
      have D : fk_D 455 [(11, none, .lreturn, 1, 0, 0, 0)] := fq_of2 cd_455 ow_455 cl_455 rfl (pc := 11) (by decide +kernel)
      j_lret D rt_455)
/-! 456 StatuteHouse.credit(I)J -/
theorem cd_456 : fi_code 456 = prog_1_method_102_code := rfl
theorem hx_456 : ∀ pc, fi_hat 456 pc = none := fun pc => by unfold fi_hat; rw [show fi_hh 456 = [] from rfl]; rfl
theorem rt_456 : fi_ret 456 = some .long := rfl
theorem nl_456 : fi_nl 456 = 2 := rfl
theorem ow_456 : fi_ow 456 = 0 := rfl
theorem cl_456 : fj_cutT.getD 456 [] = [] := rfl
theorem m_456 (d : Nat) (x1 : Int) {h : fi_H} (H : Shp h) : fj_run (d + 1) 456 h [(4, 303), (0, x1)] =
  ca_ (fj_run d 303 h [(4, 303), (0, x1)]) 0
    (fun v2 h1 =>
    if v2 = 0 then
      some (.inl (some (1, (-1))), h1)
    else
      if 0 ≤ x1 ∧ x1 < 30 then
      some (.inl (some (1, h1 11 466 x1.toNat)), h1)
      else none)
    (fun q3 h1 => tx_ q3 h1) := by
  rw [fj_run_eq d (by decide) h [(4, 303), (0, x1)] (Nat.le_of_ble_eq_true (by rw [nl_456]; rfl))]
  show gG (fj_run d) 456 0 [(0, (4, 303)), (1, (0, x1))] [] h = _
  exact
    have D : fk_D 456 [(0, none, .aload_n 0, 1, 0, 0, 0), (1, none, .iload_n 1, 1, 0, 0, 0), (2, none, .invokevirtual 870, 3, 1, 167, 1), (5, none, .ifCond .eq 12, 3, 17, 0, 0), (8, none, .aload_n 0, 1, 0, 0, 0), (9, none, .getfield 752, 3, 306, 100, 12), (12, none, .iload_n 1, 1, 0, 0, 0), (13, none, .laload, 1, 0, 0, 0), (14, none, .goto 6, 3, 20, 0, 0)] := fq_of2 cd_456 ow_456 cl_456 rfl (pc := 0) (by decide +kernel)
    j_aldn (pc := 0) D rfl rfl rfl fun D =>
    j_ildn (pc := 1) D rfl rfl rfl fun D =>
    j_iv (pc := 2) (m := 303) (dd := 167) (a := [(0, x1)]) (rest := []) D rfl rfl rfl rfl rfl (by decide) (s0_303 H) (by decide +kernel) (fun v2 h1 e1 D =>
      have T := fj_run_ok _ _ _ _ _ _ H.1 e1
      have H := shp_st H T
      j_ifeq (pc := 5) D rfl (fun q =>
        have D : fk_D 456 [(17, none, .ldc2_w 965, 3, 1, (-1), 0), (20, none, .lreturn, 1, 0, 0, 0)] := fq_of2 cd_456 ow_456 cl_456 rfl (pc := 17) (by decide +kernel)
        j_ldc2 (pc := 17) D rfl fun D =>
        j_lret D rt_456) (fun q D =>
        j_aldn (pc := 8) D rfl rfl rfl fun D =>
        j_gfc (pc := 9) (a := 303) D rfl rfl (by decide) rfl (s0_303 H) rfl (sf_306_303 H) fun D =>
        j_ildn (pc := 12) D rfl rfl rfl fun D =>
        j_al (pc := 13) (a := 466) (e := 11) D rfl rfl rfl (by decide) (s0_466 H) (s1_466 H) ⟨rfl, rfl, rfl⟩ rfl gn fun qb4 D =>
        j_goto (pc := 14) D rfl <|
        have D : fk_D 456 [(20, none, .lreturn, 1, 0, 0, 0)] := fq_of2 cd_456 ow_456 cl_456 rfl (pc := 20) (by decide +kernel)
        j_lret D rt_456)) (fun q3 h1 e1 =>
      j_tx (hx_456 _))
/-! 457 StatuteHouse.decide(IIII)I -/
theorem cd_457 : fi_code 457 = prog_1_method_106_code := rfl
theorem rt_457 : fi_ret 457 = some .int := rfl
theorem nl_457 : fi_nl 457 = 8 := rfl
theorem ow_457 : fi_ow 457 = 0 := rfl
theorem cl_457 : fj_cutT.getD 457 [] = [(127, [0, 1, 2, 3, 4, 5, 6]), (193, [0, 1, 2, 3, 4, 5, 6]), (202, []), (257, [0, 1, 4, 6, 7]), (321, [0, 1, 4, 6, 7])] := rfl
theorem cut_457_127 : fj_cut 457 127 = some [0, 1, 2, 3, 4, 5, 6] := by decide +kernel
noncomputable def c_457_127 (d : Nat) (x1 x2 x3 x4 x5 x6 : Int) (h : fi_H) : fk_R := gG (fj_run d) 457 127 [(0, (4, 303)), (1, (0, x1)), (2, (0, x2)), (3, (0, x3)), (4, (0, x4)), (5, (0, x5)), (6, (0, x6))] [] h
theorem cut_457_193 : fj_cut 457 193 = some [0, 1, 2, 3, 4, 5, 6] := by decide +kernel
noncomputable def c_457_193 (d : Nat) (x1 x2 x3 x4 x5 x6 : Int) (h : fi_H) : fk_R := gG (fj_run d) 457 193 [(0, (4, 303)), (1, (0, x1)), (2, (0, x2)), (3, (0, x3)), (4, (0, x4)), (5, (0, x5)), (6, (0, x6))] [] h
theorem cut_457_202 : fj_cut 457 202 = some [] := by decide +kernel
noncomputable def c_457_202 (d : Nat) (s0 : Int) (h : fi_H) : fk_R := gG (fj_run d) 457 202 [] [(4, s0)] h
theorem cut_457_257 : fj_cut 457 257 = some [0, 1, 4, 6, 7] := by decide +kernel
noncomputable def c_457_257 (d : Nat) (x1 x4 x6 x7 : Int) (h : fi_H) : fk_R := gG (fj_run d) 457 257 [(0, (4, 303)), (1, (0, x1)), (4, (0, x4)), (6, (4, x6)), (7, (0, x7))] [] h
theorem cut_457_321 : fj_cut 457 321 = some [0, 1, 4, 6, 7] := by decide +kernel
noncomputable def c_457_321 (d : Nat) (x1 x4 x6 x7 : Int) (h : fi_H) : fk_R := gG (fj_run d) 457 321 [(0, (4, 303)), (1, (0, x1)), (4, (0, x4)), (6, (4, x6)), (7, (0, x7))] [] h
theorem e_457_127 (d : Nat) (x1 x2 x3 x4 x5 x6 : Int) {h : fi_H} (H : Shp h) : c_457_127 d x1 x2 x3 x4 x5 x6 h =
  if x6 < x4 then
    ca_ (fj_run d 350 h [(4, 306), (0, x3), (0, x6), (0, 0)]) 0
      (fun v2 h1 =>
      lt_ (fi_upd h1 249 303 0 0) fun h4 =>
      lt_ (fi_upd h4 250 303 0 0) fun h5 =>
      ca_ (fj_run d 6 h5 [(0, v2), (0, h5 239 303 0)]) 0
        (fun v7 h6 =>
        ca_ (fj_run d 453 h6 [(4, 303), (0, v7)]) 0
          (fun v10 h9 =>
          if 0 ≤ x6 ∧ x6 < 24 then
          lt_ (fi_upd h9 5 462 x6.toNat (wC v10)) fun h12 =>
          ca_ (fj_run d 459 h12 [(4, 303), (0, x1), (0, x2), (0, v2)]) 1
            (fun v15 h14 =>
            lt_ (fi_upd h14 11 460 x6.toNat v15) fun h17 =>
            c_457_193 d x1 x2 x3 x4 x5 x6 h17)
            (fun q16 h14 => tc_ 107 q16 h14 (c_457_202 d (q16 : Int) h14))
          else none)
          (fun q11 h9 => tc_ 107 q11 h9 (c_457_202 d (q11 : Int) h9)))
        (fun q8 h6 => tc_ 107 q8 h6 (c_457_202 d (q8 : Int) h6)))
      (fun q3 h1 => tc_ 107 q3 h1 (c_457_202 d (q3 : Int) h1))
  else
    nw_ h 104 8 0 fun r18 h19 =>
    cv_ (fj_run d 460 h19 [(4, r18), (0, x1), (0, x2), (0, x3), (0, x4), (0, x5), (0, h19 239 303 0)])
      (fun h20 =>
      if 0 ≤ h20 289 303 0 ∧ h20 289 303 0 < 30 then
      lt_ (fi_upd h20 12 453 (h20 289 303 0).toNat r18) fun h23 =>
      lt_ (fi_upd h23 289 303 0 (wI ((h23 289 303 0) + 1))) fun h25 =>
      c_457_257 d x1 x4 r18 0 h25
      else none)
      (fun q22 h20 => tx_ q22 h20) := by
  unfold c_457_127
  exact
    have D : fk_D 457 [(127, some [0, 1, 2, 3, 4, 5, 6], .iload 6, 2, 0, 0, 0), (129, none, .iload 4, 2, 0, 0, 0), (131, none, .if_icmp .ge 68, 3, 199, 0, 0), (134, none, .aload_n 0, 1, 0, 0, 0), (135, none, .getfield 16, 3, 209, 100, 12), (138, none, .iload_n 3, 1, 0, 0, 0), (139, none, .iload 6, 2, 0, 0, 0), (141, none, .iconst 0, 1, 0, 0, 0), (142, none, .invokevirtual 168, 3, 3, 119, 1), (145, none, .istore 7, 2, 0, 0, 0), (147, none, .aload_n 0, 1, 0, 0, 0), (148, none, .iconst 0, 1, 0, 0, 0), (149, none, .putfield 276, 3, 249, 100, 10), (152, none, .aload_n 0, 1, 0, 0, 0), (153, none, .aconst_null, 1, 0, 0, 0), (154, none, .putfield 326, 3, 250, 100, 12), (157, none, .aload_n 0, 1, 0, 0, 0), (158, none, .getfield 740, 3, 302, 100, 12), (161, none, .iload 6, 2, 0, 0, 0), (163, none, .aload_n 0, 1, 0, 0, 0)] := fq_of2 cd_457 ow_457 cl_457 rfl (pc := 127) (by decide +kernel)
    j_ild (pc := 127) D rfl rfl rfl fun D =>
    j_ild (pc := 129) D rfl rfl rfl fun D =>
    j_ige (pc := 131) D rfl (fun q D =>
      j_aldn (pc := 134) D rfl rfl rfl fun D =>
      j_gfc (pc := 135) (a := 303) D rfl rfl (by decide) rfl (s0_303 H) rfl (sf_209_303 H) fun D =>
      j_ildn (pc := 138) D rfl rfl rfl fun D =>
      j_ild (pc := 139) D rfl rfl rfl fun D =>
      j_ic (pc := 141) D rfl fun D =>
      j_iv (pc := 142) (m := 350) (dd := 119) (a := [(0, x3), (0, x6), (0, 0)]) (rest := []) D rfl rfl rfl rfl rfl (by decide) (s0_306 H) (by decide +kernel) (fun v2 h1 e1 D =>
        have T := fj_run_ok _ _ _ _ _ _ H.1 e1
        have H := shp_st H T
        j_ist (pc := 145) (L' := [(7, (0, v2)), (0, (4, 303)), (1, (0, x1)), (2, (0, x2)), (3, (0, x3)), (4, (0, x4)), (5, (0, x5)), (6, (0, x6))]) D rfl nl_457 rfl rfl fun D =>
        j_aldn (pc := 147) D rfl rfl rfl fun D =>
        j_ic (pc := 148) D rfl fun D =>
        j_pf (pc := 149) (a := 303) D rfl rfl rfl (s0_303 H) rfl rfl (gy (by decide)) (gy rfl) fun h4 eh4 S D =>
        have T := fj_hs_ok H.1 S
        have H := shp_st H T
        j_aldn (pc := 152) D rfl rfl rfl fun D =>
        j_c0 (pc := 153) (v := (4, 0)) D rfl rfl (by decide +kernel) fun D =>
        j_pf (pc := 154) (a := 303) D rfl rfl rfl (s0_303 H) rfl rfl (gy (by decide)) (gy rfl) fun h5 eh5 S D =>
        have T := fj_hs_ok H.1 S
        have H := shp_st H T
        j_aldn (pc := 157) D rfl rfl rfl fun D =>
        j_gfc (pc := 158) (a := 303) D rfl rfl (by decide) rfl (s0_303 H) rfl (sf_302_303 H) fun D =>
        j_ild (pc := 161) D rfl rfl rfl fun D =>
        j_aldn (pc := 163) D rfl rfl rfl fun D =>
        have D : fk_D 457 [(164, none, .iload 7, 2, 0, 0, 0), (166, none, .aload_n 0, 1, 0, 0, 0), (167, none, .getfield 615, 3, 239, 100, 10), (170, none, .invokestatic 926, 3, 2, 6, 1), (173, none, .invokevirtual 1046, 3, 1, 190, 1), (176, none, .i2c, 1, 0, 0, 0), (177, none, .castore, 1, 0, 0, 0), (178, none, .aload_n 0, 1, 0, 0, 0), (179, none, .getfield 734, 3, 300, 100, 12), (182, none, .iload 6, 2, 0, 0, 0), (184, none, .aload_n 0, 1, 0, 0, 0), (185, none, .iload_n 1, 1, 0, 0, 0), (186, none, .iload_n 2, 1, 0, 0, 0), (187, none, .iload 7, 2, 0, 0, 0), (189, none, .invokevirtual 1060, 3, 3, 194, 2), (192, none, .lastore, 1, 0, 0, 0)] := fq_of2 cd_457 ow_457 cl_457 rfl (pc := 164) (by decide +kernel)
        j_ild (pc := 164) D rfl rfl rfl fun D =>
        j_aldn (pc := 166) D rfl rfl rfl fun D =>
        j_gf (pc := 167) (a := 303) D rfl rfl (by decide) rfl (s0_303 H) rfl fun D =>
        j_is (pc := 170) (m := 6) (a := [(0, v2), (0, h5 239 303 0)]) (rest := [(4, 303), (0, x6), (4, 462)]) D rfl rfl rfl rfl (fun v7 h6 e1 D =>
          have T := fj_run_ok _ _ _ _ _ _ H.1 e1
          have H := shp_st H T
          j_iv (pc := 173) (m := 453) (dd := 190) (a := [(0, v7)]) (rest := [(0, x6), (4, 462)]) D rfl rfl rfl rfl rfl (by decide) (s0_303 H) (by decide +kernel) (fun v10 h9 e1 D =>
            have T := fj_run_ok _ _ _ _ _ _ H.1 e1
            have H := shp_st H T
            j_i2c (pc := 176) D rfl fun D =>
            j_as (pc := 177) (a := 462) (e := 5) D rfl ⟨rfl, rfl⟩ rfl (by decide) (s0_462 H) (s1_462 H) ⟨rfl, rfl, rfl⟩ rfl gn (gy (fk_rgC _)) fun h12 eh12 S qb13 D =>
            have T := fj_hs_ok H.1 S
            have H := shp_st H T
            j_aldn (pc := 178) D rfl rfl rfl fun D =>
            j_gfc (pc := 179) (a := 303) D rfl rfl (by decide) rfl (s0_303 H) rfl (sf_300_303 H) fun D =>
            j_ild (pc := 182) D rfl rfl rfl fun D =>
            j_aldn (pc := 184) D rfl rfl rfl fun D =>
            j_ildn (pc := 185) D rfl rfl rfl fun D =>
            j_ildn (pc := 186) D rfl rfl rfl fun D =>
            j_ild (pc := 187) D rfl rfl rfl fun D =>
            j_iv (pc := 189) (m := 459) (dd := 194) (a := [(0, x1), (0, x2), (0, v2)]) (rest := [(0, x6), (4, 460)]) D rfl rfl rfl rfl rfl (by decide) (s0_303 H) (by decide +kernel) (fun v15 h14 e1 D =>
              have T := fj_run_ok _ _ _ _ _ _ H.1 e1
              have H := shp_st H T
              j_as (pc := 192) (a := 460) (e := 11) D rfl ⟨rfl, rfl⟩ rfl (by decide) (s0_460 H) (s1_460 H) ⟨rfl, rfl, rfl⟩ rfl (gy qb13) (gy rfl) fun h17 eh17 S q D =>
              have T := fj_hs_ok H.1 S
              have H := shp_st H T
              fk_jump cut_457_193 rfl rfl) (fun q16 h14 e1 =>
              j_tc_ (n := 107) (fk_at (cu := none) (by decide +kernel) rfl) (s := 105) (e := 199) (hp := 202) (ct := 312) (by decide +kernel) rfl (by decide +kernel) <|
              fk_jump cut_457_202 rfl rfl)) (fun q11 h9 e1 =>
            j_tc_ (n := 107) (fk_at (cu := none) (by decide +kernel) rfl) (s := 105) (e := 199) (hp := 202) (ct := 312) (by decide +kernel) rfl (by decide +kernel) <|
            fk_jump cut_457_202 rfl rfl)) (fun q8 h6 e1 =>
          j_tc_ (n := 107) (fk_at (cu := none) (by decide +kernel) rfl) (s := 105) (e := 199) (hp := 202) (ct := 312) (by decide +kernel) rfl (by decide +kernel) <|
          fk_jump cut_457_202 rfl rfl)) (fun q3 h1 e1 =>
        j_tc_ (n := 107) (fk_at (cu := none) (by decide +kernel) rfl) (s := 105) (e := 199) (hp := 202) (ct := 312) (by decide +kernel) rfl (by decide +kernel) <|
        fk_jump cut_457_202 rfl rfl)) (fun q =>
      have D : fk_D 457 [(199, none, .goto 14, 3, 213, 0, 0)] := fq_of2 cd_457 ow_457 cl_457 rfl (pc := 199) (by decide +kernel)
      j_goto (pc := 199) D rfl <|
      have D : fk_D 457 [(213, none, .new 701, 3, 104, 8, 0), (216, none, .dup, 1, 0, 0, 0), (217, none, .iload_n 1, 1, 0, 0, 0), (218, none, .iload_n 2, 1, 0, 0, 0), (219, none, .iload_n 3, 1, 0, 0, 0), (220, none, .iload 4, 2, 0, 0, 0), (222, none, .iload 5, 2, 0, 0, 0), (224, none, .aload_n 0, 1, 0, 0, 0), (225, none, .getfield 615, 3, 239, 100, 10), (228, none, .invokespecial 1064, 3, 6, 460, 0), (231, none, .astore 6, 2, 0, 0, 0), (233, none, .aload_n 0, 1, 0, 0, 0), (234, none, .getfield 703, 3, 288, 100, 12), (237, none, .aload_n 0, 1, 0, 0, 0), (238, none, .getfield 914, 3, 289, 100, 10), (241, none, .aload 6, 2, 0, 0, 0), (243, none, .aastore, 1, 0, 0, 0), (244, none, .aload_n 0, 1, 0, 0, 0), (245, none, .dup, 1, 0, 0, 0), (246, none, .getfield 914, 3, 289, 100, 10)] := fq_of2 cd_457 ow_457 cl_457 rfl (pc := 213) (by decide +kernel)
      j_new (pc := 213) D rfl fun r18 h19 er eh19 S D =>
      have gt_r18 := nw_gt H.1 er
      have kc_r18 := nw_cls H.1 er eh19
      have T := fj_hs_ok H.1 S
      have H := shp_st H T
      j_sh (pc := 216) D rfl rfl rfl fun D =>
      j_ildn (pc := 217) D rfl rfl rfl fun D =>
      j_ildn (pc := 218) D rfl rfl rfl fun D =>
      j_ildn (pc := 219) D rfl rfl rfl fun D =>
      j_ild (pc := 220) D rfl rfl rfl fun D =>
      j_ild (pc := 222) D rfl rfl rfl fun D =>
      j_aldn (pc := 224) D rfl rfl rfl fun D =>
      j_gf (pc := 225) (a := 303) D rfl rfl (by decide) rfl (s0_303 H) rfl fun D =>
      j_spv (pc := 228) (m := 460) (a := [(0, x1), (0, x2), (0, x3), (0, x4), (0, x5), (0, h19 239 303 0)]) (rest := [(4, r18)]) D rfl rfl rfl rfl (by rw [show h19 0 r18.toNat 0 = 104 from kc_r18]; decide) (gt_nz gt_r18) (fun h20 e1 D =>
        have T := fj_run_ok _ _ _ _ _ _ H.1 e1
        have kc_r18 := cls_st H.1 T.2 kc_r18 (by decide)
        have H := shp_st H T
        j_ast (pc := 231) (L' := [(6, (4, r18)), (0, (4, 303)), (1, (0, x1)), (2, (0, x2)), (3, (0, x3)), (4, (0, x4)), (5, (0, x5))]) D rfl nl_457 rfl rfl fun D =>
        j_aldn (pc := 233) D rfl rfl rfl fun D =>
        j_gfc (pc := 234) (a := 303) D rfl rfl (by decide) rfl (s0_303 H) rfl (sf_288_303 H) fun D =>
        j_aldn (pc := 237) D rfl rfl rfl fun D =>
        j_gf (pc := 238) (a := 303) D rfl rfl (by decide) rfl (s0_303 H) rfl fun D =>
        j_ald (pc := 241) D rfl rfl rfl fun D =>
        j_asr (pc := 243) (a := 453) D rfl rfl (by decide) (s0_453 H) (s1_453 H) ⟨rfl, rfl, rfl⟩ rfl gn (gy (Or.inr (by rw [show h20 0 r18.toNat 0 = 104 from kc_r18]; decide +kernel))) fun h23 eh23 S qb24 D =>
        have T := fj_hs_ok H.1 S
        have kc_r18 := cls_st H.1 T.2 kc_r18 (by decide)
        have H := shp_st H T
        j_aldn (pc := 244) D rfl rfl rfl fun D =>
        j_sh (pc := 245) D rfl rfl rfl fun D =>
        j_gf (pc := 246) (a := 303) D rfl rfl (by decide) rfl (s0_303 H) rfl fun D =>
        have D : fk_D 457 [(249, none, .iconst 1, 1, 0, 1, 0), (250, none, .iadd, 1, 0, 0, 0), (251, none, .putfield 914, 3, 289, 100, 10), (254, none, .iconst 0, 1, 0, 0, 0), (255, none, .istore 7, 2, 0, 0, 0)] := fq_of2 cd_457 ow_457 cl_457 rfl (pc := 249) (by decide +kernel)
        j_ic (pc := 249) D rfl fun D =>
        j_iadd (pc := 250) D rfl fun D =>
        j_pf (pc := 251) (a := 303) D rfl rfl rfl (s0_303 H) rfl rfl (gy (by decide)) (gy rfl) fun h25 eh25 S D =>
        have T := fj_hs_ok H.1 S
        have kc_r18 := cls_st H.1 T.2 kc_r18 (by decide)
        have H := shp_st H T
        j_ic (pc := 254) D rfl fun D =>
        j_ist (pc := 255) (L' := [(7, (0, 0)), (6, (4, r18)), (0, (4, 303)), (1, (0, x1)), (2, (0, x2)), (3, (0, x3)), (4, (0, x4)), (5, (0, x5))]) D rfl nl_457 rfl rfl fun D =>
        fk_jump cut_457_257 rfl rfl) (fun q22 h20 e1 =>
        j_tx (by decide +kernel)))
theorem e_457_193 (d : Nat) (x1 x2 x3 x4 x5 x6 : Int) {h : fi_H} (H : Shp h) : c_457_193 d x1 x2 x3 x4 x5 x6 h =
  c_457_127 d x1 x2 x3 x4 x5 (wI (x6 + 1)) h := by
  unfold c_457_193
  exact
    have D : fk_D 457 [(193, some [0, 1, 2, 3, 4, 5, 6], .iinc 6 1, 3, 0, 1, 0), (196, none, .goto (-69), 3, 127, 0, 0)] := fq_of2 cd_457 ow_457 cl_457 rfl (pc := 193) (by decide +kernel)
    j_inc (pc := 193) (L' := [(6, (0, wI (x6 + 1))), (0, (4, 303)), (1, (0, x1)), (2, (0, x2)), (3, (0, x3)), (4, (0, x4)), (5, (0, x5))]) D rfl rfl rfl (by decide +kernel) rfl fun D =>
    j_goto (pc := 196) D rfl <|
    fk_jump cut_457_127 rfl rfl
theorem e_457_202 (d : Nat) (s0 : Int) {h : fi_H} (H : Shp h) : c_457_202 d s0 h =
  if h 0 s0.toNat 0 = 107 then
  some (.inl (some (0, wI ((-10) - (h 110 s0.toNat 0)))), h)
  else none := by
  unfold c_457_202
  exact
    have D : fk_D 457 [(202, some [], .astore 6, 2, 0, 0, 0), (204, none, .bipush (-10), 2, 0, (-10), 0), (206, none, .aload 6, 2, 0, 0, 0), (208, none, .getfield 311, 3, 110, (-107), 10), (211, none, .isub, 1, 0, 0, 0), (212, none, .ireturn, 1, 0, 0, 0)] := fq_of2 cd_457 ow_457 cl_457 rfl (pc := 202) (by decide +kernel)
    j_ast (pc := 202) (L' := [(6, (4, s0))]) D rfl nl_457 rfl rfl fun D =>
    j_bp (pc := 204) D rfl fun D =>
    j_ald (pc := 206) D rfl rfl rfl fun D =>
    j_gfo (pc := 208) H.2.1 D rfl rfl rfl rfl fun kc1 D =>
    j_isub (pc := 211) D rfl fun D =>
    j_iret D rt_457
theorem e_457_257 (d : Nat) (x1 x4 x6 x7 : Int) {h : fi_H} (H : Shp h) : c_457_257 d x1 x4 x6 x7 h =
  if x7 < x4 then
    if h 0 x6.toNat 0 = 104 then
    if 0 ≤ x7 ∧ x7 < 24 then
    if 302 < h 381 x6.toNat 0 ∧ h 0 (h 381 x6.toNat 0).toNat 0 = 11 then
    if 0 ≤ x7 ∧ x7 < h 1 (h 381 x6.toNat 0).toNat 0 then
    lt_ (fi_upd h 11 (h 381 x6.toNat 0).toNat x7.toNat (h 11 460 x7.toNat)) fun h3 =>
    if 302 < h3 382 x6.toNat 0 ∧ h3 0 (h3 382 x6.toNat 0).toNat 0 = 5 then
    if 0 ≤ x7 ∧ x7 < h3 1 (h3 382 x6.toNat 0).toNat 0 then
    if fi_rg 5 (h3 5 462 x7.toNat) = true then
    lt_ (fi_upd h3 5 (h3 382 x6.toNat 0).toNat x7.toNat (h3 5 462 x7.toNat)) fun h4 =>
    cv_ (fj_run d 454 h4 [(4, 303), (0, wI ((h4 289 303 0) - 1)), (0, x7), (1, h4 11 460 x7.toNat), (0, h4 5 462 x7.toNat), (0, 0)])
      (fun h5 =>
      c_457_321 d x1 x4 x6 x7 h5)
      (fun q7 h5 => tx_ q7 h5)
    else none
    else none
    else none
    else none
    else none
    else none
    else none
  else
    cv_ (fj_run d 449 h [(4, 303), (0, x1)])
      (fun h8 =>
      some (.inl (some (0, wI ((h8 289 303 0) - 1))), h8))
      (fun q10 h8 => tx_ q10 h8) := by
  unfold c_457_257
  exact
    have D : fk_D 457 [(257, some [0, 1, 4, 6, 7], .iload 7, 2, 0, 0, 0), (259, none, .iload 4, 2, 0, 0, 0), (261, none, .if_icmp .ge 66, 3, 327, 0, 0), (264, none, .aload 6, 2, 0, 0, 0), (266, none, .getfield 1065, 3, 381, (-104), 12), (269, none, .iload 7, 2, 0, 0, 0), (271, none, .aload_n 0, 1, 0, 0, 0), (272, none, .getfield 734, 3, 300, 100, 12), (275, none, .iload 7, 2, 0, 0, 0), (277, none, .laload, 1, 0, 0, 0), (278, none, .lastore, 1, 0, 0, 0), (279, none, .aload 6, 2, 0, 0, 0), (281, none, .getfield 1068, 3, 382, 104, 12), (284, none, .iload 7, 2, 0, 0, 0), (286, none, .aload_n 0, 1, 0, 0, 0), (287, none, .getfield 740, 3, 302, 100, 12), (290, none, .iload 7, 2, 0, 0, 0), (292, none, .caload, 1, 0, 0, 0), (293, none, .castore, 1, 0, 0, 0), (294, none, .aload_n 0, 1, 0, 0, 0)] := fq_of2 cd_457 ow_457 cl_457 rfl (pc := 257) (by decide +kernel)
    j_ild (pc := 257) D rfl rfl rfl fun D =>
    j_ild (pc := 259) D rfl rfl rfl fun D =>
    j_ige (pc := 261) D rfl (fun q D =>
      j_ald (pc := 264) D rfl rfl rfl fun D =>
      j_gfo (pc := 266) H.2.1 D rfl rfl rfl rfl fun kc1 D =>
      j_ild (pc := 269) D rfl rfl rfl fun D =>
      j_aldn (pc := 271) D rfl rfl rfl fun D =>
      j_gfc (pc := 272) (a := 303) D rfl rfl (by decide) rfl (s0_303 H) rfl (sf_300_303 H) fun D =>
      j_ild (pc := 275) D rfl rfl rfl fun D =>
      j_al (pc := 277) (a := 460) (e := 11) D rfl rfl rfl (by decide) (s0_460 H) (s1_460 H) ⟨rfl, rfl, rfl⟩ rfl gn fun qb2 D =>
      j_asu (pc := 278) (e := 11) D rfl rfl ⟨rfl, rfl, rfl⟩ rfl gn gn (gy rfl) fun h3 eh3 S q q2 D =>
      have T := fj_hs_ok H.1 S
      have kc1 := cls_st H.1 T.2 kc1 (by decide)
      have H := shp_st H T
      j_ald (pc := 279) D rfl rfl rfl fun D =>
      j_gf (pc := 281) (a := x6.toNat) D rfl rfl (nz_cls H.2.1 kc1 (by decide)) rfl kc1 rfl fun D =>
      j_ild (pc := 284) D rfl rfl rfl fun D =>
      j_aldn (pc := 286) D rfl rfl rfl fun D =>
      j_gfc (pc := 287) (a := 303) D rfl rfl (by decide) rfl (s0_303 H) rfl (sf_302_303 H) fun D =>
      j_ild (pc := 290) D rfl rfl rfl fun D =>
      j_al (pc := 292) (a := 462) (e := 5) D rfl rfl rfl (by decide) (s0_462 H) (s1_462 H) ⟨rfl, rfl, rfl⟩ rfl (gy qb2) fun q D =>
      j_asu (pc := 293) (e := 5) D rfl rfl ⟨rfl, rfl, rfl⟩ rfl gn gn gn fun h4 eh4 S q q2 D =>
      have T := fj_hs_ok H.1 S
      have kc1 := cls_st H.1 T.2 kc1 (by decide)
      have H := shp_st H T
      j_aldn (pc := 294) D rfl rfl rfl fun D =>
      have D : fk_D 457 [(295, none, .aload_n 0, 1, 0, 0, 0), (296, none, .getfield 914, 3, 289, 100, 10), (299, none, .iconst 1, 1, 0, 1, 0), (300, none, .isub, 1, 0, 0, 0), (301, none, .iload 7, 2, 0, 0, 0), (303, none, .aload_n 0, 1, 0, 0, 0), (304, none, .getfield 734, 3, 300, 100, 12), (307, none, .iload 7, 2, 0, 0, 0), (309, none, .laload, 1, 0, 0, 0), (310, none, .aload_n 0, 1, 0, 0, 0), (311, none, .getfield 740, 3, 302, 100, 12), (314, none, .iload 7, 2, 0, 0, 0), (316, none, .caload, 1, 0, 0, 0), (317, none, .iconst 0, 1, 0, 0, 0), (318, none, .invokevirtual 1049, 3, 5, 191, 0)] := fq_of2 cd_457 ow_457 cl_457 rfl (pc := 295) (by decide +kernel)
      j_aldn (pc := 295) D rfl rfl rfl fun D =>
      j_gf (pc := 296) (a := 303) D rfl rfl (by decide) rfl (s0_303 H) rfl fun D =>
      j_ic (pc := 299) D rfl fun D =>
      j_isub (pc := 300) D rfl fun D =>
      j_ild (pc := 301) D rfl rfl rfl fun D =>
      j_aldn (pc := 303) D rfl rfl rfl fun D =>
      j_gfc (pc := 304) (a := 303) D rfl rfl (by decide) rfl (s0_303 H) rfl (sf_300_303 H) fun D =>
      j_ild (pc := 307) D rfl rfl rfl fun D =>
      j_al (pc := 309) (a := 460) (e := 11) D rfl rfl rfl (by decide) (s0_460 H) (s1_460 H) ⟨rfl, rfl, rfl⟩ rfl (gy qb2) fun q D =>
      j_aldn (pc := 310) D rfl rfl rfl fun D =>
      j_gfc (pc := 311) (a := 303) D rfl rfl (by decide) rfl (s0_303 H) rfl (sf_302_303 H) fun D =>
      j_ild (pc := 314) D rfl rfl rfl fun D =>
      j_al (pc := 316) (a := 462) (e := 5) D rfl rfl rfl (by decide) (s0_462 H) (s1_462 H) ⟨rfl, rfl, rfl⟩ rfl (gy qb2) fun q D =>
      j_ic (pc := 317) D rfl fun D =>
      j_ivv (pc := 318) (m := 454) (dd := 191) (a := [(0, wI ((h4 289 303 0) - 1)), (0, x7), (1, h4 11 460 x7.toNat), (0, h4 5 462 x7.toNat), (0, 0)]) (rest := []) D rfl rfl rfl rfl rfl (by decide) (s0_303 H) (by decide +kernel) (fun h5 e1 D =>
        have T := fj_run_ok _ _ _ _ _ _ H.1 e1
        have kc1 := cls_st H.1 T.2 kc1 (by decide)
        have H := shp_st H T
        fk_jump cut_457_321 rfl rfl) (fun q7 h5 e1 =>
        j_tx (by decide +kernel))) (fun q =>
      have D : fk_D 457 [(327, none, .aload_n 0, 1, 0, 0, 0), (328, none, .iload_n 1, 1, 0, 0, 0), (329, none, .invokevirtual 1040, 3, 1, 188, 0), (332, none, .aload_n 0, 1, 0, 0, 0), (333, none, .getfield 914, 3, 289, 100, 10), (336, none, .iconst 1, 1, 0, 1, 0), (337, none, .isub, 1, 0, 0, 0), (338, none, .ireturn, 1, 0, 0, 0)] := fq_of2 cd_457 ow_457 cl_457 rfl (pc := 327) (by decide +kernel)
      j_aldn (pc := 327) D rfl rfl rfl fun D =>
      j_ildn (pc := 328) D rfl rfl rfl fun D =>
      j_ivv (pc := 329) (m := 449) (dd := 188) (a := [(0, x1)]) (rest := []) D rfl rfl rfl rfl rfl (by decide) (s0_303 H) (by decide +kernel) (fun h8 e1 D =>
        have T := fj_run_ok _ _ _ _ _ _ H.1 e1
        have H := shp_st H T
        j_aldn (pc := 332) D rfl rfl rfl fun D =>
        j_gf (pc := 333) (a := 303) D rfl rfl (by decide) rfl (s0_303 H) rfl fun D =>
        j_ic (pc := 336) D rfl fun D =>
        j_isub (pc := 337) D rfl fun D =>
        j_iret D rt_457) (fun q10 h8 e1 =>
        j_tx (by decide +kernel)))
theorem e_457_321 (d : Nat) (x1 x4 x6 x7 : Int) {h : fi_H} (H : Shp h) : c_457_321 d x1 x4 x6 x7 h =
  c_457_257 d x1 x4 x6 (wI (x7 + 1)) h := by
  unfold c_457_321
  exact
    have D : fk_D 457 [(321, some [0, 1, 4, 6, 7], .iinc 7 1, 3, 0, 1, 0), (324, none, .goto (-67), 3, 257, 0, 0)] := fq_of2 cd_457 ow_457 cl_457 rfl (pc := 321) (by decide +kernel)
    j_inc (pc := 321) (L' := [(7, (0, wI (x7 + 1))), (0, (4, 303)), (1, (0, x1)), (4, (0, x4)), (6, (4, x6))]) D rfl rfl rfl (by decide +kernel) rfl fun D =>
    j_goto (pc := 324) D rfl <|
    fk_jump cut_457_257 rfl rfl
theorem m_457 (d : Nat) (x1 x2 x3 x4 : Int) {h : fi_H} (H : Shp h) : fj_run (d + 1) 457 h [(4, 303), (0, x1), (0, x2), (0, x3), (0, x4)] =
  ca_ (fj_run d 303 h [(4, 303), (0, x1)]) 0
    (fun v2 h1 =>
    if v2 = 0 then
      some (.inl (some (0, (-1))), h1)
    else
      ca_ (fj_run d 458 h1 [(4, 303), (0, x2)]) 0
        (fun v5 h4 =>
        if v5 = 0 then
          some (.inl (some (0, (-1))), h4)
        else
          ca_ (fj_run d 2 h4 [(4, 303), (0, x3)]) 0
            (fun v8 h7 =>
            if v8 = 0 then
              some (.inl (some (0, (-2))), h7)
            else
              ca_ (fj_run d 367 h7 [(4, 306), (0, x3)]) 0
                (fun v11 h10 =>
                if v11 = x3 then
                  ca_ (fj_run d 3 h10 [(1, wI x4), (1, 1), (1, 24)]) 0
                    (fun v14 h13 =>
                    if v14 = 0 then
                      some (.inl (some (0, (-2))), h13)
                    else
                      ca_ (fj_run d 350 h13 [(4, 306), (0, x3), (0, wI (x4 - 1)), (0, 0)]) 0
                        (fun v17 h16 =>
                        if v17 = (-1) then
                          some (.inl (some (0, (-2))), h16)
                        else
                          if h16 289 303 0 = 30 then
                            some (.inl (some (0, (-4))), h16)
                          else
                            if 400 < wI ((h16 290 303 0) + x4) then
                              some (.inl (some (0, (-4))), h16)
                            else
                              cv_ (fj_run d 307 h16 [(4, 303), (0, h16 239 303 0), (0, 0)])
                                (fun h19 =>
                                ca_ (fj_run d 350 h19 [(4, 306), (0, h19 239 303 0), (0, 1), (0, 0)]) 0
                                  (fun v23 h22 =>
                                  ca_ (fj_run d 453 h22 [(4, 303), (0, v23)]) 0
                                    (fun v26 h25 =>
                                    c_457_127 d x1 x2 x3 x4 v26 0 h25)
                                    (fun q27 h25 => tc_ 107 q27 h25 (c_457_202 d (q27 : Int) h25)))
                                  (fun q24 h22 => tc_ 107 q24 h22 (c_457_202 d (q24 : Int) h22)))
                                (fun q21 h19 => tx_ q21 h19))
                        (fun q18 h16 => tx_ q18 h16))
                    (fun q15 h13 => tx_ q15 h13)
                else
                  some (.inl (some (0, (-2))), h10))
                (fun q12 h10 => tx_ q12 h10))
            (fun q9 h7 => tx_ q9 h7))
        (fun q6 h4 => tx_ q6 h4))
    (fun q3 h1 => tx_ q3 h1) := by
  rw [fj_run_eq d (by decide) h [(4, 303), (0, x1), (0, x2), (0, x3), (0, x4)] (Nat.le_of_ble_eq_true (by rw [nl_457]; rfl))]
  show gG (fj_run d) 457 0 [(0, (4, 303)), (1, (0, x1)), (2, (0, x2)), (3, (0, x3)), (4, (0, x4))] [] h = _
  exact
    have D : fk_D 457 [(0, none, .aload_n 0, 1, 0, 0, 0), (1, none, .iload_n 1, 1, 0, 0, 0), (2, none, .invokevirtual 870, 3, 1, 167, 1), (5, none, .ifCond .eq 11, 3, 16, 0, 0), (8, none, .aload_n 0, 1, 0, 0, 0), (9, none, .iload_n 2, 1, 0, 0, 0), (10, none, .invokevirtual 1053, 3, 1, 192, 1), (13, none, .ifCond .ne 5, 3, 18, 0, 0), (16, none, .iconst (-1), 1, 0, (-1), 0), (17, none, .ireturn, 1, 0, 0, 0)] := fq_of2 cd_457 ow_457 cl_457 rfl (pc := 0) (by decide +kernel)
    j_aldn (pc := 0) D rfl rfl rfl fun D =>
    j_ildn (pc := 1) D rfl rfl rfl fun D =>
    j_iv (pc := 2) (m := 303) (dd := 167) (a := [(0, x1)]) (rest := []) D rfl rfl rfl rfl rfl (by decide) (s0_303 H) (by decide +kernel) (fun v2 h1 e1 D =>
      have T := fj_run_ok _ _ _ _ _ _ H.1 e1
      have H := shp_st H T
      j_ifeq (pc := 5) D rfl (fun q =>
        have D : fk_D 457 [(16, none, .iconst (-1), 1, 0, (-1), 0), (17, none, .ireturn, 1, 0, 0, 0)] := fq_of2 cd_457 ow_457 cl_457 rfl (pc := 16) (by decide +kernel)
        j_ic (pc := 16) D rfl fun D =>
        j_iret D rt_457) (fun q D =>
        j_aldn (pc := 8) D rfl rfl rfl fun D =>
        j_ildn (pc := 9) D rfl rfl rfl fun D =>
        j_iv (pc := 10) (m := 458) (dd := 192) (a := [(0, x2)]) (rest := []) D rfl rfl rfl rfl rfl (by decide) (s0_303 H) (by decide +kernel) (fun v5 h4 e1 D =>
          have T := fj_run_ok _ _ _ _ _ _ H.1 e1
          have H := shp_st H T
          j_ifne (pc := 13) D rfl (fun q D =>
            j_ic (pc := 16) D rfl fun D =>
            j_iret D rt_457) (fun q =>
            have D : fk_D 457 [(18, none, .aload_n 0, 1, 0, 0, 0), (19, none, .iload_n 3, 1, 0, 0, 0), (20, none, .invokevirtual 121, 3, 1, 113, 1), (23, none, .ifCond .eq 45, 3, 68, 0, 0), (26, none, .aload_n 0, 1, 0, 0, 0), (27, none, .getfield 16, 3, 209, 100, 12), (30, none, .iload_n 3, 1, 0, 0, 0), (31, none, .invokevirtual 1056, 3, 1, 193, 1), (34, none, .iload_n 3, 1, 0, 0, 0), (35, none, .if_icmp .ne 33, 3, 68, 0, 0), (38, none, .iload 4, 2, 0, 0, 0), (40, none, .i2l, 1, 0, 0, 0), (41, none, .lconst 1, 1, 0, 0, 0), (42, none, .ldc2_w 1058, 3, 1, 24, 0), (45, none, .invokestatic 46, 3, 3, 3, 1), (48, none, .ifCond .eq 20, 3, 68, 0, 0), (51, none, .aload_n 0, 1, 0, 0, 0), (52, none, .getfield 16, 3, 209, 100, 12), (55, none, .iload_n 3, 1, 0, 0, 0), (56, none, .iload 4, 2, 0, 0, 0)] := fq_of2 cd_457 ow_457 cl_457 rfl (pc := 18) (by decide +kernel)
            j_aldn (pc := 18) D rfl rfl rfl fun D =>
            j_ildn (pc := 19) D rfl rfl rfl fun D =>
            j_iv (pc := 20) (m := 2) (dd := 113) (a := [(0, x3)]) (rest := []) D rfl rfl rfl rfl rfl (by decide) (s0_303 H) (by decide +kernel) (fun v8 h7 e1 D =>
              have T := fj_run_ok _ _ _ _ _ _ H.1 e1
              have H := shp_st H T
              j_ifeq (pc := 23) D rfl (fun q =>
                have D : fk_D 457 [(68, none, .bipush (-2), 2, 0, (-2), 0), (70, none, .ireturn, 1, 0, 0, 0)] := fq_of2 cd_457 ow_457 cl_457 rfl (pc := 68) (by decide +kernel)
                j_bp (pc := 68) D rfl fun D =>
                j_iret D rt_457) (fun q D =>
                j_aldn (pc := 26) D rfl rfl rfl fun D =>
                j_gfc (pc := 27) (a := 303) D rfl rfl (by decide) rfl (s0_303 H) rfl (sf_209_303 H) fun D =>
                j_ildn (pc := 30) D rfl rfl rfl fun D =>
                j_iv (pc := 31) (m := 367) (dd := 193) (a := [(0, x3)]) (rest := []) D rfl rfl rfl rfl rfl (by decide) (s0_306 H) (by decide +kernel) (fun v11 h10 e1 D =>
                  have T := fj_run_ok _ _ _ _ _ _ H.1 e1
                  have H := shp_st H T
                  j_ildn (pc := 34) D rfl rfl rfl fun D =>
                  j_ine (pc := 35) D rfl (fun q D =>
                    j_ild (pc := 38) D rfl rfl rfl fun D =>
                    j_i2l (pc := 40) D rfl fun D =>
                    j_c0 (pc := 41) (v := (1, 1)) D rfl rfl (by decide +kernel) fun D =>
                    j_ldc2 (pc := 42) D rfl fun D =>
                    j_is (pc := 45) (m := 3) (a := [(1, wI x4), (1, 1), (1, 24)]) (rest := []) D rfl rfl rfl rfl (fun v14 h13 e1 D =>
                      have T := fj_run_ok _ _ _ _ _ _ H.1 e1
                      have H := shp_st H T
                      j_ifeq (pc := 48) D rfl (fun q =>
                        have D : fk_D 457 [(68, none, .bipush (-2), 2, 0, (-2), 0), (70, none, .ireturn, 1, 0, 0, 0)] := fq_of2 cd_457 ow_457 cl_457 rfl (pc := 68) (by decide +kernel)
                        j_bp (pc := 68) D rfl fun D =>
                        j_iret D rt_457) (fun q D =>
                        j_aldn (pc := 51) D rfl rfl rfl fun D =>
                        j_gfc (pc := 52) (a := 303) D rfl rfl (by decide) rfl (s0_303 H) rfl (sf_209_303 H) fun D =>
                        j_ildn (pc := 55) D rfl rfl rfl fun D =>
                        j_ild (pc := 56) D rfl rfl rfl fun D =>
                        have D : fk_D 457 [(58, none, .iconst 1, 1, 0, 1, 0), (59, none, .isub, 1, 0, 0, 0), (60, none, .iconst 0, 1, 0, 0, 0), (61, none, .invokevirtual 168, 3, 3, 119, 1), (64, none, .iconst (-1), 1, 0, (-1), 0), (65, none, .if_icmp .ne 6, 3, 71, 0, 0), (68, none, .bipush (-2), 2, 0, (-2), 0), (70, none, .ireturn, 1, 0, 0, 0)] := fq_of2 cd_457 ow_457 cl_457 rfl (pc := 58) (by decide +kernel)
                        j_ic (pc := 58) D rfl fun D =>
                        j_isub (pc := 59) D rfl fun D =>
                        j_ic (pc := 60) D rfl fun D =>
                        j_iv (pc := 61) (m := 350) (dd := 119) (a := [(0, x3), (0, wI (x4 - 1)), (0, 0)]) (rest := []) D rfl rfl rfl rfl rfl (by decide) (s0_306 H) (by decide +kernel) (fun v17 h16 e1 D =>
                          have T := fj_run_ok _ _ _ _ _ _ H.1 e1
                          have H := shp_st H T
                          j_ic (pc := 64) D rfl fun D =>
                          j_ine (pc := 65) D rfl (fun q D =>
                            j_bp (pc := 68) D rfl fun D =>
                            j_iret D rt_457) (fun q =>
                            have D : fk_D 457 [(71, none, .aload_n 0, 1, 0, 0, 0), (72, none, .getfield 914, 3, 289, 100, 10), (75, none, .bipush 30, 2, 0, 30, 0), (77, none, .if_icmp .eq 16, 3, 93, 0, 0), (80, none, .aload_n 0, 1, 0, 0, 0), (81, none, .getfield 923, 3, 290, 100, 10), (84, none, .iload 4, 2, 0, 0, 0), (86, none, .iadd, 1, 0, 0, 0), (87, none, .sipush 400, 3, 0, 400, 0), (90, none, .if_icmp .le 6, 3, 96, 0, 0), (93, none, .bipush (-4), 2, 0, (-4), 0), (95, none, .ireturn, 1, 0, 0, 0)] := fq_of2 cd_457 ow_457 cl_457 rfl (pc := 71) (by decide +kernel)
                            j_aldn (pc := 71) D rfl rfl rfl fun D =>
                            j_gf (pc := 72) (a := 303) D rfl rfl (by decide) rfl (s0_303 H) rfl fun D =>
                            j_bp (pc := 75) D rfl fun D =>
                            j_ieq (pc := 77) D rfl (fun q =>
                              have D : fk_D 457 [(93, none, .bipush (-4), 2, 0, (-4), 0), (95, none, .ireturn, 1, 0, 0, 0)] := fq_of2 cd_457 ow_457 cl_457 rfl (pc := 93) (by decide +kernel)
                              j_bp (pc := 93) D rfl fun D =>
                              j_iret D rt_457) (fun q D =>
                              j_aldn (pc := 80) D rfl rfl rfl fun D =>
                              j_gf (pc := 81) (a := 303) D rfl rfl (by decide) rfl (s0_303 H) rfl fun D =>
                              j_ild (pc := 84) D rfl rfl rfl fun D =>
                              j_iadd (pc := 86) D rfl fun D =>
                              j_sp (pc := 87) D rfl fun D =>
                              j_ile (pc := 90) D rfl (fun q D =>
                                j_bp (pc := 93) D rfl fun D =>
                                j_iret D rt_457) (fun q =>
                                have D : fk_D 457 [(96, none, .aload_n 0, 1, 0, 0, 0), (97, none, .aload_n 0, 1, 0, 0, 0), (98, none, .getfield 615, 3, 239, 100, 10), (101, none, .iconst 0, 1, 0, 0, 0), (102, none, .invokevirtual 881, 3, 2, 170, 0), (105, none, .aload_n 0, 1, 0, 0, 0), (106, none, .aload_n 0, 1, 0, 0, 0), (107, none, .getfield 16, 3, 209, 100, 12), (110, none, .aload_n 0, 1, 0, 0, 0), (111, none, .getfield 615, 3, 239, 100, 10), (114, none, .iconst 1, 1, 0, 1, 0), (115, none, .iconst 0, 1, 0, 0, 0), (116, none, .invokevirtual 168, 3, 3, 119, 1), (119, none, .invokevirtual 1046, 3, 1, 190, 1), (122, none, .istore 5, 2, 0, 0, 0), (124, none, .iconst 0, 1, 0, 0, 0), (125, none, .istore 6, 2, 0, 0, 0)] := fq_of2 cd_457 ow_457 cl_457 rfl (pc := 96) (by decide +kernel)
                                j_aldn (pc := 96) D rfl rfl rfl fun D =>
                                j_aldn (pc := 97) D rfl rfl rfl fun D =>
                                j_gf (pc := 98) (a := 303) D rfl rfl (by decide) rfl (s0_303 H) rfl fun D =>
                                j_ic (pc := 101) D rfl fun D =>
                                j_ivv (pc := 102) (m := 307) (dd := 170) (a := [(0, h16 239 303 0), (0, 0)]) (rest := []) D rfl rfl rfl rfl rfl (by decide) (s0_303 H) (by decide +kernel) (fun h19 e1 D =>
                                  have T := fj_run_ok _ _ _ _ _ _ H.1 e1
                                  have H := shp_st H T
                                  j_aldn (pc := 105) D rfl rfl rfl fun D =>
                                  j_aldn (pc := 106) D rfl rfl rfl fun D =>
                                  j_gfc (pc := 107) (a := 303) D rfl rfl (by decide) rfl (s0_303 H) rfl (sf_209_303 H) fun D =>
                                  j_aldn (pc := 110) D rfl rfl rfl fun D =>
                                  j_gf (pc := 111) (a := 303) D rfl rfl (by decide) rfl (s0_303 H) rfl fun D =>
                                  j_ic (pc := 114) D rfl fun D =>
                                  j_ic (pc := 115) D rfl fun D =>
                                  j_iv (pc := 116) (m := 350) (dd := 119) (a := [(0, h19 239 303 0), (0, 1), (0, 0)]) (rest := [(4, 303)]) D rfl rfl rfl rfl rfl (by decide) (s0_306 H) (by decide +kernel) (fun v23 h22 e1 D =>
                                    have T := fj_run_ok _ _ _ _ _ _ H.1 e1
                                    have H := shp_st H T
                                    j_iv (pc := 119) (m := 453) (dd := 190) (a := [(0, v23)]) (rest := []) D rfl rfl rfl rfl rfl (by decide) (s0_303 H) (by decide +kernel) (fun v26 h25 e1 D =>
                                      have T := fj_run_ok _ _ _ _ _ _ H.1 e1
                                      have H := shp_st H T
                                      j_ist (pc := 122) (L' := [(5, (0, v26)), (0, (4, 303)), (1, (0, x1)), (2, (0, x2)), (3, (0, x3)), (4, (0, x4))]) D rfl nl_457 rfl rfl fun D =>
                                      j_ic (pc := 124) D rfl fun D =>
                                      j_ist (pc := 125) (L' := [(6, (0, 0)), (5, (0, v26)), (0, (4, 303)), (1, (0, x1)), (2, (0, x2)), (3, (0, x3)), (4, (0, x4))]) D rfl nl_457 rfl rfl fun D =>
                                      fk_jump cut_457_127 rfl rfl) (fun q27 h25 e1 =>
                                      j_tc_ (n := 107) (fk_at (cu := none) (by decide +kernel) rfl) (s := 105) (e := 199) (hp := 202) (ct := 312) (by decide +kernel) rfl (by decide +kernel) <|
                                      fk_jump cut_457_202 rfl rfl)) (fun q24 h22 e1 =>
                                    j_tc_ (n := 107) (fk_at (cu := none) (by decide +kernel) rfl) (s := 105) (e := 199) (hp := 202) (ct := 312) (by decide +kernel) rfl (by decide +kernel) <|
                                    fk_jump cut_457_202 rfl rfl)) (fun q21 h19 e1 =>
                                  j_tx (by decide +kernel)))))) (fun q18 h16 e1 =>
                          j_tx (by decide +kernel)))) (fun q15 h13 e1 =>
                      j_tx (by decide +kernel))) (fun q =>
                    have D : fk_D 457 [(68, none, .bipush (-2), 2, 0, (-2), 0), (70, none, .ireturn, 1, 0, 0, 0)] := fq_of2 cd_457 ow_457 cl_457 rfl (pc := 68) (by decide +kernel)
                    j_bp (pc := 68) D rfl fun D =>
                    j_iret D rt_457)) (fun q12 h10 e1 =>
                  j_tx (by decide +kernel)))) (fun q9 h7 e1 =>
              j_tx (by decide +kernel)))) (fun q6 h4 e1 =>
          j_tx (by decide +kernel)))) (fun q3 h1 e1 =>
      j_tx (by decide +kernel))
/-! 458 StatuteHouse.isMoneyTerm(I)Z -/
theorem cd_458 : fi_code 458 = prog_1_method_104_code := rfl
theorem hx_458 : ∀ pc, fi_hat 458 pc = none := fun pc => by unfold fi_hat; rw [show fi_hh 458 = [] from rfl]; rfl
theorem rt_458 : fi_ret 458 = some .boolean := rfl
theorem nl_458 : fi_nl 458 = 2 := rfl
theorem ow_458 : fi_ow 458 = 0 := rfl
theorem cl_458 : fj_cutT.getD 458 [] = [] := rfl
theorem m_458 (d : Nat) (x1 : Int) {h : fi_H} (H : Shp h) : fj_run (d + 1) 458 h [(4, 303), (0, x1)] =
  ca_ (fj_run d 71 h [(4, 303), (0, x1)]) 0
    (fun v2 h1 =>
    if v2 = 0 then
      some (.inl (some (0, 0)), h1)
    else
      if 0 ≤ x1 ∧ x1 < 40 then
      if h1 0 (h1 12 320 x1.toNat).toNat 0 = 124 then
      if h1 324 (h1 12 320 x1.toNat).toNat 0 = 4 then
        some (.inl (some (0, 1)), h1)
      else
        some (.inl (some (0, 0)), h1)
      else none
      else none)
    (fun q3 h1 => tx_ q3 h1) := by
  rw [fj_run_eq d (by decide) h [(4, 303), (0, x1)] (Nat.le_of_ble_eq_true (by rw [nl_458]; rfl))]
  show gG (fj_run d) 458 0 [(0, (4, 303)), (1, (0, x1))] [] h = _
  exact
    have D : fk_D 458 [(0, none, .aload_n 0, 1, 0, 0, 0), (1, none, .iload_n 1, 1, 0, 0, 0), (2, none, .invokevirtual 613, 3, 1, 155, 1), (5, none, .ifCond .eq 22, 3, 27, 0, 0), (8, none, .aload_n 0, 1, 0, 0, 0), (9, none, .getfield 255, 3, 214, 100, 12), (12, none, .iload_n 1, 1, 0, 0, 0), (13, none, .aaload, 1, 0, 0, 0), (14, none, .getfield 283, 3, 324, (-124), 12), (17, none, .getstatic 184, 3, 4, 4, 0), (20, none, .if_acmp .ne 7, 3, 27, 0, 0), (23, none, .iconst 1, 1, 0, 1, 0), (24, none, .goto 4, 3, 28, 0, 0)] := fq_of2 cd_458 ow_458 cl_458 rfl (pc := 0) (by decide +kernel)
    j_aldn (pc := 0) D rfl rfl rfl fun D =>
    j_ildn (pc := 1) D rfl rfl rfl fun D =>
    j_iv (pc := 2) (m := 71) (dd := 155) (a := [(0, x1)]) (rest := []) D rfl rfl rfl rfl rfl (by decide) (s0_303 H) (by decide +kernel) (fun v2 h1 e1 D =>
      have T := fj_run_ok _ _ _ _ _ _ H.1 e1
      have H := shp_st H T
      j_ifeq (pc := 5) D rfl (fun q =>
        have D : fk_D 458 [(27, none, .iconst 0, 1, 0, 0, 0), (28, none, .ireturn, 1, 0, 0, 0)] := fq_of2 cd_458 ow_458 cl_458 rfl (pc := 27) (by decide +kernel)
        j_ic (pc := 27) D rfl fun D =>
        j_zret D rt_458 (gy (by decide))) (fun q D =>
        j_aldn (pc := 8) D rfl rfl rfl fun D =>
        j_gfc (pc := 9) (a := 303) D rfl rfl (by decide) rfl (s0_303 H) rfl (sf_214_303 H) fun D =>
        j_ildn (pc := 12) D rfl rfl rfl fun D =>
        j_al (pc := 13) (a := 320) (e := 12) D rfl rfl rfl (by decide) (s0_320 H) (s1_320 H) ⟨rfl, rfl, rfl⟩ rfl gn fun qb4 D =>
        j_gfo (pc := 14) H.2.1 D rfl rfl rfl rfl fun kc5 D =>
        j_gs (pc := 17) D rfl fun D =>
        j_ane (pc := 20) D rfl (fun q D =>
          j_ic (pc := 23) D rfl fun D =>
          j_goto (pc := 24) D rfl <|
          have D : fk_D 458 [(28, none, .ireturn, 1, 0, 0, 0)] := fq_of2 cd_458 ow_458 cl_458 rfl (pc := 28) (by decide +kernel)
          j_zret D rt_458 (gy (by decide))) (fun q =>
          have D : fk_D 458 [(27, none, .iconst 0, 1, 0, 0, 0), (28, none, .ireturn, 1, 0, 0, 0)] := fq_of2 cd_458 ow_458 cl_458 rfl (pc := 27) (by decide +kernel)
          j_ic (pc := 27) D rfl fun D =>
          j_zret D rt_458 (gy (by decide))))) (fun q3 h1 e1 =>
      j_tx (hx_458 _))
/-! 459 StatuteHouse.amountOf(III)J -/
theorem cd_459 : fi_code 459 = prog_1_method_105_code := rfl
theorem hx_459 : ∀ pc, fi_hat 459 pc = none := fun pc => by unfold fi_hat; rw [show fi_hh 459 = [] from rfl]; rfl
theorem rt_459 : fi_ret 459 = some .long := rfl
theorem nl_459 : fi_nl 459 = 4 := rfl
theorem ow_459 : fi_ow 459 = 0 := rfl
theorem cl_459 : fj_cutT.getD 459 [] = [] := rfl
theorem m_459 (d : Nat) (x1 x2 x3 : Int) {h : fi_H} (H : Shp h) : fj_run (d + 1) 459 h [(4, 303), (0, x1), (0, x2), (0, x3)] =
  cv_ (fj_run d 308 h [(4, 303), (4, h 12 354 0), (0, x1), (0, x3)])
    (fun h1 =>
    cv_ (fj_run d 309 h1 [(4, 303), (0, x2), (0, 0)])
      (fun h4 =>
      some (.inl (some (1, h4 11 315 0)), h4))
      (fun q6 h4 => tx_ q6 h4))
    (fun q3 h1 => tx_ q3 h1) := by
  rw [fj_run_eq d (by decide) h [(4, 303), (0, x1), (0, x2), (0, x3)] (Nat.le_of_ble_eq_true (by rw [nl_459]; rfl))]
  show gG (fj_run d) 459 0 [(0, (4, 303)), (1, (0, x1)), (2, (0, x2)), (3, (0, x3))] [] h = _
  exact
    have D : fk_D 459 [(0, none, .aload_n 0, 1, 0, 0, 0), (1, none, .aload_n 0, 1, 0, 0, 0), (2, none, .getfield 529, 3, 227, 100, 12), (5, none, .iconst 0, 1, 0, 0, 0), (6, none, .aaload, 1, 0, 0, 0), (7, none, .iload_n 1, 1, 0, 0, 0), (8, none, .iload_n 3, 1, 0, 0, 0), (9, none, .invokevirtual 884, 3, 3, 171, 0), (12, none, .aload_n 0, 1, 0, 0, 0), (13, none, .iload_n 2, 1, 0, 0, 0), (14, none, .iconst 0, 1, 0, 0, 0), (15, none, .invokevirtual 888, 3, 2, 172, 0), (18, none, .aload_n 0, 1, 0, 0, 0), (19, none, .getfield 113, 3, 213, 100, 12), (22, none, .getfield 66, 3, 119, 119, 12), (25, none, .iconst 0, 1, 0, 0, 0), (26, none, .laload, 1, 0, 0, 0), (27, none, .lreturn, 1, 0, 0, 0)] := fq_of2 cd_459 ow_459 cl_459 rfl (pc := 0) (by decide +kernel)
    j_aldn (pc := 0) D rfl rfl rfl fun D =>
    j_aldn (pc := 1) D rfl rfl rfl fun D =>
    j_gfc (pc := 2) (a := 303) D rfl rfl (by decide) rfl (s0_303 H) rfl (sf_227_303 H) fun D =>
    j_ic (pc := 5) D rfl fun D =>
    j_al (pc := 6) (a := 354) (e := 12) D rfl rfl rfl (by decide) (s0_354 H) (s1_354 H) ⟨rfl, rfl, rfl⟩ rfl (gy (by decide)) fun q D =>
    j_ildn (pc := 7) D rfl rfl rfl fun D =>
    j_ildn (pc := 8) D rfl rfl rfl fun D =>
    j_ivv (pc := 9) (m := 308) (dd := 171) (a := [(4, h 12 354 0), (0, x1), (0, x3)]) (rest := []) D rfl rfl rfl rfl rfl (by decide) (s0_303 H) (by decide +kernel) (fun h1 e1 D =>
      have T := fj_run_ok _ _ _ _ _ _ H.1 e1
      have H := shp_st H T
      j_aldn (pc := 12) D rfl rfl rfl fun D =>
      j_ildn (pc := 13) D rfl rfl rfl fun D =>
      j_ic (pc := 14) D rfl fun D =>
      j_ivv (pc := 15) (m := 309) (dd := 172) (a := [(0, x2), (0, 0)]) (rest := []) D rfl rfl rfl rfl rfl (by decide) (s0_303 H) (by decide +kernel) (fun h4 e1 D =>
        have T := fj_run_ok _ _ _ _ _ _ H.1 e1
        have H := shp_st H T
        j_aldn (pc := 18) D rfl rfl rfl fun D =>
        j_gfc (pc := 19) (a := 303) D rfl rfl (by decide) rfl (s0_303 H) rfl (sf_213_303 H) fun D =>
        j_gfc (pc := 22) (a := 309) D rfl rfl (by decide) rfl (s0_309 H) rfl (sf_119_309 H) fun D =>
        j_ic (pc := 25) D rfl fun D =>
        j_al (pc := 26) (a := 315) (e := 11) D rfl rfl rfl (by decide) (s0_315 H) (s1_315 H) ⟨rfl, rfl, rfl⟩ rfl (gy (by decide)) fun q D =>
        j_lret D rt_459) (fun q6 h4 e1 =>
        j_tx (hx_459 _))) (fun q3 h1 e1 =>
      j_tx (hx_459 _))
/-! 460 StatuteHouse$Decision.<init>(IIIIII)V -/
theorem cd_460 : fi_code 460 = prog_6_method_1_code := rfl
theorem hx_460 : ∀ pc, fi_hat 460 pc = none := fun pc => by unfold fi_hat; rw [show fi_hh 460 = [] from rfl]; rfl
theorem rt_460 : fi_ret 460 = none := rfl
theorem nl_460 : fi_nl 460 = 7 := rfl
theorem ow_460 : fi_ow 460 = 4 := rfl
theorem cl_460 : fj_cutT.getD 460 [] = [] := rfl
theorem m_460 (d : Nat) (x0 x1 x2 x3 x4 x5 x6 : Int) {h : fi_H} (H : Shp h) (hk : h 0 x0.toNat 0 = 104) : fj_run (d + 1) 460 h [(4, x0), (0, x1), (0, x2), (0, x3), (0, x4), (0, x5), (0, x6)] =
  cv_ (fj_run d 1009 h [(4, x0)])
    (fun h1 =>
    if 302 < x0 then
    if h1 375 x0.toNat 0 = 0 then
    lt_ (fi_upd h1 375 x0.toNat 0 x1) fun h4 =>
    if 302 < x0 then
    if h4 376 x0.toNat 0 = 0 then
    lt_ (fi_upd h4 376 x0.toNat 0 x2) fun h5 =>
    if 302 < x0 then
    if h5 377 x0.toNat 0 = 0 then
    lt_ (fi_upd h5 377 x0.toNat 0 x3) fun h6 =>
    if 302 < x0 then
    if h6 378 x0.toNat 0 = 0 then
    lt_ (fi_upd h6 378 x0.toNat 0 x5) fun h7 =>
    if 302 < x0 then
    if h7 379 x0.toNat 0 = 0 then
    lt_ (fi_upd h7 379 x0.toNat 0 x6) fun h8 =>
    if 0 ≤ x4 ∧ x4 < 64 then
    nw_ h8 11 x4 x4 fun r9 h10 =>
    if 302 < x0 then
    if h10 381 x0.toNat 0 = 0 then
    lt_ (fi_upd h10 381 x0.toNat 0 r9) fun h11 =>
    if 0 ≤ x4 ∧ x4 < 64 then
    nw_ h11 5 x4 x4 fun r12 h13 =>
    if 302 < x0 then
    if h13 382 x0.toNat 0 = 0 then
    lt_ (fi_upd h13 382 x0.toNat 0 r12) fun h14 =>
    some (.inl none, h14)
    else none
    else none
    else none
    else none
    else none
    else none
    else none
    else none
    else none
    else none
    else none
    else none
    else none
    else none
    else none
    else none)
    (fun q3 h1 => tx_ q3 h1) := by
  rw [fj_run_eq d (by decide) h [(4, x0), (0, x1), (0, x2), (0, x3), (0, x4), (0, x5), (0, x6)] (Nat.le_of_ble_eq_true (by rw [nl_460]; rfl))]
  show gG (fj_run d) 460 0 [(0, (4, x0)), (1, (0, x1)), (2, (0, x2)), (3, (0, x3)), (4, (0, x4)), (5, (0, x5)), (6, (0, x6))] [] h = _
  exact
    have D : fk_D 460 [(0, none, .aload_n 0, 1, 0, 0, 0), (1, none, .invokespecial 1, 3, 0, 1009, 0), (4, none, .aload_n 0, 1, 0, 0, 0), (5, none, .iload_n 1, 1, 0, 0, 0), (6, none, .putfield 7, 3, 375, 104, 110), (9, none, .aload_n 0, 1, 0, 0, 0), (10, none, .iload_n 2, 1, 0, 0, 0), (11, none, .putfield 13, 3, 376, 104, 110), (14, none, .aload_n 0, 1, 0, 0, 0), (15, none, .iload_n 3, 1, 0, 0, 0), (16, none, .putfield 16, 3, 377, 104, 110), (19, none, .aload_n 0, 1, 0, 0, 0), (20, none, .iload 5, 2, 0, 0, 0), (22, none, .putfield 19, 3, 378, 104, 110), (25, none, .aload_n 0, 1, 0, 0, 0), (26, none, .iload 6, 2, 0, 0, 0), (28, none, .putfield 22, 3, 379, 104, 110), (31, none, .aload_n 0, 1, 0, 0, 0), (32, none, .iload 4, 2, 0, 0, 0), (34, none, .newarray .long, 2, 0, 0, 0)] := fq_of2 cd_460 ow_460 cl_460 rfl (pc := 0) (by decide +kernel)
    j_aldn (pc := 0) D rfl rfl rfl fun D =>
    j_spv (pc := 1) (m := 1009) (a := []) (rest := []) D rfl rfl rfl rfl (by rw [show h 0 x0.toNat 0 = 104 from hk]; decide) (nz_cls H.2.1 hk (by decide)) (fun h1 e1 D =>
      have T := fj_run_ok _ _ _ _ _ _ H.1 e1
      have hk := cls_st H.1 T.2 hk (by decide)
      have H := shp_st H T
      j_aldn (pc := 4) D rfl rfl rfl fun D =>
      j_ildn (pc := 5) D rfl rfl rfl fun D =>
      j_pfF (pc := 6) (a := x0.toNat) (ty := 10) D rfl rfl rfl hk ⟨rfl, rfl⟩ rfl gn (gy rfl) gn fun h4 eh4 S D =>
      have T := fj_hs_ok H.1 S
      have hk := cls_st H.1 T.2 hk (by decide)
      have H := shp_st H T
      j_aldn (pc := 9) D rfl rfl rfl fun D =>
      j_ildn (pc := 10) D rfl rfl rfl fun D =>
      j_pfF (pc := 11) (a := x0.toNat) (ty := 10) D rfl rfl rfl hk ⟨rfl, rfl⟩ rfl gn (gy rfl) gn fun h5 eh5 S D =>
      have T := fj_hs_ok H.1 S
      have hk := cls_st H.1 T.2 hk (by decide)
      have H := shp_st H T
      j_aldn (pc := 14) D rfl rfl rfl fun D =>
      j_ildn (pc := 15) D rfl rfl rfl fun D =>
      j_pfF (pc := 16) (a := x0.toNat) (ty := 10) D rfl rfl rfl hk ⟨rfl, rfl⟩ rfl gn (gy rfl) gn fun h6 eh6 S D =>
      have T := fj_hs_ok H.1 S
      have hk := cls_st H.1 T.2 hk (by decide)
      have H := shp_st H T
      j_aldn (pc := 19) D rfl rfl rfl fun D =>
      j_ild (pc := 20) D rfl rfl rfl fun D =>
      j_pfF (pc := 22) (a := x0.toNat) (ty := 10) D rfl rfl rfl hk ⟨rfl, rfl⟩ rfl gn (gy rfl) gn fun h7 eh7 S D =>
      have T := fj_hs_ok H.1 S
      have hk := cls_st H.1 T.2 hk (by decide)
      have H := shp_st H T
      j_aldn (pc := 25) D rfl rfl rfl fun D =>
      j_ild (pc := 26) D rfl rfl rfl fun D =>
      j_pfF (pc := 28) (a := x0.toNat) (ty := 10) D rfl rfl rfl hk ⟨rfl, rfl⟩ rfl gn (gy rfl) gn fun h8 eh8 S D =>
      have T := fj_hs_ok H.1 S
      have hk := cls_st H.1 T.2 hk (by decide)
      have H := shp_st H T
      j_aldn (pc := 31) D rfl rfl rfl fun D =>
      j_ild (pc := 32) D rfl rfl rfl fun D =>
      j_na (pc := 34) (k := 11) (N := 64) D rfl rfl rfl gn fun r9 h10 er eh10 S q D =>
      have gt_r9 := nw_gt H.1 er
      have kc_r9 := nw_cls H.1 er eh10
      have kl_r9 := nw_len H.1 er eh10
      have T := fj_hs_ok H.1 S
      have hk := cls_st H.1 T.2 hk (by decide)
      have H := shp_st H T
      have D : fk_D 460 [(36, none, .putfield 25, 3, 381, 104, 112), (39, none, .aload_n 0, 1, 0, 0, 0), (40, none, .iload 4, 2, 0, 0, 0), (42, none, .newarray .char, 2, 0, 0, 0), (44, none, .putfield 29, 3, 382, 104, 112), (47, none, .return_, 1, 0, 0, 0)] := fq_of2 cd_460 ow_460 cl_460 rfl (pc := 36) (by decide +kernel)
      j_pfF (pc := 36) (a := x0.toNat) (ty := 12) D rfl rfl rfl hk ⟨rfl, rfl⟩ rfl gn (gy rfl) gn fun h11 eh11 S D =>
      have T := fj_hs_ok H.1 S
      have hk := cls_st H.1 T.2 hk (by decide)
      have H := shp_st H T
      j_aldn (pc := 39) D rfl rfl rfl fun D =>
      j_ild (pc := 40) D rfl rfl rfl fun D =>
      j_na (pc := 42) (k := 5) (N := 64) D rfl rfl rfl gn fun r12 h13 er eh13 S q D =>
      have gt_r12 := nw_gt H.1 er
      have kc_r12 := nw_cls H.1 er eh13
      have kl_r12 := nw_len H.1 er eh13
      have T := fj_hs_ok H.1 S
      have hk := cls_st H.1 T.2 hk (by decide)
      have H := shp_st H T
      j_pfF (pc := 44) (a := x0.toNat) (ty := 12) D rfl rfl rfl hk ⟨rfl, rfl⟩ rfl gn (gy rfl) gn fun h14 eh14 S D =>
      have T := fj_hs_ok H.1 S
      have hk := cls_st H.1 T.2 hk (by decide)
      have H := shp_st H T
      j_vret D rt_460) (fun q3 h1 e1 =>
      j_tx (hx_460 _))
/-! 461 StatuteHouse.object(I)I -/
theorem cd_461 : fi_code 461 = prog_1_method_108_code := rfl
theorem hx_461 : ∀ pc, fi_hat 461 pc = none := fun pc => by unfold fi_hat; rw [show fi_hh 461 = [] from rfl]; rfl
theorem rt_461 : fi_ret 461 = some .int := rfl
theorem nl_461 : fi_nl 461 = 2 := rfl
theorem ow_461 : fi_ow 461 = 0 := rfl
theorem cl_461 : fj_cutT.getD 461 [] = [] := rfl
theorem m_461 (d : Nat) (x1 : Int) {h : fi_H} (H : Shp h) : fj_run (d + 1) 461 h [(4, 303), (0, x1)] =
  ca_ (fj_run d 462 h [(4, 303), (0, x1)]) 0
    (fun v2 h1 =>
    if v2 = 0 then
      some (.inl (some (0, (-1))), h1)
    else
      if 0 ≤ x1 ∧ x1 < 30 then
      if h1 0 (h1 12 453 x1.toNat).toNat 0 = 104 then
      if h1 380 (h1 12 453 x1.toNat).toNat 0 = 0 then
        if 302 < h1 12 453 x1.toNat then
        lt_ (fi_upd h1 380 (h1 12 453 x1.toNat).toNat 0 1) fun h6 =>
        some (.inl (some (0, 1)), h6)
        else none
      else
        some (.inl (some (0, (-3))), h1)
      else none
      else none)
    (fun q3 h1 => tx_ q3 h1) := by
  rw [fj_run_eq d (by decide) h [(4, 303), (0, x1)] (Nat.le_of_ble_eq_true (by rw [nl_461]; rfl))]
  show gG (fj_run d) 461 0 [(0, (4, 303)), (1, (0, x1))] [] h = _
  exact
    have D : fk_D 461 [(0, none, .aload_n 0, 1, 0, 0, 0), (1, none, .iload_n 1, 1, 0, 0, 0), (2, none, .invokevirtual 1071, 3, 1, 195, 1), (5, none, .ifCond .ne 5, 3, 10, 0, 0), (8, none, .iconst (-1), 1, 0, (-1), 0), (9, none, .ireturn, 1, 0, 0, 0)] := fq_of2 cd_461 ow_461 cl_461 rfl (pc := 0) (by decide +kernel)
    j_aldn (pc := 0) D rfl rfl rfl fun D =>
    j_ildn (pc := 1) D rfl rfl rfl fun D =>
    j_iv (pc := 2) (m := 462) (dd := 195) (a := [(0, x1)]) (rest := []) D rfl rfl rfl rfl rfl (by decide) (s0_303 H) (by decide +kernel) (fun v2 h1 e1 D =>
      have T := fj_run_ok _ _ _ _ _ _ H.1 e1
      have H := shp_st H T
      j_ifne (pc := 5) D rfl (fun q D =>
        j_ic (pc := 8) D rfl fun D =>
        j_iret D rt_461) (fun q =>
        have D : fk_D 461 [(10, none, .aload_n 0, 1, 0, 0, 0), (11, none, .getfield 703, 3, 288, 100, 12), (14, none, .iload_n 1, 1, 0, 0, 0), (15, none, .aaload, 1, 0, 0, 0), (16, none, .getfield 917, 3, 380, (-104), 10), (19, none, .ifCond .eq 6, 3, 25, 0, 0), (22, none, .bipush (-3), 2, 0, (-3), 0), (24, none, .ireturn, 1, 0, 0, 0)] := fq_of2 cd_461 ow_461 cl_461 rfl (pc := 10) (by decide +kernel)
        j_aldn (pc := 10) D rfl rfl rfl fun D =>
        j_gfc (pc := 11) (a := 303) D rfl rfl (by decide) rfl (s0_303 H) rfl (sf_288_303 H) fun D =>
        j_ildn (pc := 14) D rfl rfl rfl fun D =>
        j_al (pc := 15) (a := 453) (e := 12) D rfl rfl rfl (by decide) (s0_453 H) (s1_453 H) ⟨rfl, rfl, rfl⟩ rfl gn fun qb4 D =>
        j_gfo (pc := 16) H.2.1 D rfl rfl rfl rfl fun kc5 D =>
        j_ifeq (pc := 19) D rfl (fun q =>
          have D : fk_D 461 [(25, none, .aload_n 0, 1, 0, 0, 0), (26, none, .getfield 703, 3, 288, 100, 12), (29, none, .iload_n 1, 1, 0, 0, 0), (30, none, .aaload, 1, 0, 0, 0), (31, none, .iconst 1, 1, 0, 1, 0), (32, none, .putfield 917, 3, 380, 104, 10), (35, none, .iconst 1, 1, 0, 1, 0), (36, none, .ireturn, 1, 0, 0, 0)] := fq_of2 cd_461 ow_461 cl_461 rfl (pc := 25) (by decide +kernel)
          j_aldn (pc := 25) D rfl rfl rfl fun D =>
          j_gfc (pc := 26) (a := 303) D rfl rfl (by decide) rfl (s0_303 H) rfl (sf_288_303 H) fun D =>
          j_ildn (pc := 29) D rfl rfl rfl fun D =>
          j_al (pc := 30) (a := 453) (e := 12) D rfl rfl rfl (by decide) (s0_453 H) (s1_453 H) ⟨rfl, rfl, rfl⟩ rfl (gy qb4) fun q D =>
          j_ic (pc := 31) D rfl fun D =>
          j_pf (pc := 32) (a := (h1 12 453 x1.toNat).toNat) D rfl rfl rfl kc5 rfl rfl gn (gy rfl) fun h6 eh6 S D =>
          have T := fj_hs_ok H.1 S
          have H := shp_st H T
          j_ic (pc := 35) D rfl fun D =>
          j_iret D rt_461) (fun q D =>
          j_bp (pc := 22) D rfl fun D =>
          j_iret D rt_461))) (fun q3 h1 e1 =>
      j_tx (hx_461 _))
/-! 462 StatuteHouse.isDecision(I)Z -/
theorem cd_462 : fi_code 462 = prog_1_method_107_code := rfl
theorem hx_462 : ∀ pc, fi_hat 462 pc = none := fun pc => by unfold fi_hat; rw [show fi_hh 462 = [] from rfl]; rfl
theorem rt_462 : fi_ret 462 = some .boolean := rfl
theorem nl_462 : fi_nl 462 = 2 := rfl
theorem ow_462 : fi_ow 462 = 0 := rfl
theorem cl_462 : fj_cutT.getD 462 [] = [] := rfl
theorem m_462 (d : Nat) (x1 : Int) {h : fi_H} (H : Shp h) : fj_run (d + 1) 462 h [(4, 303), (0, x1)] =
  ca_ (fj_run d 3 h [(1, wI x1), (1, 0), (1, wJ ((wI (h 289 303 0)) - 1))]) 0
    (fun v2 h1 =>
    if v2 = 0 ∨ v2 = 1 then some (.inl (some (0, v2)), h1) else none)
    (fun q3 h1 => tx_ q3 h1) := by
  rw [fj_run_eq d (by decide) h [(4, 303), (0, x1)] (Nat.le_of_ble_eq_true (by rw [nl_462]; rfl))]
  show gG (fj_run d) 462 0 [(0, (4, 303)), (1, (0, x1))] [] h = _
  exact
    have D : fk_D 462 [(0, none, .iload_n 1, 1, 0, 0, 0), (1, none, .i2l, 1, 0, 0, 0), (2, none, .lconst 0, 1, 0, 0, 0), (3, none, .aload_n 0, 1, 0, 0, 0), (4, none, .getfield 914, 3, 289, 100, 10), (7, none, .i2l, 1, 0, 0, 0), (8, none, .lconst 1, 1, 0, 0, 0), (9, none, .lsub, 1, 0, 0, 0), (10, none, .invokestatic 46, 3, 3, 3, 1), (13, none, .ireturn, 1, 0, 0, 0)] := fq_of2 cd_462 ow_462 cl_462 rfl (pc := 0) (by decide +kernel)
    j_ildn (pc := 0) D rfl rfl rfl fun D =>
    j_i2l (pc := 1) D rfl fun D =>
    j_c0 (pc := 2) (v := (1, 0)) D rfl rfl (by decide +kernel) fun D =>
    j_aldn (pc := 3) D rfl rfl rfl fun D =>
    j_gf (pc := 4) (a := 303) D rfl rfl (by decide) rfl (s0_303 H) rfl fun D =>
    j_i2l (pc := 7) D rfl fun D =>
    j_c0 (pc := 8) (v := (1, 1)) D rfl rfl (by decide +kernel) fun D =>
    j_lsub (pc := 9) D rfl fun D =>
    j_is (pc := 10) (m := 3) (a := [(1, wI x1), (1, 0), (1, wJ ((wI (h 289 303 0)) - 1))]) (rest := []) D rfl rfl rfl rfl (fun v2 h1 e1 D =>
      have T := fj_run_ok _ _ _ _ _ _ H.1 e1
      have H := shp_st H T
      j_zret D rt_462 gn) (fun q3 h1 e1 =>
      j_tx (hx_462 _))
/-! 463 StatuteHouse.answer(IZ)I -/
theorem cd_463 : fi_code 463 = prog_1_method_110_code := rfl
theorem rt_463 : fi_ret 463 = some .int := rfl
theorem nl_463 : fi_nl 463 = 6 := rfl
theorem ow_463 : fi_ow 463 = 0 := rfl
theorem cl_463 : fj_cutT.getD 463 [] = [(43, [3, 4]), (46, [])] := rfl
theorem cut_463_43 : fj_cut 463 43 = some [3, 4] := by decide +kernel
noncomputable def c_463_43 (d : Nat) (x3 x4 : Int) (h : fi_H) : fk_R := gG (fj_run d) 463 43 [(3, (4, x3)), (4, (0, x4))] [] h
theorem cut_463_46 : fj_cut 463 46 = some [] := by decide +kernel
noncomputable def c_463_46 (d : Nat) (s0 : Int) (h : fi_H) : fk_R := gG (fj_run d) 463 46 [] [(4, s0)] h
theorem e_463_43 (d : Nat) (x3 x4 : Int) {h : fi_H} (H : Shp h) : c_463_43 d x3 x4 h =
  if x4 = (-4) then
    some (.inl (some (0, x4)), h)
  else
    if h 0 x3.toNat 0 = 104 then
    if 302 < x3 then
    lt_ (fi_upd h 380 x3.toNat 0 2) fun h1 =>
    some (.inl (some (0, x4)), h1)
    else none
    else none := by
  unfold c_463_43
  exact
    have D : fk_D 463 [(43, some [3, 4], .goto 14, 3, 57, 0, 0)] := fq_of2 cd_463 ow_463 cl_463 rfl (pc := 43) (by decide +kernel)
    j_goto (pc := 43) D rfl <|
    have D : fk_D 463 [(57, none, .iload 4, 2, 0, 0, 0), (59, none, .bipush (-4), 2, 0, (-4), 0), (61, none, .if_icmp .eq 8, 3, 69, 0, 0), (64, none, .aload_n 3, 1, 0, 0, 0), (65, none, .iconst 2, 1, 0, 2, 0), (66, none, .putfield 917, 3, 380, (-104), 10), (69, none, .iload 4, 2, 0, 0, 0), (71, none, .ireturn, 1, 0, 0, 0)] := fq_of2 cd_463 ow_463 cl_463 rfl (pc := 57) (by decide +kernel)
    j_ild (pc := 57) D rfl rfl rfl fun D =>
    j_bp (pc := 59) D rfl fun D =>
    j_ieq (pc := 61) D rfl (fun q =>
      have D : fk_D 463 [(69, none, .iload 4, 2, 0, 0, 0), (71, none, .ireturn, 1, 0, 0, 0)] := fq_of2 cd_463 ow_463 cl_463 rfl (pc := 69) (by decide +kernel)
      j_ild (pc := 69) D rfl rfl rfl fun D =>
      j_iret D rt_463) (fun q D =>
      j_aldn (pc := 64) D rfl rfl rfl fun D =>
      j_ic (pc := 65) D rfl fun D =>
      j_pfo (pc := 66) D rfl rfl rfl rfl rfl gn gn (gy rfl) fun h1 eh1 S kc2 D =>
      have T := fj_hs_ok H.1 S
      have kc2 := cls_st H.1 T.2 kc2 (by decide)
      have H := shp_st H T
      j_ild (pc := 69) D rfl rfl rfl fun D =>
      j_iret D rt_463)
theorem e_463_46 (d : Nat) (s0 : Int) {h : fi_H} (H : Shp h) : c_463_46 d s0 h =
  if h 0 s0.toNat 0 = 107 then
  some (.inl (some (0, wI ((-10) - (h 110 s0.toNat 0)))), h)
  else none := by
  unfold c_463_46
  exact
    have D : fk_D 463 [(46, some [], .astore 5, 2, 0, 0, 0), (48, none, .bipush (-10), 2, 0, (-10), 0), (50, none, .aload 5, 2, 0, 0, 0), (52, none, .getfield 311, 3, 110, (-107), 10), (55, none, .isub, 1, 0, 0, 0), (56, none, .ireturn, 1, 0, 0, 0)] := fq_of2 cd_463 ow_463 cl_463 rfl (pc := 46) (by decide +kernel)
    j_ast (pc := 46) (L' := [(5, (4, s0))]) D rfl nl_463 rfl rfl fun D =>
    j_bp (pc := 48) D rfl fun D =>
    j_ald (pc := 50) D rfl rfl rfl fun D =>
    j_gfo (pc := 52) H.2.1 D rfl rfl rfl rfl fun kc1 D =>
    j_isub (pc := 55) D rfl fun D =>
    j_iret D rt_463
theorem m_463 (d : Nat) (x1 x2 : Int) {h : fi_H} (H : Shp h) : fj_run (d + 1) 463 h [(4, 303), (0, x1), (0, x2)] =
  ca_ (fj_run d 462 h [(4, 303), (0, x1)]) 0
    (fun v2 h1 =>
    if v2 = 0 then
      some (.inl (some (0, (-1))), h1)
    else
      if 0 ≤ x1 ∧ x1 < 30 then
      if h1 0 (h1 12 453 x1.toNat).toNat 0 = 104 then
      if h1 380 (h1 12 453 x1.toNat).toNat 0 = 1 then
        if x2 = 0 then
          c_463_43 d (h1 12 453 x1.toNat) 0 h1
        else
          ca_ (fj_run d 464 h1 [(4, 303), (0, x1), (0, 1)]) 0
            (fun v7 h6 =>
            c_463_43 d (h1 12 453 x1.toNat) v7 h6)
            (fun q8 h6 => tc_ 107 q8 h6 (c_463_46 d (q8 : Int) h6))
      else
        some (.inl (some (0, (-3))), h1)
      else none
      else none)
    (fun q3 h1 => tx_ q3 h1) := by
  rw [fj_run_eq d (by decide) h [(4, 303), (0, x1), (0, x2)] (Nat.le_of_ble_eq_true (by rw [nl_463]; rfl))]
  show gG (fj_run d) 463 0 [(0, (4, 303)), (1, (0, x1)), (2, (0, x2))] [] h = _
  exact
    have D : fk_D 463 [(0, none, .aload_n 0, 1, 0, 0, 0), (1, none, .iload_n 1, 1, 0, 0, 0), (2, none, .invokevirtual 1071, 3, 1, 195, 1), (5, none, .ifCond .ne 5, 3, 10, 0, 0), (8, none, .iconst (-1), 1, 0, (-1), 0), (9, none, .ireturn, 1, 0, 0, 0)] := fq_of2 cd_463 ow_463 cl_463 rfl (pc := 0) (by decide +kernel)
    j_aldn (pc := 0) D rfl rfl rfl fun D =>
    j_ildn (pc := 1) D rfl rfl rfl fun D =>
    j_iv (pc := 2) (m := 462) (dd := 195) (a := [(0, x1)]) (rest := []) D rfl rfl rfl rfl rfl (by decide) (s0_303 H) (by decide +kernel) (fun v2 h1 e1 D =>
      have T := fj_run_ok _ _ _ _ _ _ H.1 e1
      have H := shp_st H T
      j_ifne (pc := 5) D rfl (fun q D =>
        j_ic (pc := 8) D rfl fun D =>
        j_iret D rt_463) (fun q =>
        have D : fk_D 463 [(10, none, .aload_n 0, 1, 0, 0, 0), (11, none, .getfield 703, 3, 288, 100, 12), (14, none, .iload_n 1, 1, 0, 0, 0), (15, none, .aaload, 1, 0, 0, 0), (16, none, .astore_n 3, 1, 0, 0, 0), (17, none, .aload_n 3, 1, 0, 0, 0), (18, none, .getfield 917, 3, 380, (-104), 10), (21, none, .iconst 1, 1, 0, 1, 0), (22, none, .if_icmp .eq 6, 3, 28, 0, 0), (25, none, .bipush (-3), 2, 0, (-3), 0), (27, none, .ireturn, 1, 0, 0, 0)] := fq_of2 cd_463 ow_463 cl_463 rfl (pc := 10) (by decide +kernel)
        j_aldn (pc := 10) D rfl rfl rfl fun D =>
        j_gfc (pc := 11) (a := 303) D rfl rfl (by decide) rfl (s0_303 H) rfl (sf_288_303 H) fun D =>
        j_ildn (pc := 14) D rfl rfl rfl fun D =>
        j_al (pc := 15) (a := 453) (e := 12) D rfl rfl rfl (by decide) (s0_453 H) (s1_453 H) ⟨rfl, rfl, rfl⟩ rfl gn fun qb4 D =>
        j_astn (pc := 16) (L' := [(3, (4, h1 12 453 x1.toNat)), (0, (4, 303)), (1, (0, x1)), (2, (0, x2))]) D rfl nl_463 rfl rfl fun D =>
        j_aldn (pc := 17) D rfl rfl rfl fun D =>
        j_gfo (pc := 18) H.2.1 D rfl rfl rfl rfl fun kc5 D =>
        j_ic (pc := 21) D rfl fun D =>
        j_ieq (pc := 22) D rfl (fun q =>
          have D : fk_D 463 [(28, none, .iconst 0, 1, 0, 0, 0), (29, none, .istore 4, 2, 0, 0, 0), (31, none, .iload_n 2, 1, 0, 0, 0), (32, none, .ifCond .eq 11, 3, 43, 0, 0), (35, none, .aload_n 0, 1, 0, 0, 0), (36, none, .iload_n 1, 1, 0, 0, 0), (37, none, .iconst 1, 1, 0, 1, 0), (38, none, .invokevirtual 1080, 3, 2, 197, 1), (41, none, .istore 4, 2, 0, 0, 0)] := fq_of2 cd_463 ow_463 cl_463 rfl (pc := 28) (by decide +kernel)
          j_ic (pc := 28) D rfl fun D =>
          j_ist (pc := 29) (L' := [(4, (0, 0)), (3, (4, h1 12 453 x1.toNat)), (0, (4, 303)), (1, (0, x1)), (2, (0, x2))]) D rfl nl_463 rfl rfl fun D =>
          j_ildn (pc := 31) D rfl rfl rfl fun D =>
          j_ifeq (pc := 32) D rfl (fun q =>
            fk_jump cut_463_43 rfl rfl) (fun q D =>
            j_aldn (pc := 35) D rfl rfl rfl fun D =>
            j_ildn (pc := 36) D rfl rfl rfl fun D =>
            j_ic (pc := 37) D rfl fun D =>
            j_iv (pc := 38) (m := 464) (dd := 197) (a := [(0, x1), (0, 1)]) (rest := []) D rfl rfl rfl rfl rfl (by decide) (s0_303 H) (by decide +kernel) (fun v7 h6 e1 D =>
              have T := fj_run_ok _ _ _ _ _ _ H.1 e1
              have kc5 := cls_st H.1 T.2 kc5 (by decide)
              have H := shp_st H T
              j_ist (pc := 41) (L' := [(4, (0, v7)), (3, (4, h1 12 453 x1.toNat)), (0, (4, 303)), (1, (0, x1)), (2, (0, x2))]) D rfl nl_463 rfl rfl fun D =>
              fk_jump cut_463_43 rfl rfl) (fun q8 h6 e1 =>
              j_tc_ (n := 107) (fk_at (cu := none) (by decide +kernel) rfl) (s := 31) (e := 43) (hp := 46) (ct := 312) (by decide +kernel) rfl (by decide +kernel) <|
              fk_jump cut_463_46 rfl rfl))) (fun q D =>
          j_bp (pc := 25) D rfl fun D =>
          j_iret D rt_463))) (fun q3 h1 e1 =>
      j_tx (by decide +kernel))
/-! 464 StatuteHouse.revised(IZ)I -/
theorem cd_464 : fi_code 464 = prog_1_method_109_code := rfl
theorem hx_464 : ∀ pc, fi_hat 464 pc = none := fun pc => by unfold fi_hat; rw [show fi_hh 464 = [] from rfl]; rfl
theorem rt_464 : fi_ret 464 = some .int := rfl
theorem nl_464 : fi_nl 464 = 11 := rfl
theorem ow_464 : fi_ow 464 = 0 := rfl
theorem cl_464 : fj_cutT.getD 464 [] = [(32, [0, 1, 2, 3, 4, 5, 6]), (99, [0, 1, 2, 3, 4, 5, 6, 7]), (104, [0, 1, 2, 3, 4, 5, 6, 7]), (136, [0, 1, 2, 3, 4, 5, 6]), (158, [0, 1, 2, 3, 4, 5, 6, 7]), (237, [0, 1, 2, 3, 4, 5, 6, 7, 8]), (255, [0, 1, 2, 3, 4, 5, 6, 7, 8]), (326, [0, 1, 2, 3, 4, 5, 6, 7, 8]), (415, [0, 1, 2, 3, 4, 5, 6, 7]), (418, [0, 1, 2, 3, 4, 5, 6, 7]), (443, [0, 1, 3, 4, 5, 7]), (518, [0, 1, 3, 4, 5, 7]), (532, [0, 1, 3, 4, 5, 7])] := rfl
theorem cut_464_32 : fj_cut 464 32 = some [0, 1, 2, 3, 4, 5, 6] := by decide +kernel
noncomputable def c_464_32 (d : Nat) (x1 x2 x3 x4 x5 x6 : Int) (h : fi_H) : fk_R := gG (fj_run d) 464 32 [(0, (4, 303)), (1, (0, x1)), (2, (0, x2)), (3, (4, x3)), (4, (0, x4)), (5, (0, x5)), (6, (0, x6))] [] h
theorem cut_464_99 : fj_cut 464 99 = some [0, 1, 2, 3, 4, 5, 6, 7] := by decide +kernel
noncomputable def c_464_99 (d : Nat) (x1 x2 x3 x4 x5 x6 x7 s0 s1 : Int) (h : fi_H) : fk_R := gG (fj_run d) 464 99 [(0, (4, 303)), (1, (0, x1)), (2, (0, x2)), (3, (4, x3)), (4, (0, x4)), (5, (0, x5)), (6, (0, x6)), (7, (0, x7))] [(0, s1), (4, s0)] h
theorem cut_464_104 : fj_cut 464 104 = some [0, 1, 2, 3, 4, 5, 6, 7] := by decide +kernel
noncomputable def c_464_104 (d : Nat) (x1 x2 x3 x4 x5 x6 x7 s0 s1 s2 : Int) (h : fi_H) : fk_R := gG (fj_run d) 464 104 [(0, (4, 303)), (1, (0, x1)), (2, (0, x2)), (3, (4, x3)), (4, (0, x4)), (5, (0, x5)), (6, (0, x6)), (7, (0, x7))] [(0, s2), (0, s1), (4, s0)] h
theorem cut_464_136 : fj_cut 464 136 = some [0, 1, 2, 3, 4, 5, 6] := by decide +kernel
noncomputable def c_464_136 (d : Nat) (x1 x2 x3 x4 x5 x6 : Int) (h : fi_H) : fk_R := gG (fj_run d) 464 136 [(0, (4, 303)), (1, (0, x1)), (2, (0, x2)), (3, (4, x3)), (4, (0, x4)), (5, (0, x5)), (6, (0, x6))] [] h
theorem cut_464_158 : fj_cut 464 158 = some [0, 1, 2, 3, 4, 5, 6, 7] := by decide +kernel
noncomputable def c_464_158 (d : Nat) (x1 x2 x3 x4 x5 x6 x7 : Int) (h : fi_H) : fk_R := gG (fj_run d) 464 158 [(0, (4, 303)), (1, (0, x1)), (2, (0, x2)), (3, (4, x3)), (4, (0, x4)), (5, (0, x5)), (6, (0, x6)), (7, (0, x7))] [] h
theorem cut_464_237 : fj_cut 464 237 = some [0, 1, 2, 3, 4, 5, 6, 7, 8] := by decide +kernel
noncomputable def c_464_237 (d : Nat) (x1 x2 x3 x4 x5 x6 x7 x8 s0 s1 : Int) (h : fi_H) : fk_R := gG (fj_run d) 464 237 [(0, (4, 303)), (1, (0, x1)), (2, (0, x2)), (3, (4, x3)), (4, (0, x4)), (5, (0, x5)), (6, (0, x6)), (7, (0, x7)), (8, (1, x8))] [(0, s1), (4, s0)] h
theorem cut_464_255 : fj_cut 464 255 = some [0, 1, 2, 3, 4, 5, 6, 7, 8] := by decide +kernel
noncomputable def c_464_255 (d : Nat) (x1 x2 x3 x4 x5 x6 x7 x8 s0 s1 s2 : Int) (h : fi_H) : fk_R := gG (fj_run d) 464 255 [(0, (4, 303)), (1, (0, x1)), (2, (0, x2)), (3, (4, x3)), (4, (0, x4)), (5, (0, x5)), (6, (0, x6)), (7, (0, x7)), (8, (1, x8))] [(0, s2), (0, s1), (4, s0)] h
theorem cut_464_326 : fj_cut 464 326 = some [0, 1, 2, 3, 4, 5, 6, 7, 8] := by decide +kernel
noncomputable def c_464_326 (d : Nat) (x1 x2 x3 x4 x5 x6 x7 x8 s0 : Int) (h : fi_H) : fk_R := gG (fj_run d) 464 326 [(0, (4, 303)), (1, (0, x1)), (2, (0, x2)), (3, (4, x3)), (4, (0, x4)), (5, (0, x5)), (6, (0, x6)), (7, (0, x7)), (8, (1, x8))] [(0, s0)] h
theorem cut_464_415 : fj_cut 464 415 = some [0, 1, 2, 3, 4, 5, 6, 7] := by decide +kernel
noncomputable def c_464_415 (d : Nat) (x1 x2 x3 x4 x5 x6 x7 : Int) (h : fi_H) : fk_R := gG (fj_run d) 464 415 [(0, (4, 303)), (1, (0, x1)), (2, (0, x2)), (3, (4, x3)), (4, (0, x4)), (5, (0, x5)), (6, (0, x6)), (7, (0, x7))] [] h
theorem cut_464_418 : fj_cut 464 418 = some [0, 1, 2, 3, 4, 5, 6, 7] := by decide +kernel
noncomputable def c_464_418 (d : Nat) (x1 x2 x3 x4 x5 x6 x7 : Int) (h : fi_H) : fk_R := gG (fj_run d) 464 418 [(0, (4, 303)), (1, (0, x1)), (2, (0, x2)), (3, (4, x3)), (4, (0, x4)), (5, (0, x5)), (6, (0, x6)), (7, (0, x7))] [] h
theorem cut_464_443 : fj_cut 464 443 = some [0, 1, 3, 4, 5, 7] := by decide +kernel
noncomputable def c_464_443 (d : Nat) (x1 x3 x4 x5 x7 : Int) (h : fi_H) : fk_R := gG (fj_run d) 464 443 [(0, (4, 303)), (1, (0, x1)), (3, (4, x3)), (4, (0, x4)), (5, (0, x5)), (7, (0, x7))] [] h
theorem cut_464_518 : fj_cut 464 518 = some [0, 1, 3, 4, 5, 7] := by decide +kernel
noncomputable def c_464_518 (d : Nat) (x1 x3 x4 x5 x7 : Int) (h : fi_H) : fk_R := gG (fj_run d) 464 518 [(0, (4, 303)), (1, (0, x1)), (3, (4, x3)), (4, (0, x4)), (5, (0, x5)), (7, (0, x7))] [] h
theorem cut_464_532 : fj_cut 464 532 = some [0, 1, 3, 4, 5, 7] := by decide +kernel
noncomputable def c_464_532 (d : Nat) (x1 x3 x4 x5 x7 : Int) (h : fi_H) : fk_R := gG (fj_run d) 464 532 [(0, (4, 303)), (1, (0, x1)), (3, (4, x3)), (4, (0, x4)), (5, (0, x5)), (7, (0, x7))] [] h
theorem e_464_32 (d : Nat) (x1 x2 x3 x4 x5 x6 : Int) {h : fi_H} (H : Shp h) : c_464_32 d x1 x2 x3 x4 x5 x6 h =
  if h 0 x3.toNat 0 = 104 then
  if fk_isA (h 0 (h 381 x3.toNat 0).toNat 0) = true then
  if x6 < h 1 (h 381 x3.toNat 0).toNat 0 then
    ca_ (fj_run d 350 h [(4, 306), (0, h 377 x3.toNat 0), (0, x6), (0, 0)]) 0
      (fun v3 h2 =>
      ca_ (fj_run d 350 h2 [(4, 306), (0, v3), (0, h2 291 303 0), (0, 0)]) 0
        (fun v6 h5 =>
        if x2 = 0 then
          if v6 = (-1) then
            c_464_99 d x1 x2 x3 x4 x5 x6 v3 463 x6 h5
          else
            if v6 < h5 239 303 0 then
              c_464_104 d x1 x2 x3 x4 x5 x6 v3 463 x6 0 h5
            else
              c_464_99 d x1 x2 x3 x4 x5 x6 v3 463 x6 h5
        else
          c_464_99 d x1 x2 x3 x4 x5 x6 v3 463 x6 h5)
        (fun q7 h5 => tx_ q7 h5))
      (fun q4 h2 => tx_ q4 h2)
  else
    lt_ (fi_upd h 249 303 0 0) fun h8 =>
    lt_ (fi_upd h8 250 303 0 0) fun h9 =>
    c_464_158 d x1 x2 x3 x4 x5 0 0 h9
  else none
  else none := by
  unfold c_464_32
  exact
    have D : fk_D 464 [(32, some [0, 1, 2, 3, 4, 5, 6], .iload 6, 2, 0, 0, 0), (34, none, .aload_n 3, 1, 0, 0, 0), (35, none, .getfield 1065, 3, 381, (-104), 12), (38, none, .arraylength, 1, 0, 0, 0), (39, none, .if_icmp .ge 103, 3, 142, 0, 0), (42, none, .aload_n 0, 1, 0, 0, 0), (43, none, .getfield 16, 3, 209, 100, 12), (46, none, .aload_n 3, 1, 0, 0, 0), (47, none, .getfield 1074, 3, 377, 104, 10), (50, none, .iload 6, 2, 0, 0, 0), (52, none, .iconst 0, 1, 0, 0, 0), (53, none, .invokevirtual 168, 3, 3, 119, 1), (56, none, .istore 7, 2, 0, 0, 0), (58, none, .aload_n 0, 1, 0, 0, 0), (59, none, .getfield 16, 3, 209, 100, 12), (62, none, .iload 7, 2, 0, 0, 0), (64, none, .aload_n 0, 1, 0, 0, 0), (65, none, .getfield 707, 3, 291, 100, 10), (68, none, .iconst 0, 1, 0, 0, 0), (69, none, .invokevirtual 168, 3, 3, 119, 1)] := fq_of2 cd_464 ow_464 cl_464 rfl (pc := 32) (by decide +kernel)
    j_ild (pc := 32) D rfl rfl rfl fun D =>
    j_aldn (pc := 34) D rfl rfl rfl fun D =>
    j_gfo (pc := 35) H.2.1 D rfl rfl rfl rfl fun kc1 D =>
    j_lenu (pc := 38) H.2.1 D rfl fun q D =>
    j_ige (pc := 39) D rfl (fun q D =>
      j_aldn (pc := 42) D rfl rfl rfl fun D =>
      j_gfc (pc := 43) (a := 303) D rfl rfl (by decide) rfl (s0_303 H) rfl (sf_209_303 H) fun D =>
      j_aldn (pc := 46) D rfl rfl rfl fun D =>
      j_gf (pc := 47) (a := x3.toNat) D rfl rfl (nz_cls H.2.1 kc1 (by decide)) rfl kc1 rfl fun D =>
      j_ild (pc := 50) D rfl rfl rfl fun D =>
      j_ic (pc := 52) D rfl fun D =>
      j_iv (pc := 53) (m := 350) (dd := 119) (a := [(0, h 377 x3.toNat 0), (0, x6), (0, 0)]) (rest := []) D rfl rfl rfl rfl rfl (by decide) (s0_306 H) (by decide +kernel) (fun v3 h2 e1 D =>
        have T := fj_run_ok _ _ _ _ _ _ H.1 e1
        have kc1 := cls_st H.1 T.2 kc1 (by decide)
        have H := shp_st H T
        j_ist (pc := 56) (L' := [(7, (0, v3)), (0, (4, 303)), (1, (0, x1)), (2, (0, x2)), (3, (4, x3)), (4, (0, x4)), (5, (0, x5)), (6, (0, x6))]) D rfl nl_464 rfl rfl fun D =>
        j_aldn (pc := 58) D rfl rfl rfl fun D =>
        j_gfc (pc := 59) (a := 303) D rfl rfl (by decide) rfl (s0_303 H) rfl (sf_209_303 H) fun D =>
        j_ild (pc := 62) D rfl rfl rfl fun D =>
        j_aldn (pc := 64) D rfl rfl rfl fun D =>
        j_gf (pc := 65) (a := 303) D rfl rfl (by decide) rfl (s0_303 H) rfl fun D =>
        j_ic (pc := 68) D rfl fun D =>
        j_iv (pc := 69) (m := 350) (dd := 119) (a := [(0, v3), (0, h2 291 303 0), (0, 0)]) (rest := []) D rfl rfl rfl rfl rfl (by decide) (s0_306 H) (by decide +kernel) (fun v6 h5 e1 D =>
          have T := fj_run_ok _ _ _ _ _ _ H.1 e1
          have kc1 := cls_st H.1 T.2 kc1 (by decide)
          have H := shp_st H T
          have D : fk_D 464 [(72, none, .istore 8, 2, 0, 0, 0), (74, none, .aload_n 0, 1, 0, 0, 0), (75, none, .getfield 743, 3, 303, 100, 12), (78, none, .iload 6, 2, 0, 0, 0), (80, none, .iload_n 2, 1, 0, 0, 0), (81, none, .ifCond .ne 18, 3, 99, 0, 0), (84, none, .iload 8, 2, 0, 0, 0), (86, none, .iconst (-1), 1, 0, (-1), 0), (87, none, .if_icmp .eq 12, 3, 99, 0, 0), (90, none, .iload 8, 2, 0, 0, 0), (92, none, .aload_n 0, 1, 0, 0, 0), (93, none, .getfield 615, 3, 239, 100, 10), (96, none, .if_icmp .lt 7, 3, 103, 0, 0)] := fq_of2 cd_464 ow_464 cl_464 rfl (pc := 72) (by decide +kernel)
          j_ist (pc := 72) (L' := [(8, (0, v6)), (7, (0, v3)), (0, (4, 303)), (1, (0, x1)), (2, (0, x2)), (3, (4, x3)), (4, (0, x4)), (5, (0, x5)), (6, (0, x6))]) D rfl nl_464 rfl rfl fun D =>
          j_aldn (pc := 74) D rfl rfl rfl fun D =>
          j_gfc (pc := 75) (a := 303) D rfl rfl (by decide) rfl (s0_303 H) rfl (sf_303_303 H) fun D =>
          j_ild (pc := 78) D rfl rfl rfl fun D =>
          j_ildn (pc := 80) D rfl rfl rfl fun D =>
          j_ifne (pc := 81) D rfl (fun q D =>
            j_ild (pc := 84) D rfl rfl rfl fun D =>
            j_ic (pc := 86) D rfl fun D =>
            j_ieq (pc := 87) D rfl (fun q =>
              fk_jump cut_464_99 rfl rfl) (fun q D =>
              j_ild (pc := 90) D rfl rfl rfl fun D =>
              j_aldn (pc := 92) D rfl rfl rfl fun D =>
              j_gf (pc := 93) (a := 303) D rfl rfl (by decide) rfl (s0_303 H) rfl fun D =>
              j_ilt (pc := 96) D rfl (fun q =>
                have D : fk_D 464 [(103, none, .iconst 0, 1, 0, 0, 0)] := fq_of2 cd_464 ow_464 cl_464 rfl (pc := 103) (by decide +kernel)
                j_ic (pc := 103) D rfl fun D =>
                fk_jump cut_464_104 rfl rfl) (fun q D =>
                fk_jump cut_464_99 rfl rfl))) (fun q =>
            fk_jump cut_464_99 rfl rfl)) (fun q7 h5 e1 =>
          j_tx (hx_464 _))) (fun q4 h2 e1 =>
        j_tx (hx_464 _))) (fun q =>
      have D : fk_D 464 [(142, none, .aload_n 0, 1, 0, 0, 0), (143, none, .iconst 0, 1, 0, 0, 0), (144, none, .putfield 276, 3, 249, 100, 10), (147, none, .aload_n 0, 1, 0, 0, 0), (148, none, .aconst_null, 1, 0, 0, 0), (149, none, .putfield 326, 3, 250, 100, 12), (152, none, .iconst 0, 1, 0, 0, 0), (153, none, .istore 6, 2, 0, 0, 0), (155, none, .iconst 0, 1, 0, 0, 0), (156, none, .istore 7, 2, 0, 0, 0)] := fq_of2 cd_464 ow_464 cl_464 rfl (pc := 142) (by decide +kernel)
      j_aldn (pc := 142) D rfl rfl rfl fun D =>
      j_ic (pc := 143) D rfl fun D =>
      j_pf (pc := 144) (a := 303) D rfl rfl rfl (s0_303 H) rfl rfl (gy (by decide)) (gy rfl) fun h8 eh8 S D =>
      have T := fj_hs_ok H.1 S
      have kc1 := cls_st H.1 T.2 kc1 (by decide)
      have H := shp_st H T
      j_aldn (pc := 147) D rfl rfl rfl fun D =>
      j_c0 (pc := 148) (v := (4, 0)) D rfl rfl (by decide +kernel) fun D =>
      j_pf (pc := 149) (a := 303) D rfl rfl rfl (s0_303 H) rfl rfl (gy (by decide)) (gy rfl) fun h9 eh9 S D =>
      have T := fj_hs_ok H.1 S
      have kc1 := cls_st H.1 T.2 kc1 (by decide)
      have H := shp_st H T
      j_ic (pc := 152) D rfl fun D =>
      j_ist (pc := 153) (L' := [(6, (0, 0)), (0, (4, 303)), (1, (0, x1)), (2, (0, x2)), (3, (4, x3)), (4, (0, x4)), (5, (0, x5))]) D rfl nl_464 rfl rfl fun D =>
      j_ic (pc := 155) D rfl fun D =>
      j_ist (pc := 156) (L' := [(7, (0, 0)), (6, (0, 0)), (0, (4, 303)), (1, (0, x1)), (2, (0, x2)), (3, (4, x3)), (4, (0, x4)), (5, (0, x5))]) D rfl nl_464 rfl rfl fun D =>
      fk_jump cut_464_158 rfl rfl)
theorem e_464_99 (d : Nat) (x1 x2 x3 x4 x5 x6 x7 s0 s1 : Int) {h : fi_H} (H : Shp h) : c_464_99 d x1 x2 x3 x4 x5 x6 x7 s0 s1 h =
  c_464_104 d x1 x2 x3 x4 x5 x6 x7 s0 s1 1 h := by
  unfold c_464_99
  exact
    have D : fk_D 464 [(99, some [0, 1, 2, 3, 4, 5, 6, 7], .iconst 1, 1, 0, 1, 0), (100, none, .goto 4, 3, 104, 0, 0)] := fq_of2 cd_464 ow_464 cl_464 rfl (pc := 99) (by decide +kernel)
    j_ic (pc := 99) D rfl fun D =>
    j_goto (pc := 100) D rfl <|
    fk_jump cut_464_104 rfl rfl
theorem e_464_104 (d : Nat) (x1 x2 x3 x4 x5 x6 x7 s0 s1 s2 : Int) {h : fi_H} (H : Shp h) : c_464_104 d x1 x2 x3 x4 x5 x6 x7 s0 s1 s2 h =
  if 302 < s0 ∧ fi_et 1 (h 0 s0.toNat 0) ≠ 0 then
  if 0 ≤ s1 ∧ s1 < h 1 s0.toNat 0 then
  if fi_rg (fi_et 1 (h 0 s0.toNat 0)) s2 = true then
  lt_ (fi_upd h (fi_et 1 (h 0 s0.toNat 0)) s0.toNat s1.toNat s2) fun h1 =>
  if 0 ≤ x6 ∧ x6 < 24 then
  if h1 4 463 x6.toNat = 0 then
    c_464_136 d x1 x2 x3 x4 x5 x6 h1
  else
    if h1 0 x3.toNat 0 = 104 then
    ca_ (fj_run d 459 h1 [(4, 303), (0, h1 375 x3.toNat 0), (0, h1 376 x3.toNat 0), (0, x7)]) 1
      (fun v5 h4 =>
      lt_ (fi_upd h4 11 460 x6.toNat v5) fun h7 =>
      c_464_136 d x1 x2 x3 x4 x5 x6 h7)
      (fun q6 h4 => tx_ q6 h4)
    else none
  else none
  else none
  else none
  else none := by
  unfold c_464_104
  exact
    have D : fk_D 464 [(104, some [0, 1, 2, 3, 4, 5, 6, 7], .bastore, 1, 0, 0, 0), (105, none, .aload_n 0, 1, 0, 0, 0), (106, none, .getfield 743, 3, 303, 100, 12), (109, none, .iload 6, 2, 0, 0, 0), (111, none, .baload, 1, 0, 0, 0), (112, none, .ifCond .eq 24, 3, 136, 0, 0), (115, none, .aload_n 0, 1, 0, 0, 0), (116, none, .getfield 734, 3, 300, 100, 12), (119, none, .iload 6, 2, 0, 0, 0), (121, none, .aload_n 0, 1, 0, 0, 0), (122, none, .aload_n 3, 1, 0, 0, 0), (123, none, .getfield 1022, 3, 375, (-104), 10), (126, none, .aload_n 3, 1, 0, 0, 0), (127, none, .getfield 1076, 3, 376, 104, 10), (130, none, .iload 7, 2, 0, 0, 0), (132, none, .invokevirtual 1060, 3, 3, 194, 2), (135, none, .lastore, 1, 0, 0, 0)] := fq_of2 cd_464 ow_464 cl_464 rfl (pc := 104) (by decide +kernel)
    j_asub (pc := 104) D rfl rfl gn gn gn fun h1 eh1 S q q2 D =>
    have T := fj_hs_ok H.1 S
    have H := shp_st H T
    j_aldn (pc := 105) D rfl rfl rfl fun D =>
    j_gfc (pc := 106) (a := 303) D rfl rfl (by decide) rfl (s0_303 H) rfl (sf_303_303 H) fun D =>
    j_ild (pc := 109) D rfl rfl rfl fun D =>
    j_al (pc := 111) (a := 463) (e := 4) D rfl rfl rfl (by decide) (s0_463 H) (s1_463 H) ⟨rfl, rfl, rfl⟩ rfl gn fun qb2 D =>
    j_ifeq (pc := 112) D rfl (fun q =>
      fk_jump cut_464_136 rfl rfl) (fun q D =>
      j_aldn (pc := 115) D rfl rfl rfl fun D =>
      j_gfc (pc := 116) (a := 303) D rfl rfl (by decide) rfl (s0_303 H) rfl (sf_300_303 H) fun D =>
      j_ild (pc := 119) D rfl rfl rfl fun D =>
      j_aldn (pc := 121) D rfl rfl rfl fun D =>
      j_aldn (pc := 122) D rfl rfl rfl fun D =>
      j_gfo (pc := 123) H.2.1 D rfl rfl rfl rfl fun kc3 D =>
      j_aldn (pc := 126) D rfl rfl rfl fun D =>
      j_gf (pc := 127) (a := x3.toNat) D rfl rfl (nz_cls H.2.1 kc3 (by decide)) rfl kc3 rfl fun D =>
      j_ild (pc := 130) D rfl rfl rfl fun D =>
      j_iv (pc := 132) (m := 459) (dd := 194) (a := [(0, h1 375 x3.toNat 0), (0, h1 376 x3.toNat 0), (0, x7)]) (rest := [(0, x6), (4, 460)]) D rfl rfl rfl rfl rfl (by decide) (s0_303 H) (by decide +kernel) (fun v5 h4 e1 D =>
        have T := fj_run_ok _ _ _ _ _ _ H.1 e1
        have kc3 := cls_st H.1 T.2 kc3 (by decide)
        have H := shp_st H T
        j_as (pc := 135) (a := 460) (e := 11) D rfl ⟨rfl, rfl⟩ rfl (by decide) (s0_460 H) (s1_460 H) ⟨rfl, rfl, rfl⟩ rfl (gy qb2) (gy rfl) fun h7 eh7 S q D =>
        have T := fj_hs_ok H.1 S
        have kc3 := cls_st H.1 T.2 kc3 (by decide)
        have H := shp_st H T
        fk_jump cut_464_136 rfl rfl) (fun q6 h4 e1 =>
        j_tx (hx_464 _)))
theorem e_464_136 (d : Nat) (x1 x2 x3 x4 x5 x6 : Int) {h : fi_H} (H : Shp h) : c_464_136 d x1 x2 x3 x4 x5 x6 h =
  c_464_32 d x1 x2 x3 x4 x5 (wI (x6 + 1)) h := by
  unfold c_464_136
  exact
    have D : fk_D 464 [(136, some [0, 1, 2, 3, 4, 5, 6], .iinc 6 1, 3, 0, 1, 0), (139, none, .goto (-107), 3, 32, 0, 0)] := fq_of2 cd_464 ow_464 cl_464 rfl (pc := 136) (by decide +kernel)
    j_inc (pc := 136) (L' := [(6, (0, wI (x6 + 1))), (0, (4, 303)), (1, (0, x1)), (2, (0, x2)), (3, (4, x3)), (4, (0, x4)), (5, (0, x5))]) D rfl rfl rfl (by decide +kernel) rfl fun D =>
    j_goto (pc := 139) D rfl <|
    fk_jump cut_464_32 rfl rfl
theorem e_464_158 (d : Nat) (x1 x2 x3 x4 x5 x6 x7 : Int) {h : fi_H} (H : Shp h) : c_464_158 d x1 x2 x3 x4 x5 x6 x7 h =
  if h 0 x3.toNat 0 = 104 then
  if fk_isA (h 0 (h 381 x3.toNat 0).toNat 0) = true then
  if x7 < h 1 (h 381 x3.toNat 0).toNat 0 then
    if 0 ≤ x7 ∧ x7 < 24 then
    if h 4 463 x7.toNat = 0 then
      c_464_418 d x1 x2 x3 x4 x5 x6 x7 h
    else
      lt_ (fi_upd h 4 464 x7.toNat 0) fun h3 =>
      if h3 0 (h3 381 x3.toNat 0).toNat 0 = 11 ∧ 0 ≤ x7 ∧ x7 < h3 1 (h3 381 x3.toNat 0).toNat 0 then
      if x2 = 0 then
        if h3 380 x3.toNat 0 = 2 then
          if 0 < lc_ (h3 11 460 x7.toNat) (h3 11 (h3 381 x3.toNat 0).toNat x7.toNat) then
            c_464_255 d x1 x2 x3 x4 x5 x6 x7 (h3 11 (h3 381 x3.toNat 0).toNat x7.toNat) 463 x7 1 h3
          else
            c_464_255 d x1 x2 x3 x4 x5 x6 x7 (h3 11 (h3 381 x3.toNat 0).toNat x7.toNat) 463 x7 0 h3
        else
          c_464_237 d x1 x2 x3 x4 x5 x6 x7 (h3 11 (h3 381 x3.toNat 0).toNat x7.toNat) 463 x7 h3
      else
        c_464_237 d x1 x2 x3 x4 x5 x6 x7 (h3 11 (h3 381 x3.toNat 0).toNat x7.toNat) 463 x7 h3
      else none
    else none
  else
    if 400 < wI ((h 290 303 0) + x6) then
      some (.inl (some (0, (-4))), h)
    else
      c_464_443 d x1 x3 x4 x5 0 h
  else none
  else none := by
  unfold c_464_158
  exact
    have D : fk_D 464 [(158, some [0, 1, 2, 3, 4, 5, 6, 7], .iload 7, 2, 0, 0, 0), (160, none, .aload_n 3, 1, 0, 0, 0), (161, none, .getfield 1065, 3, 381, (-104), 12), (164, none, .arraylength, 1, 0, 0, 0), (165, none, .if_icmp .ge 259, 3, 424, 0, 0), (168, none, .aload_n 0, 1, 0, 0, 0), (169, none, .getfield 743, 3, 303, 100, 12), (172, none, .iload 7, 2, 0, 0, 0), (174, none, .baload, 1, 0, 0, 0), (175, none, .ifCond .ne 6, 3, 181, 0, 0), (178, none, .goto 240, 3, 418, 0, 0)] := fq_of2 cd_464 ow_464 cl_464 rfl (pc := 158) (by decide +kernel)
    j_ild (pc := 158) D rfl rfl rfl fun D =>
    j_aldn (pc := 160) D rfl rfl rfl fun D =>
    j_gfo (pc := 161) H.2.1 D rfl rfl rfl rfl fun kc1 D =>
    j_lenu (pc := 164) H.2.1 D rfl fun q D =>
    j_ige (pc := 165) D rfl (fun q D =>
      j_aldn (pc := 168) D rfl rfl rfl fun D =>
      j_gfc (pc := 169) (a := 303) D rfl rfl (by decide) rfl (s0_303 H) rfl (sf_303_303 H) fun D =>
      j_ild (pc := 172) D rfl rfl rfl fun D =>
      j_al (pc := 174) (a := 463) (e := 4) D rfl rfl rfl (by decide) (s0_463 H) (s1_463 H) ⟨rfl, rfl, rfl⟩ rfl gn fun qb2 D =>
      j_ifne (pc := 175) D rfl (fun q D =>
        j_goto (pc := 178) D rfl <|
        fk_jump cut_464_418 rfl rfl) (fun q =>
        have D : fk_D 464 [(181, none, .aload_n 0, 1, 0, 0, 0), (182, none, .getfield 746, 3, 304, 100, 12), (185, none, .iload 7, 2, 0, 0, 0), (187, none, .iconst 0, 1, 0, 0, 0), (188, none, .bastore, 1, 0, 0, 0), (189, none, .aload_n 3, 1, 0, 0, 0), (190, none, .getfield 1065, 3, 381, 104, 12), (193, none, .iload 7, 2, 0, 0, 0), (195, none, .laload, 1, 0, 0, 0), (196, none, .lstore 8, 2, 0, 0, 0), (198, none, .aload_n 0, 1, 0, 0, 0), (199, none, .getfield 743, 3, 303, 100, 12), (202, none, .iload 7, 2, 0, 0, 0), (204, none, .iload_n 2, 1, 0, 0, 0), (205, none, .ifCond .ne 32, 3, 237, 0, 0), (208, none, .aload_n 3, 1, 0, 0, 0), (209, none, .getfield 917, 3, 380, 104, 10), (212, none, .iconst 2, 1, 0, 2, 0), (213, none, .if_icmp .ne 24, 3, 237, 0, 0), (216, none, .aload_n 0, 1, 0, 0, 0)] := fq_of2 cd_464 ow_464 cl_464 rfl (pc := 181) (by decide +kernel)
        j_aldn (pc := 181) D rfl rfl rfl fun D =>
        j_gfc (pc := 182) (a := 303) D rfl rfl (by decide) rfl (s0_303 H) rfl (sf_304_303 H) fun D =>
        j_ild (pc := 185) D rfl rfl rfl fun D =>
        j_ic (pc := 187) D rfl fun D =>
        j_as (pc := 188) (a := 464) (e := 4) D rfl ⟨rfl, rfl⟩ rfl (by decide) (s0_464 H) (s1_464 H) ⟨rfl, rfl, rfl⟩ rfl (gy qb2) (gy (by decide)) fun h3 eh3 S q D =>
        have T := fj_hs_ok H.1 S
        have kc1 := cls_st H.1 T.2 kc1 (by decide)
        have H := shp_st H T
        j_aldn (pc := 189) D rfl rfl rfl fun D =>
        j_gf (pc := 190) (a := x3.toNat) D rfl rfl (nz_cls H.2.1 kc1 (by decide)) rfl kc1 rfl fun D =>
        j_ild (pc := 193) D rfl rfl rfl fun D =>
        j_alp (pc := 195) (e := 11) H.2.1 D rfl rfl ⟨rfl, rfl, rfl⟩ rfl fun q q2 D =>
        j_lst (pc := 196) (L' := [(8, (1, h3 11 (h3 381 x3.toNat 0).toNat x7.toNat)), (0, (4, 303)), (1, (0, x1)), (2, (0, x2)), (3, (4, x3)), (4, (0, x4)), (5, (0, x5)), (6, (0, x6)), (7, (0, x7))]) D rfl nl_464 rfl rfl fun D =>
        j_aldn (pc := 198) D rfl rfl rfl fun D =>
        j_gfc (pc := 199) (a := 303) D rfl rfl (by decide) rfl (s0_303 H) rfl (sf_303_303 H) fun D =>
        j_ild (pc := 202) D rfl rfl rfl fun D =>
        j_ildn (pc := 204) D rfl rfl rfl fun D =>
        j_ifne (pc := 205) D rfl (fun q D =>
          j_aldn (pc := 208) D rfl rfl rfl fun D =>
          j_gf (pc := 209) (a := x3.toNat) D rfl rfl (nz_cls H.2.1 kc1 (by decide)) rfl kc1 rfl fun D =>
          j_ic (pc := 212) D rfl fun D =>
          j_ine (pc := 213) D rfl (fun q D =>
            j_aldn (pc := 216) D rfl rfl rfl fun D =>
            have D : fk_D 464 [(217, none, .getfield 734, 3, 300, 100, 12), (220, none, .iload 7, 2, 0, 0, 0), (222, none, .laload, 1, 0, 0, 0), (223, none, .lload 8, 2, 0, 0, 0), (225, none, .lcmp, 1, 0, 0, 0), (226, none, .ifCond .le 7, 3, 233, 0, 0), (229, none, .iconst 1, 1, 0, 1, 0), (230, none, .goto 25, 3, 255, 0, 0)] := fq_of2 cd_464 ow_464 cl_464 rfl (pc := 217) (by decide +kernel)
            j_gfc (pc := 217) (a := 303) D rfl rfl (by decide) rfl (s0_303 H) rfl (sf_300_303 H) fun D =>
            j_ild (pc := 220) D rfl rfl rfl fun D =>
            j_al (pc := 222) (a := 460) (e := 11) D rfl rfl rfl (by decide) (s0_460 H) (s1_460 H) ⟨rfl, rfl, rfl⟩ rfl (gy qb2) fun q D =>
            j_lld (pc := 223) D rfl rfl rfl fun D =>
            j_lcmp (pc := 225) D rfl fun D =>
            j_ifle (pc := 226) D rfl (fun q D =>
              j_ic (pc := 229) D rfl fun D =>
              j_goto (pc := 230) D rfl <|
              fk_jump cut_464_255 rfl rfl) (fun q =>
              have D : fk_D 464 [(233, none, .iconst 0, 1, 0, 0, 0), (234, none, .goto 21, 3, 255, 0, 0)] := fq_of2 cd_464 ow_464 cl_464 rfl (pc := 233) (by decide +kernel)
              j_ic (pc := 233) D rfl fun D =>
              j_goto (pc := 234) D rfl <|
              fk_jump cut_464_255 rfl rfl)) (fun q =>
            fk_jump cut_464_237 rfl rfl)) (fun q =>
          fk_jump cut_464_237 rfl rfl))) (fun q =>
      have D : fk_D 464 [(424, none, .aload_n 0, 1, 0, 0, 0), (425, none, .getfield 923, 3, 290, 100, 10), (428, none, .iload 6, 2, 0, 0, 0), (430, none, .iadd, 1, 0, 0, 0), (431, none, .sipush 400, 3, 0, 400, 0), (434, none, .if_icmp .le 6, 3, 440, 0, 0), (437, none, .bipush (-4), 2, 0, (-4), 0), (439, none, .ireturn, 1, 0, 0, 0)] := fq_of2 cd_464 ow_464 cl_464 rfl (pc := 424) (by decide +kernel)
      j_aldn (pc := 424) D rfl rfl rfl fun D =>
      j_gf (pc := 425) (a := 303) D rfl rfl (by decide) rfl (s0_303 H) rfl fun D =>
      j_ild (pc := 428) D rfl rfl rfl fun D =>
      j_iadd (pc := 430) D rfl fun D =>
      j_sp (pc := 431) D rfl fun D =>
      j_ile (pc := 434) D rfl (fun q D =>
        j_bp (pc := 437) D rfl fun D =>
        j_iret D rt_464) (fun q =>
        have D : fk_D 464 [(440, none, .iconst 0, 1, 0, 0, 0), (441, none, .istore 7, 2, 0, 0, 0)] := fq_of2 cd_464 ow_464 cl_464 rfl (pc := 440) (by decide +kernel)
        j_ic (pc := 440) D rfl fun D =>
        j_ist (pc := 441) (L' := [(7, (0, 0)), (0, (4, 303)), (1, (0, x1)), (2, (0, x2)), (3, (4, x3)), (4, (0, x4)), (5, (0, x5)), (6, (0, x6))]) D rfl nl_464 rfl rfl fun D =>
        fk_jump cut_464_443 rfl rfl))
theorem e_464_237 (d : Nat) (x1 x2 x3 x4 x5 x6 x7 x8 s0 s1 : Int) {h : fi_H} (H : Shp h) : c_464_237 d x1 x2 x3 x4 x5 x6 x7 x8 s0 s1 h =
  if 0 ≤ x7 ∧ x7 < 24 then
  if lc_ (h 11 460 x7.toNat) x8 = 0 then
    c_464_255 d x1 x2 x3 x4 x5 x6 x7 x8 s0 s1 0 h
  else
    c_464_255 d x1 x2 x3 x4 x5 x6 x7 x8 s0 s1 1 h
  else none := by
  unfold c_464_237
  exact
    have D : fk_D 464 [(237, some [0, 1, 2, 3, 4, 5, 6, 7, 8], .aload_n 0, 1, 0, 0, 0), (238, none, .getfield 734, 3, 300, 100, 12), (241, none, .iload 7, 2, 0, 0, 0), (243, none, .laload, 1, 0, 0, 0), (244, none, .lload 8, 2, 0, 0, 0), (246, none, .lcmp, 1, 0, 0, 0), (247, none, .ifCond .eq 7, 3, 254, 0, 0), (250, none, .iconst 1, 1, 0, 1, 0), (251, none, .goto 4, 3, 255, 0, 0)] := fq_of2 cd_464 ow_464 cl_464 rfl (pc := 237) (by decide +kernel)
    j_aldn (pc := 237) D rfl rfl rfl fun D =>
    j_gfc (pc := 238) (a := 303) D rfl rfl (by decide) rfl (s0_303 H) rfl (sf_300_303 H) fun D =>
    j_ild (pc := 241) D rfl rfl rfl fun D =>
    j_al (pc := 243) (a := 460) (e := 11) D rfl rfl rfl (by decide) (s0_460 H) (s1_460 H) ⟨rfl, rfl, rfl⟩ rfl gn fun qb1 D =>
    j_lld (pc := 244) D rfl rfl rfl fun D =>
    j_lcmp (pc := 246) D rfl fun D =>
    j_ifeq (pc := 247) D rfl (fun q =>
      have D : fk_D 464 [(254, none, .iconst 0, 1, 0, 0, 0)] := fq_of2 cd_464 ow_464 cl_464 rfl (pc := 254) (by decide +kernel)
      j_ic (pc := 254) D rfl fun D =>
      fk_jump cut_464_255 rfl rfl) (fun q D =>
      j_ic (pc := 250) D rfl fun D =>
      j_goto (pc := 251) D rfl <|
      fk_jump cut_464_255 rfl rfl)
theorem e_464_255 (d : Nat) (x1 x2 x3 x4 x5 x6 x7 x8 s0 s1 s2 : Int) {h : fi_H} (H : Shp h) : c_464_255 d x1 x2 x3 x4 x5 x6 x7 x8 s0 s1 s2 h =
  if 302 < s0 ∧ fi_et 1 (h 0 s0.toNat 0) ≠ 0 then
  if 0 ≤ s1 ∧ s1 < h 1 s0.toNat 0 then
  if fi_rg (fi_et 1 (h 0 s0.toNat 0)) s2 = true then
  lt_ (fi_upd h (fi_et 1 (h 0 s0.toNat 0)) s0.toNat s1.toNat s2) fun h1 =>
  if 0 ≤ x7 ∧ x7 < 24 then
  if h1 4 463 x7.toNat = 0 then
    c_464_418 d x1 x2 x3 x4 x5 x6 x7 h1
  else
    cv_ (fj_run d 347 h1 [(4, 303), (0, 0), (1, wJ ((h1 11 460 x7.toNat) - x8))])
      (fun h3 =>
      if h3 0 x3.toNat 0 = 104 then
      if h3 0 (h3 382 x3.toNat 0).toNat 0 = 5 ∧ 0 ≤ x7 ∧ x7 < h3 1 (h3 382 x3.toNat 0).toNat 0 then
      if h3 239 303 0 < h3 5 (h3 382 x3.toNat 0).toNat x7.toNat then
        c_464_326 d x1 x2 x3 x4 (wI (x5 + 1)) (wI (x6 + 1)) x7 x8 0 h3
      else
        if h3 0 (h3 382 x3.toNat 0).toNat 0 = 5 ∧ 0 ≤ x7 ∧ x7 < h3 1 (h3 382 x3.toNat 0).toNat 0 then
        ca_ (fj_run d 393 h3 [(4, 306), (0, h3 5 (h3 382 x3.toNat 0).toNat x7.toNat), (0, h3 239 303 0)]) 0
          (fun v8 h7 =>
          c_464_326 d x1 x2 x3 x4 (wI (x5 + 1)) (wI (x6 + 1)) x7 x8 v8 h7)
          (fun q9 h7 => tx_ q9 h7)
        else none
      else none
      else none)
      (fun q5 h3 => tx_ q5 h3)
  else none
  else none
  else none
  else none := by
  unfold c_464_255
  exact
    have D : fk_D 464 [(255, some [0, 1, 2, 3, 4, 5, 6, 7, 8], .bastore, 1, 0, 0, 0), (256, none, .aload_n 0, 1, 0, 0, 0), (257, none, .getfield 743, 3, 303, 100, 12), (260, none, .iload 7, 2, 0, 0, 0), (262, none, .baload, 1, 0, 0, 0), (263, none, .ifCond .ne 6, 3, 269, 0, 0), (266, none, .goto 152, 3, 418, 0, 0)] := fq_of2 cd_464 ow_464 cl_464 rfl (pc := 255) (by decide +kernel)
    j_asub (pc := 255) D rfl rfl gn gn gn fun h1 eh1 S q q2 D =>
    have T := fj_hs_ok H.1 S
    have H := shp_st H T
    j_aldn (pc := 256) D rfl rfl rfl fun D =>
    j_gfc (pc := 257) (a := 303) D rfl rfl (by decide) rfl (s0_303 H) rfl (sf_303_303 H) fun D =>
    j_ild (pc := 260) D rfl rfl rfl fun D =>
    j_al (pc := 262) (a := 463) (e := 4) D rfl rfl rfl (by decide) (s0_463 H) (s1_463 H) ⟨rfl, rfl, rfl⟩ rfl gn fun qb2 D =>
    j_ifne (pc := 263) D rfl (fun q D =>
      j_goto (pc := 266) D rfl <|
      fk_jump cut_464_418 rfl rfl) (fun q =>
      have D : fk_D 464 [(269, none, .iinc 5 1, 3, 0, 1, 0), (272, none, .iinc 6 1, 3, 0, 1, 0), (275, none, .aload_n 0, 1, 0, 0, 0), (276, none, .iconst 0, 1, 0, 0, 0), (277, none, .aload_n 0, 1, 0, 0, 0), (278, none, .getfield 734, 3, 300, 100, 12), (281, none, .iload 7, 2, 0, 0, 0), (283, none, .laload, 1, 0, 0, 0), (284, none, .lload 8, 2, 0, 0, 0), (286, none, .lsub, 1, 0, 0, 0), (287, none, .invokevirtual 155, 3, 2, 116, 0), (290, none, .aload_n 3, 1, 0, 0, 0), (291, none, .getfield 1068, 3, 382, (-104), 12), (294, none, .iload 7, 2, 0, 0, 0), (296, none, .caload, 1, 0, 0, 0), (297, none, .aload_n 0, 1, 0, 0, 0), (298, none, .getfield 615, 3, 239, 100, 10), (301, none, .if_icmp .gt 24, 3, 325, 0, 0), (304, none, .aload_n 0, 1, 0, 0, 0), (305, none, .getfield 16, 3, 209, 100, 12)] := fq_of2 cd_464 ow_464 cl_464 rfl (pc := 269) (by decide +kernel)
      j_inc (pc := 269) (L' := [(5, (0, wI (x5 + 1))), (0, (4, 303)), (1, (0, x1)), (2, (0, x2)), (3, (4, x3)), (4, (0, x4)), (6, (0, x6)), (7, (0, x7)), (8, (1, x8))]) D rfl rfl rfl (by decide +kernel) rfl fun D =>
      j_inc (pc := 272) (L' := [(6, (0, wI (x6 + 1))), (5, (0, wI (x5 + 1))), (0, (4, 303)), (1, (0, x1)), (2, (0, x2)), (3, (4, x3)), (4, (0, x4)), (7, (0, x7)), (8, (1, x8))]) D rfl rfl rfl (by decide +kernel) rfl fun D =>
      j_aldn (pc := 275) D rfl rfl rfl fun D =>
      j_ic (pc := 276) D rfl fun D =>
      j_aldn (pc := 277) D rfl rfl rfl fun D =>
      j_gfc (pc := 278) (a := 303) D rfl rfl (by decide) rfl (s0_303 H) rfl (sf_300_303 H) fun D =>
      j_ild (pc := 281) D rfl rfl rfl fun D =>
      j_al (pc := 283) (a := 460) (e := 11) D rfl rfl rfl (by decide) (s0_460 H) (s1_460 H) ⟨rfl, rfl, rfl⟩ rfl (gy qb2) fun q D =>
      j_lld (pc := 284) D rfl rfl rfl fun D =>
      j_lsub (pc := 286) D rfl fun D =>
      j_ivv (pc := 287) (m := 347) (dd := 116) (a := [(0, 0), (1, wJ ((h1 11 460 x7.toNat) - x8))]) (rest := []) D rfl rfl rfl rfl rfl (by decide) (s0_303 H) (by decide +kernel) (fun h3 e1 D =>
        have T := fj_run_ok _ _ _ _ _ _ H.1 e1
        have H := shp_st H T
        j_aldn (pc := 290) D rfl rfl rfl fun D =>
        j_gfo (pc := 291) H.2.1 D rfl rfl rfl rfl fun kc6 D =>
        j_ild (pc := 294) D rfl rfl rfl fun D =>
        j_alp (pc := 296) (e := 5) H.2.1 D rfl rfl ⟨rfl, rfl, rfl⟩ rfl fun q q2 D =>
        j_aldn (pc := 297) D rfl rfl rfl fun D =>
        j_gf (pc := 298) (a := 303) D rfl rfl (by decide) rfl (s0_303 H) rfl fun D =>
        j_igt (pc := 301) D rfl (fun q =>
          have D : fk_D 464 [(325, none, .iconst 0, 1, 0, 0, 0)] := fq_of2 cd_464 ow_464 cl_464 rfl (pc := 325) (by decide +kernel)
          j_ic (pc := 325) D rfl fun D =>
          fk_jump cut_464_326 rfl rfl) (fun q D =>
          j_aldn (pc := 304) D rfl rfl rfl fun D =>
          j_gfc (pc := 305) (a := 303) D rfl rfl (by decide) rfl (s0_303 H) rfl (sf_209_303 H) fun D =>
          have D : fk_D 464 [(308, none, .aload_n 3, 1, 0, 0, 0), (309, none, .getfield 1068, 3, 382, 104, 12), (312, none, .iload 7, 2, 0, 0, 0), (314, none, .caload, 1, 0, 0, 0), (315, none, .aload_n 0, 1, 0, 0, 0), (316, none, .getfield 615, 3, 239, 100, 10), (319, none, .invokevirtual 1078, 3, 2, 196, 1), (322, none, .goto 4, 3, 326, 0, 0)] := fq_of2 cd_464 ow_464 cl_464 rfl (pc := 308) (by decide +kernel)
          j_aldn (pc := 308) D rfl rfl rfl fun D =>
          j_gf (pc := 309) (a := x3.toNat) D rfl rfl (nz_cls H.2.1 kc6 (by decide)) rfl kc6 rfl fun D =>
          j_ild (pc := 312) D rfl rfl rfl fun D =>
          j_alp (pc := 314) (e := 5) H.2.1 D rfl rfl ⟨rfl, rfl, rfl⟩ rfl fun q q2 D =>
          j_aldn (pc := 315) D rfl rfl rfl fun D =>
          j_gf (pc := 316) (a := 303) D rfl rfl (by decide) rfl (s0_303 H) rfl fun D =>
          j_iv (pc := 319) (m := 393) (dd := 196) (a := [(0, h3 5 (h3 382 x3.toNat 0).toNat x7.toNat), (0, h3 239 303 0)]) (rest := []) D rfl rfl rfl rfl rfl (by decide) (s0_306 H) (by decide +kernel) (fun v8 h7 e1 D =>
            have T := fj_run_ok _ _ _ _ _ _ H.1 e1
            have kc6 := cls_st H.1 T.2 kc6 (by decide)
            have H := shp_st H T
            j_goto (pc := 322) D rfl <|
            fk_jump cut_464_326 rfl rfl) (fun q9 h7 e1 =>
            j_tx (hx_464 _)))) (fun q5 h3 e1 =>
        j_tx (hx_464 _)))
theorem e_464_326 (d : Nat) (x1 x2 x3 x4 x5 x6 x7 x8 s0 : Int) {h : fi_H} (H : Shp h) : c_464_326 d x1 x2 x3 x4 x5 x6 x7 x8 s0 h =
  if 0 ≤ x7 ∧ x7 < 24 then
  if 0 < lc_ (h 11 460 x7.toNat) x8 then
    if s0 = 0 then
      c_464_418 d x1 x2 x3 x4 x5 x6 x7 h
    else
      cv_ (fj_run d 356 h [(4, 303), (0, 0), (1, h 11 315 0), (1, wI s0), (1, 1)])
        (fun h2 =>
        cv_ (fj_run d 356 h2 [(4, 303), (0, 0), (1, h2 11 315 0), (1, wI (h2 292 303 0)), (1, wI (h2 293 303 0))])
          (fun h5 =>
          lt_ (fi_upd h5 4 464 x7.toNat 1) fun h8 =>
          lt_ (fi_upd h8 11 461 x7.toNat (h8 11 315 0)) fun h9 =>
          c_464_415 d x1 x2 x3 x4 x5 x6 x7 h9)
          (fun q7 h5 => tx_ q7 h5))
        (fun q4 h2 => tx_ q4 h2)
  else
    c_464_418 d x1 x2 x3 x4 x5 x6 x7 h
  else none := by
  unfold c_464_326
  exact
    have D : fk_D 464 [(326, some [0, 1, 2, 3, 4, 5, 6, 7, 8], .istore 10, 2, 0, 0, 0), (328, none, .aload_n 0, 1, 0, 0, 0), (329, none, .getfield 734, 3, 300, 100, 12), (332, none, .iload 7, 2, 0, 0, 0), (334, none, .laload, 1, 0, 0, 0), (335, none, .lload 8, 2, 0, 0, 0), (337, none, .lcmp, 1, 0, 0, 0), (338, none, .ifCond .le 80, 3, 418, 0, 0), (341, none, .iload 10, 2, 0, 0, 0), (343, none, .ifCond .ne 6, 3, 349, 0, 0), (346, none, .goto 72, 3, 418, 0, 0)] := fq_of2 cd_464 ow_464 cl_464 rfl (pc := 326) (by decide +kernel)
    j_ist (pc := 326) (L' := [(10, (0, s0)), (0, (4, 303)), (1, (0, x1)), (2, (0, x2)), (3, (4, x3)), (4, (0, x4)), (5, (0, x5)), (6, (0, x6)), (7, (0, x7)), (8, (1, x8))]) D rfl nl_464 rfl rfl fun D =>
    j_aldn (pc := 328) D rfl rfl rfl fun D =>
    j_gfc (pc := 329) (a := 303) D rfl rfl (by decide) rfl (s0_303 H) rfl (sf_300_303 H) fun D =>
    j_ild (pc := 332) D rfl rfl rfl fun D =>
    j_al (pc := 334) (a := 460) (e := 11) D rfl rfl rfl (by decide) (s0_460 H) (s1_460 H) ⟨rfl, rfl, rfl⟩ rfl gn fun qb1 D =>
    j_lld (pc := 335) D rfl rfl rfl fun D =>
    j_lcmp (pc := 337) D rfl fun D =>
    j_ifle (pc := 338) D rfl (fun q D =>
      j_ild (pc := 341) D rfl rfl rfl fun D =>
      j_ifne (pc := 343) D rfl (fun q D =>
        j_goto (pc := 346) D rfl <|
        fk_jump cut_464_418 rfl rfl) (fun q =>
        have D : fk_D 464 [(349, none, .aload_n 0, 1, 0, 0, 0), (350, none, .iconst 0, 1, 0, 0, 0), (351, none, .aload_n 0, 1, 0, 0, 0), (352, none, .getfield 113, 3, 213, 100, 12), (355, none, .getfield 66, 3, 119, 119, 12), (358, none, .iconst 0, 1, 0, 0, 0), (359, none, .laload, 1, 0, 0, 0), (360, none, .iload 10, 2, 0, 0, 0), (362, none, .i2l, 1, 0, 0, 0), (363, none, .lconst 1, 1, 0, 0, 0), (364, none, .invokevirtual 187, 3, 4, 123, 0), (367, none, .aload_n 0, 1, 0, 0, 0), (368, none, .iconst 0, 1, 0, 0, 0), (369, none, .aload_n 0, 1, 0, 0, 0), (370, none, .getfield 113, 3, 213, 100, 12), (373, none, .getfield 66, 3, 119, 119, 12), (376, none, .iconst 0, 1, 0, 0, 0), (377, none, .laload, 1, 0, 0, 0), (378, none, .aload_n 0, 1, 0, 0, 0), (379, none, .getfield 710, 3, 292, 100, 10)] := fq_of2 cd_464 ow_464 cl_464 rfl (pc := 349) (by decide +kernel)
        j_aldn (pc := 349) D rfl rfl rfl fun D =>
        j_ic (pc := 350) D rfl fun D =>
        j_aldn (pc := 351) D rfl rfl rfl fun D =>
        j_gfc (pc := 352) (a := 303) D rfl rfl (by decide) rfl (s0_303 H) rfl (sf_213_303 H) fun D =>
        j_gfc (pc := 355) (a := 309) D rfl rfl (by decide) rfl (s0_309 H) rfl (sf_119_309 H) fun D =>
        j_ic (pc := 358) D rfl fun D =>
        j_al (pc := 359) (a := 315) (e := 11) D rfl rfl rfl (by decide) (s0_315 H) (s1_315 H) ⟨rfl, rfl, rfl⟩ rfl (gy (by decide)) fun q D =>
        j_ild (pc := 360) D rfl rfl rfl fun D =>
        j_i2l (pc := 362) D rfl fun D =>
        j_c0 (pc := 363) (v := (1, 1)) D rfl rfl (by decide +kernel) fun D =>
        j_ivv (pc := 364) (m := 356) (dd := 123) (a := [(0, 0), (1, h 11 315 0), (1, wI s0), (1, 1)]) (rest := []) D rfl rfl rfl rfl rfl (by decide) (s0_303 H) (by decide +kernel) (fun h2 e1 D =>
          have T := fj_run_ok _ _ _ _ _ _ H.1 e1
          have H := shp_st H T
          j_aldn (pc := 367) D rfl rfl rfl fun D =>
          j_ic (pc := 368) D rfl fun D =>
          j_aldn (pc := 369) D rfl rfl rfl fun D =>
          j_gfc (pc := 370) (a := 303) D rfl rfl (by decide) rfl (s0_303 H) rfl (sf_213_303 H) fun D =>
          j_gfc (pc := 373) (a := 309) D rfl rfl (by decide) rfl (s0_309 H) rfl (sf_119_309 H) fun D =>
          j_ic (pc := 376) D rfl fun D =>
          j_al (pc := 377) (a := 315) (e := 11) D rfl rfl rfl (by decide) (s0_315 H) (s1_315 H) ⟨rfl, rfl, rfl⟩ rfl (gy (by decide)) fun q D =>
          j_aldn (pc := 378) D rfl rfl rfl fun D =>
          j_gf (pc := 379) (a := 303) D rfl rfl (by decide) rfl (s0_303 H) rfl fun D =>
          have D : fk_D 464 [(382, none, .i2l, 1, 0, 0, 0), (383, none, .aload_n 0, 1, 0, 0, 0), (384, none, .getfield 713, 3, 293, 100, 10), (387, none, .i2l, 1, 0, 0, 0), (388, none, .invokevirtual 187, 3, 4, 123, 0), (391, none, .aload_n 0, 1, 0, 0, 0), (392, none, .getfield 746, 3, 304, 100, 12), (395, none, .iload 7, 2, 0, 0, 0), (397, none, .iconst 1, 1, 0, 1, 0), (398, none, .bastore, 1, 0, 0, 0), (399, none, .aload_n 0, 1, 0, 0, 0), (400, none, .getfield 737, 3, 301, 100, 12), (403, none, .iload 7, 2, 0, 0, 0), (405, none, .aload_n 0, 1, 0, 0, 0), (406, none, .getfield 113, 3, 213, 100, 12), (409, none, .getfield 66, 3, 119, 119, 12), (412, none, .iconst 0, 1, 0, 0, 0), (413, none, .laload, 1, 0, 0, 0), (414, none, .lastore, 1, 0, 0, 0)] := fq_of2 cd_464 ow_464 cl_464 rfl (pc := 382) (by decide +kernel)
          j_i2l (pc := 382) D rfl fun D =>
          j_aldn (pc := 383) D rfl rfl rfl fun D =>
          j_gf (pc := 384) (a := 303) D rfl rfl (by decide) rfl (s0_303 H) rfl fun D =>
          j_i2l (pc := 387) D rfl fun D =>
          j_ivv (pc := 388) (m := 356) (dd := 123) (a := [(0, 0), (1, h2 11 315 0), (1, wI (h2 292 303 0)), (1, wI (h2 293 303 0))]) (rest := []) D rfl rfl rfl rfl rfl (by decide) (s0_303 H) (by decide +kernel) (fun h5 e1 D =>
            have T := fj_run_ok _ _ _ _ _ _ H.1 e1
            have H := shp_st H T
            j_aldn (pc := 391) D rfl rfl rfl fun D =>
            j_gfc (pc := 392) (a := 303) D rfl rfl (by decide) rfl (s0_303 H) rfl (sf_304_303 H) fun D =>
            j_ild (pc := 395) D rfl rfl rfl fun D =>
            j_ic (pc := 397) D rfl fun D =>
            j_as (pc := 398) (a := 464) (e := 4) D rfl ⟨rfl, rfl⟩ rfl (by decide) (s0_464 H) (s1_464 H) ⟨rfl, rfl, rfl⟩ rfl (gy qb1) (gy (by decide)) fun h8 eh8 S q D =>
            have T := fj_hs_ok H.1 S
            have H := shp_st H T
            j_aldn (pc := 399) D rfl rfl rfl fun D =>
            j_gfc (pc := 400) (a := 303) D rfl rfl (by decide) rfl (s0_303 H) rfl (sf_301_303 H) fun D =>
            j_ild (pc := 403) D rfl rfl rfl fun D =>
            j_aldn (pc := 405) D rfl rfl rfl fun D =>
            j_gfc (pc := 406) (a := 303) D rfl rfl (by decide) rfl (s0_303 H) rfl (sf_213_303 H) fun D =>
            j_gfc (pc := 409) (a := 309) D rfl rfl (by decide) rfl (s0_309 H) rfl (sf_119_309 H) fun D =>
            j_ic (pc := 412) D rfl fun D =>
            j_al (pc := 413) (a := 315) (e := 11) D rfl rfl rfl (by decide) (s0_315 H) (s1_315 H) ⟨rfl, rfl, rfl⟩ rfl (gy (by decide)) fun q D =>
            j_as (pc := 414) (a := 461) (e := 11) D rfl ⟨rfl, rfl⟩ rfl (by decide) (s0_461 H) (s1_461 H) ⟨rfl, rfl, rfl⟩ rfl (gy qb1) (gy rfl) fun h9 eh9 S q D =>
            have T := fj_hs_ok H.1 S
            have H := shp_st H T
            fk_jump cut_464_415 rfl rfl) (fun q7 h5 e1 =>
            j_tx (hx_464 _))) (fun q4 h2 e1 =>
          j_tx (hx_464 _)))) (fun q =>
      fk_jump cut_464_418 rfl rfl)
theorem e_464_415 (d : Nat) (x1 x2 x3 x4 x5 x6 x7 : Int) {h : fi_H} (H : Shp h) : c_464_415 d x1 x2 x3 x4 x5 x6 x7 h =
  c_464_418 d x1 x2 x3 x4 x5 (wI (x6 + 1)) x7 h := by
  unfold c_464_415
  exact
    have D : fk_D 464 [(415, some [0, 1, 2, 3, 4, 5, 6, 7], .iinc 6 1, 3, 0, 1, 0)] := fq_of2 cd_464 ow_464 cl_464 rfl (pc := 415) (by decide +kernel)
    j_inc (pc := 415) (L' := [(6, (0, wI (x6 + 1))), (0, (4, 303)), (1, (0, x1)), (2, (0, x2)), (3, (4, x3)), (4, (0, x4)), (5, (0, x5)), (7, (0, x7))]) D rfl rfl rfl (by decide +kernel) rfl fun D =>
    fk_jump cut_464_418 rfl rfl
theorem e_464_418 (d : Nat) (x1 x2 x3 x4 x5 x6 x7 : Int) {h : fi_H} (H : Shp h) : c_464_418 d x1 x2 x3 x4 x5 x6 x7 h =
  c_464_158 d x1 x2 x3 x4 x5 x6 (wI (x7 + 1)) h := by
  unfold c_464_418
  exact
    have D : fk_D 464 [(418, some [0, 1, 2, 3, 4, 5, 6, 7], .iinc 7 1, 3, 0, 1, 0), (421, none, .goto (-263), 3, 158, 0, 0)] := fq_of2 cd_464 ow_464 cl_464 rfl (pc := 418) (by decide +kernel)
    j_inc (pc := 418) (L' := [(7, (0, wI (x7 + 1))), (0, (4, 303)), (1, (0, x1)), (2, (0, x2)), (3, (4, x3)), (4, (0, x4)), (5, (0, x5)), (6, (0, x6))]) D rfl rfl rfl (by decide +kernel) rfl fun D =>
    j_goto (pc := 421) D rfl <|
    fk_jump cut_464_158 rfl rfl
theorem e_464_443 (d : Nat) (x1 x3 x4 x5 x7 : Int) {h : fi_H} (H : Shp h) : c_464_443 d x1 x3 x4 x5 x7 h =
  if h 0 x3.toNat 0 = 104 then
  if fk_isA (h 0 (h 381 x3.toNat 0).toNat 0) = true then
  if x7 < h 1 (h 381 x3.toNat 0).toNat 0 then
    if 0 ≤ x7 ∧ x7 < 24 then
    if h 4 463 x7.toNat = 0 then
      c_464_532 d x1 x3 x4 x5 x7 h
    else
      if h 0 (h 381 x3.toNat 0).toNat 0 = 11 ∧ 0 ≤ x7 ∧ x7 < h 1 (h 381 x3.toNat 0).toNat 0 then
      cv_ (fj_run d 454 h [(4, 303), (0, x1), (0, x7), (1, wJ ((h 11 460 x7.toNat) - (h 11 (h 381 x3.toNat 0).toNat x7.toNat))), (0, x4), (0, 1)])
        (fun h3 =>
        if h3 4 464 x7.toNat = 0 then
          c_464_518 d x1 x3 x4 x5 x7 h3
        else
          cv_ (fj_run d 454 h3 [(4, 303), (0, x1), (0, x7), (1, h3 11 461 x7.toNat), (0, x4), (0, 2)])
            (fun h6 =>
            c_464_518 d x1 x3 x4 x5 x7 h6)
            (fun q8 h6 => tx_ q8 h6))
        (fun q5 h3 => tx_ q5 h3)
      else none
    else none
  else
    cv_ (fj_run d 449 h [(4, 303), (0, h 375 x3.toNat 0)])
      (fun h9 =>
      some (.inl (some (0, x5)), h9))
      (fun q11 h9 => tx_ q11 h9)
  else none
  else none := by
  unfold c_464_443
  exact
    have D : fk_D 464 [(443, some [0, 1, 3, 4, 5, 7], .iload 7, 2, 0, 0, 0), (445, none, .aload_n 3, 1, 0, 0, 0), (446, none, .getfield 1065, 3, 381, (-104), 12), (449, none, .arraylength, 1, 0, 0, 0), (450, none, .if_icmp .ge 88, 3, 538, 0, 0), (453, none, .aload_n 0, 1, 0, 0, 0), (454, none, .getfield 743, 3, 303, 100, 12), (457, none, .iload 7, 2, 0, 0, 0), (459, none, .baload, 1, 0, 0, 0), (460, none, .ifCond .ne 6, 3, 466, 0, 0), (463, none, .goto 69, 3, 532, 0, 0)] := fq_of2 cd_464 ow_464 cl_464 rfl (pc := 443) (by decide +kernel)
    j_ild (pc := 443) D rfl rfl rfl fun D =>
    j_aldn (pc := 445) D rfl rfl rfl fun D =>
    j_gfo (pc := 446) H.2.1 D rfl rfl rfl rfl fun kc1 D =>
    j_lenu (pc := 449) H.2.1 D rfl fun q D =>
    j_ige (pc := 450) D rfl (fun q D =>
      j_aldn (pc := 453) D rfl rfl rfl fun D =>
      j_gfc (pc := 454) (a := 303) D rfl rfl (by decide) rfl (s0_303 H) rfl (sf_303_303 H) fun D =>
      j_ild (pc := 457) D rfl rfl rfl fun D =>
      j_al (pc := 459) (a := 463) (e := 4) D rfl rfl rfl (by decide) (s0_463 H) (s1_463 H) ⟨rfl, rfl, rfl⟩ rfl gn fun qb2 D =>
      j_ifne (pc := 460) D rfl (fun q D =>
        j_goto (pc := 463) D rfl <|
        fk_jump cut_464_532 rfl rfl) (fun q =>
        have D : fk_D 464 [(466, none, .aload_n 0, 1, 0, 0, 0), (467, none, .iload_n 1, 1, 0, 0, 0), (468, none, .iload 7, 2, 0, 0, 0), (470, none, .aload_n 0, 1, 0, 0, 0), (471, none, .getfield 734, 3, 300, 100, 12), (474, none, .iload 7, 2, 0, 0, 0), (476, none, .laload, 1, 0, 0, 0), (477, none, .aload_n 3, 1, 0, 0, 0), (478, none, .getfield 1065, 3, 381, 104, 12), (481, none, .iload 7, 2, 0, 0, 0), (483, none, .laload, 1, 0, 0, 0), (484, none, .lsub, 1, 0, 0, 0), (485, none, .iload 4, 2, 0, 0, 0), (487, none, .iconst 1, 1, 0, 1, 0), (488, none, .invokevirtual 1049, 3, 5, 191, 0), (491, none, .aload_n 0, 1, 0, 0, 0), (492, none, .getfield 746, 3, 304, 100, 12), (495, none, .iload 7, 2, 0, 0, 0), (497, none, .baload, 1, 0, 0, 0), (498, none, .ifCond .eq 20, 3, 518, 0, 0)] := fq_of2 cd_464 ow_464 cl_464 rfl (pc := 466) (by decide +kernel)
        j_aldn (pc := 466) D rfl rfl rfl fun D =>
        j_ildn (pc := 467) D rfl rfl rfl fun D =>
        j_ild (pc := 468) D rfl rfl rfl fun D =>
        j_aldn (pc := 470) D rfl rfl rfl fun D =>
        j_gfc (pc := 471) (a := 303) D rfl rfl (by decide) rfl (s0_303 H) rfl (sf_300_303 H) fun D =>
        j_ild (pc := 474) D rfl rfl rfl fun D =>
        j_al (pc := 476) (a := 460) (e := 11) D rfl rfl rfl (by decide) (s0_460 H) (s1_460 H) ⟨rfl, rfl, rfl⟩ rfl (gy qb2) fun q D =>
        j_aldn (pc := 477) D rfl rfl rfl fun D =>
        j_gf (pc := 478) (a := x3.toNat) D rfl rfl (nz_cls H.2.1 kc1 (by decide)) rfl kc1 rfl fun D =>
        j_ild (pc := 481) D rfl rfl rfl fun D =>
        j_alp (pc := 483) (e := 11) H.2.1 D rfl rfl ⟨rfl, rfl, rfl⟩ rfl fun q q2 D =>
        j_lsub (pc := 484) D rfl fun D =>
        j_ild (pc := 485) D rfl rfl rfl fun D =>
        j_ic (pc := 487) D rfl fun D =>
        j_ivv (pc := 488) (m := 454) (dd := 191) (a := [(0, x1), (0, x7), (1, wJ ((h 11 460 x7.toNat) - (h 11 (h 381 x3.toNat 0).toNat x7.toNat))), (0, x4), (0, 1)]) (rest := []) D rfl rfl rfl rfl rfl (by decide) (s0_303 H) (by decide +kernel) (fun h3 e1 D =>
          have T := fj_run_ok _ _ _ _ _ _ H.1 e1
          have kc1 := cls_st H.1 T.2 kc1 (by decide)
          have H := shp_st H T
          j_aldn (pc := 491) D rfl rfl rfl fun D =>
          j_gfc (pc := 492) (a := 303) D rfl rfl (by decide) rfl (s0_303 H) rfl (sf_304_303 H) fun D =>
          j_ild (pc := 495) D rfl rfl rfl fun D =>
          j_al (pc := 497) (a := 464) (e := 4) D rfl rfl rfl (by decide) (s0_464 H) (s1_464 H) ⟨rfl, rfl, rfl⟩ rfl (gy qb2) fun q D =>
          j_ifeq (pc := 498) D rfl (fun q =>
            fk_jump cut_464_518 rfl rfl) (fun q D =>
            have D : fk_D 464 [(501, none, .aload_n 0, 1, 0, 0, 0), (502, none, .iload_n 1, 1, 0, 0, 0), (503, none, .iload 7, 2, 0, 0, 0), (505, none, .aload_n 0, 1, 0, 0, 0), (506, none, .getfield 737, 3, 301, 100, 12), (509, none, .iload 7, 2, 0, 0, 0), (511, none, .laload, 1, 0, 0, 0), (512, none, .iload 4, 2, 0, 0, 0), (514, none, .iconst 2, 1, 0, 2, 0), (515, none, .invokevirtual 1049, 3, 5, 191, 0)] := fq_of2 cd_464 ow_464 cl_464 rfl (pc := 501) (by decide +kernel)
            j_aldn (pc := 501) D rfl rfl rfl fun D =>
            j_ildn (pc := 502) D rfl rfl rfl fun D =>
            j_ild (pc := 503) D rfl rfl rfl fun D =>
            j_aldn (pc := 505) D rfl rfl rfl fun D =>
            j_gfc (pc := 506) (a := 303) D rfl rfl (by decide) rfl (s0_303 H) rfl (sf_301_303 H) fun D =>
            j_ild (pc := 509) D rfl rfl rfl fun D =>
            j_al (pc := 511) (a := 461) (e := 11) D rfl rfl rfl (by decide) (s0_461 H) (s1_461 H) ⟨rfl, rfl, rfl⟩ rfl (gy qb2) fun q D =>
            j_ild (pc := 512) D rfl rfl rfl fun D =>
            j_ic (pc := 514) D rfl fun D =>
            j_ivv (pc := 515) (m := 454) (dd := 191) (a := [(0, x1), (0, x7), (1, h3 11 461 x7.toNat), (0, x4), (0, 2)]) (rest := []) D rfl rfl rfl rfl rfl (by decide) (s0_303 H) (by decide +kernel) (fun h6 e1 D =>
              have T := fj_run_ok _ _ _ _ _ _ H.1 e1
              have kc1 := cls_st H.1 T.2 kc1 (by decide)
              have H := shp_st H T
              fk_jump cut_464_518 rfl rfl) (fun q8 h6 e1 =>
              j_tx (hx_464 _)))) (fun q5 h3 e1 =>
          j_tx (hx_464 _)))) (fun q =>
      have D : fk_D 464 [(538, none, .aload_n 0, 1, 0, 0, 0), (539, none, .aload_n 3, 1, 0, 0, 0), (540, none, .getfield 1022, 3, 375, 104, 10), (543, none, .invokevirtual 1040, 3, 1, 188, 0), (546, none, .iload 5, 2, 0, 0, 0), (548, none, .ireturn, 1, 0, 0, 0)] := fq_of2 cd_464 ow_464 cl_464 rfl (pc := 538) (by decide +kernel)
      j_aldn (pc := 538) D rfl rfl rfl fun D =>
      j_aldn (pc := 539) D rfl rfl rfl fun D =>
      j_gf (pc := 540) (a := x3.toNat) D rfl rfl (nz_cls H.2.1 kc1 (by decide)) rfl kc1 rfl fun D =>
      j_ivv (pc := 543) (m := 449) (dd := 188) (a := [(0, h 375 x3.toNat 0)]) (rest := []) D rfl rfl rfl rfl rfl (by decide) (s0_303 H) (by decide +kernel) (fun h9 e1 D =>
        have T := fj_run_ok _ _ _ _ _ _ H.1 e1
        have kc1 := cls_st H.1 T.2 kc1 (by decide)
        have H := shp_st H T
        j_ild (pc := 546) D rfl rfl rfl fun D =>
        j_iret D rt_464) (fun q11 h9 e1 =>
        j_tx (hx_464 _)))
theorem e_464_518 (d : Nat) (x1 x3 x4 x5 x7 : Int) {h : fi_H} (H : Shp h) : c_464_518 d x1 x3 x4 x5 x7 h =
  if h 0 x3.toNat 0 = 104 then
  if 0 ≤ x7 ∧ x7 < 24 then
  if 302 < h 381 x3.toNat 0 ∧ h 0 (h 381 x3.toNat 0).toNat 0 = 11 then
  if 0 ≤ x7 ∧ x7 < h 1 (h 381 x3.toNat 0).toNat 0 then
  lt_ (fi_upd h 11 (h 381 x3.toNat 0).toNat x7.toNat (h 11 460 x7.toNat)) fun h3 =>
  c_464_532 d x1 x3 x4 x5 x7 h3
  else none
  else none
  else none
  else none := by
  unfold c_464_518
  exact
    have D : fk_D 464 [(518, some [0, 1, 3, 4, 5, 7], .aload_n 3, 1, 0, 0, 0), (519, none, .getfield 1065, 3, 381, (-104), 12), (522, none, .iload 7, 2, 0, 0, 0), (524, none, .aload_n 0, 1, 0, 0, 0), (525, none, .getfield 734, 3, 300, 100, 12), (528, none, .iload 7, 2, 0, 0, 0), (530, none, .laload, 1, 0, 0, 0), (531, none, .lastore, 1, 0, 0, 0)] := fq_of2 cd_464 ow_464 cl_464 rfl (pc := 518) (by decide +kernel)
    j_aldn (pc := 518) D rfl rfl rfl fun D =>
    j_gfo (pc := 519) H.2.1 D rfl rfl rfl rfl fun kc1 D =>
    j_ild (pc := 522) D rfl rfl rfl fun D =>
    j_aldn (pc := 524) D rfl rfl rfl fun D =>
    j_gfc (pc := 525) (a := 303) D rfl rfl (by decide) rfl (s0_303 H) rfl (sf_300_303 H) fun D =>
    j_ild (pc := 528) D rfl rfl rfl fun D =>
    j_al (pc := 530) (a := 460) (e := 11) D rfl rfl rfl (by decide) (s0_460 H) (s1_460 H) ⟨rfl, rfl, rfl⟩ rfl gn fun qb2 D =>
    j_asu (pc := 531) (e := 11) D rfl rfl ⟨rfl, rfl, rfl⟩ rfl gn gn (gy rfl) fun h3 eh3 S q q2 D =>
    have T := fj_hs_ok H.1 S
    have kc1 := cls_st H.1 T.2 kc1 (by decide)
    have H := shp_st H T
    fk_jump cut_464_532 rfl rfl
theorem e_464_532 (d : Nat) (x1 x3 x4 x5 x7 : Int) {h : fi_H} (H : Shp h) : c_464_532 d x1 x3 x4 x5 x7 h =
  c_464_443 d x1 x3 x4 x5 (wI (x7 + 1)) h := by
  unfold c_464_532
  exact
    have D : fk_D 464 [(532, some [0, 1, 3, 4, 5, 7], .iinc 7 1, 3, 0, 1, 0), (535, none, .goto (-92), 3, 443, 0, 0)] := fq_of2 cd_464 ow_464 cl_464 rfl (pc := 532) (by decide +kernel)
    j_inc (pc := 532) (L' := [(7, (0, wI (x7 + 1))), (0, (4, 303)), (1, (0, x1)), (3, (4, x3)), (4, (0, x4)), (5, (0, x5))]) D rfl rfl rfl (by decide +kernel) rfl fun D =>
    j_goto (pc := 535) D rfl <|
    fk_jump cut_464_443 rfl rfl
theorem m_464 (d : Nat) (x1 x2 : Int) {h : fi_H} (H : Shp h) : fj_run (d + 1) 464 h [(4, 303), (0, x1), (0, x2)] =
  if 0 ≤ x1 ∧ x1 < 30 then
  cv_ (fj_run d 307 h [(4, 303), (0, h 239 303 0), (0, 0)])
    (fun h2 =>
    ca_ (fj_run d 453 h2 [(4, 303), (0, h2 239 303 0)]) 0
      (fun v6 h5 =>
      c_464_32 d x1 x2 (h 12 453 x1.toNat) v6 0 0 h5)
      (fun q7 h5 => tx_ q7 h5))
    (fun q4 h2 => tx_ q4 h2)
  else none := by
  rw [fj_run_eq d (by decide) h [(4, 303), (0, x1), (0, x2)] (Nat.le_of_ble_eq_true (by rw [nl_464]; rfl))]
  show gG (fj_run d) 464 0 [(0, (4, 303)), (1, (0, x1)), (2, (0, x2))] [] h = _
  exact
    have D : fk_D 464 [(0, none, .aload_n 0, 1, 0, 0, 0), (1, none, .getfield 703, 3, 288, 100, 12), (4, none, .iload_n 1, 1, 0, 0, 0), (5, none, .aaload, 1, 0, 0, 0), (6, none, .astore_n 3, 1, 0, 0, 0), (7, none, .aload_n 0, 1, 0, 0, 0), (8, none, .aload_n 0, 1, 0, 0, 0), (9, none, .getfield 615, 3, 239, 100, 10), (12, none, .iconst 0, 1, 0, 0, 0), (13, none, .invokevirtual 881, 3, 2, 170, 0), (16, none, .aload_n 0, 1, 0, 0, 0), (17, none, .aload_n 0, 1, 0, 0, 0), (18, none, .getfield 615, 3, 239, 100, 10), (21, none, .invokevirtual 1046, 3, 1, 190, 1), (24, none, .istore 4, 2, 0, 0, 0), (26, none, .iconst 0, 1, 0, 0, 0), (27, none, .istore 5, 2, 0, 0, 0), (29, none, .iconst 0, 1, 0, 0, 0), (30, none, .istore 6, 2, 0, 0, 0)] := fq_of2 cd_464 ow_464 cl_464 rfl (pc := 0) (by decide +kernel)
    j_aldn (pc := 0) D rfl rfl rfl fun D =>
    j_gfc (pc := 1) (a := 303) D rfl rfl (by decide) rfl (s0_303 H) rfl (sf_288_303 H) fun D =>
    j_ildn (pc := 4) D rfl rfl rfl fun D =>
    j_al (pc := 5) (a := 453) (e := 12) D rfl rfl rfl (by decide) (s0_453 H) (s1_453 H) ⟨rfl, rfl, rfl⟩ rfl gn fun qb1 D =>
    j_astn (pc := 6) (L' := [(3, (4, h 12 453 x1.toNat)), (0, (4, 303)), (1, (0, x1)), (2, (0, x2))]) D rfl nl_464 rfl rfl fun D =>
    j_aldn (pc := 7) D rfl rfl rfl fun D =>
    j_aldn (pc := 8) D rfl rfl rfl fun D =>
    j_gf (pc := 9) (a := 303) D rfl rfl (by decide) rfl (s0_303 H) rfl fun D =>
    j_ic (pc := 12) D rfl fun D =>
    j_ivv (pc := 13) (m := 307) (dd := 170) (a := [(0, h 239 303 0), (0, 0)]) (rest := []) D rfl rfl rfl rfl rfl (by decide) (s0_303 H) (by decide +kernel) (fun h2 e1 D =>
      have T := fj_run_ok _ _ _ _ _ _ H.1 e1
      have H := shp_st H T
      j_aldn (pc := 16) D rfl rfl rfl fun D =>
      j_aldn (pc := 17) D rfl rfl rfl fun D =>
      j_gf (pc := 18) (a := 303) D rfl rfl (by decide) rfl (s0_303 H) rfl fun D =>
      j_iv (pc := 21) (m := 453) (dd := 190) (a := [(0, h2 239 303 0)]) (rest := []) D rfl rfl rfl rfl rfl (by decide) (s0_303 H) (by decide +kernel) (fun v6 h5 e1 D =>
        have T := fj_run_ok _ _ _ _ _ _ H.1 e1
        have H := shp_st H T
        j_ist (pc := 24) (L' := [(4, (0, v6)), (3, (4, h 12 453 x1.toNat)), (0, (4, 303)), (1, (0, x1)), (2, (0, x2))]) D rfl nl_464 rfl rfl fun D =>
        j_ic (pc := 26) D rfl fun D =>
        j_ist (pc := 27) (L' := [(5, (0, 0)), (4, (0, v6)), (3, (4, h 12 453 x1.toNat)), (0, (4, 303)), (1, (0, x1)), (2, (0, x2))]) D rfl nl_464 rfl rfl fun D =>
        j_ic (pc := 29) D rfl fun D =>
        j_ist (pc := 30) (L' := [(6, (0, 0)), (5, (0, 0)), (4, (0, v6)), (3, (4, h 12 453 x1.toNat)), (0, (4, 303)), (1, (0, x1)), (2, (0, x2))]) D rfl nl_464 rfl rfl fun D =>
        fk_jump cut_464_32 rfl rfl) (fun q7 h5 e1 =>
        j_tx (hx_464 _))) (fun q4 h2 e1 =>
      j_tx (hx_464 _))
/-! 465 StatuteHouse.revise(I)I -/
theorem cd_465 : fi_code 465 = prog_1_method_111_code := rfl
theorem rt_465 : fi_ret 465 = some .int := rfl
theorem nl_465 : fi_nl 465 = 3 := rfl
theorem ow_465 : fi_ow 465 = 0 := rfl
theorem cl_465 : fj_cutT.getD 465 [] = [(33, [])] := rfl
theorem cut_465_33 : fj_cut 465 33 = some [] := by decide +kernel
noncomputable def c_465_33 (d : Nat) (s0 : Int) (h : fi_H) : fk_R := gG (fj_run d) 465 33 [] [(4, s0)] h
theorem e_465_33 (d : Nat) (s0 : Int) {h : fi_H} (H : Shp h) : c_465_33 d s0 h =
  if h 0 s0.toNat 0 = 107 then
  some (.inl (some (0, wI ((-10) - (h 110 s0.toNat 0)))), h)
  else none := by
  unfold c_465_33
  exact
    have D : fk_D 465 [(33, some [], .astore_n 2, 1, 0, 0, 0), (34, none, .bipush (-10), 2, 0, (-10), 0), (36, none, .aload_n 2, 1, 0, 0, 0), (37, none, .getfield 311, 3, 110, (-107), 10), (40, none, .isub, 1, 0, 0, 0), (41, none, .ireturn, 1, 0, 0, 0)] := fq_of2 cd_465 ow_465 cl_465 rfl (pc := 33) (by decide +kernel)
    j_astn (pc := 33) (L' := [(2, (4, s0))]) D rfl nl_465 rfl rfl fun D =>
    j_bp (pc := 34) D rfl fun D =>
    j_aldn (pc := 36) D rfl rfl rfl fun D =>
    j_gfo (pc := 37) H.2.1 D rfl rfl rfl rfl fun kc1 D =>
    j_isub (pc := 40) D rfl fun D =>
    j_iret D rt_465
theorem m_465 (d : Nat) (x1 : Int) {h : fi_H} (H : Shp h) : fj_run (d + 1) 465 h [(4, 303), (0, x1)] =
  ca_ (fj_run d 462 h [(4, 303), (0, x1)]) 0
    (fun v2 h1 =>
    if v2 = 0 then
      some (.inl (some (0, (-1))), h1)
    else
      if 0 ≤ x1 ∧ x1 < 30 then
      if h1 0 (h1 12 453 x1.toNat).toNat 0 = 104 then
      if h1 380 (h1 12 453 x1.toNat).toNat 0 = 1 then
        some (.inl (some (0, (-3))), h1)
      else
        ca_ (fj_run d 464 h1 [(4, 303), (0, x1), (0, 0)]) 0
          (fun v7 h6 =>
          some (.inl (some (0, v7)), h6))
          (fun q8 h6 => tc_ 107 q8 h6 (c_465_33 d (q8 : Int) h6))
      else none
      else none)
    (fun q3 h1 => tx_ q3 h1) := by
  rw [fj_run_eq d (by decide) h [(4, 303), (0, x1)] (Nat.le_of_ble_eq_true (by rw [nl_465]; rfl))]
  show gG (fj_run d) 465 0 [(0, (4, 303)), (1, (0, x1))] [] h = _
  exact
    have D : fk_D 465 [(0, none, .aload_n 0, 1, 0, 0, 0), (1, none, .iload_n 1, 1, 0, 0, 0), (2, none, .invokevirtual 1071, 3, 1, 195, 1), (5, none, .ifCond .ne 5, 3, 10, 0, 0), (8, none, .iconst (-1), 1, 0, (-1), 0), (9, none, .ireturn, 1, 0, 0, 0)] := fq_of2 cd_465 ow_465 cl_465 rfl (pc := 0) (by decide +kernel)
    j_aldn (pc := 0) D rfl rfl rfl fun D =>
    j_ildn (pc := 1) D rfl rfl rfl fun D =>
    j_iv (pc := 2) (m := 462) (dd := 195) (a := [(0, x1)]) (rest := []) D rfl rfl rfl rfl rfl (by decide) (s0_303 H) (by decide +kernel) (fun v2 h1 e1 D =>
      have T := fj_run_ok _ _ _ _ _ _ H.1 e1
      have H := shp_st H T
      j_ifne (pc := 5) D rfl (fun q D =>
        j_ic (pc := 8) D rfl fun D =>
        j_iret D rt_465) (fun q =>
        have D : fk_D 465 [(10, none, .aload_n 0, 1, 0, 0, 0), (11, none, .getfield 703, 3, 288, 100, 12), (14, none, .iload_n 1, 1, 0, 0, 0), (15, none, .aaload, 1, 0, 0, 0), (16, none, .getfield 917, 3, 380, (-104), 10), (19, none, .iconst 1, 1, 0, 1, 0), (20, none, .if_icmp .ne 6, 3, 26, 0, 0), (23, none, .bipush (-3), 2, 0, (-3), 0), (25, none, .ireturn, 1, 0, 0, 0)] := fq_of2 cd_465 ow_465 cl_465 rfl (pc := 10) (by decide +kernel)
        j_aldn (pc := 10) D rfl rfl rfl fun D =>
        j_gfc (pc := 11) (a := 303) D rfl rfl (by decide) rfl (s0_303 H) rfl (sf_288_303 H) fun D =>
        j_ildn (pc := 14) D rfl rfl rfl fun D =>
        j_al (pc := 15) (a := 453) (e := 12) D rfl rfl rfl (by decide) (s0_453 H) (s1_453 H) ⟨rfl, rfl, rfl⟩ rfl gn fun qb4 D =>
        j_gfo (pc := 16) H.2.1 D rfl rfl rfl rfl fun kc5 D =>
        j_ic (pc := 19) D rfl fun D =>
        j_ine (pc := 20) D rfl (fun q D =>
          j_bp (pc := 23) D rfl fun D =>
          j_iret D rt_465) (fun q =>
          have D : fk_D 465 [(26, none, .aload_n 0, 1, 0, 0, 0), (27, none, .iload_n 1, 1, 0, 0, 0), (28, none, .iconst 0, 1, 0, 0, 0), (29, none, .invokevirtual 1080, 3, 2, 197, 1), (32, none, .ireturn, 1, 0, 0, 0)] := fq_of2 cd_465 ow_465 cl_465 rfl (pc := 26) (by decide +kernel)
          j_aldn (pc := 26) D rfl rfl rfl fun D =>
          j_ildn (pc := 27) D rfl rfl rfl fun D =>
          j_ic (pc := 28) D rfl fun D =>
          j_iv (pc := 29) (m := 464) (dd := 197) (a := [(0, x1), (0, 0)]) (rest := []) D rfl rfl rfl rfl rfl (by decide) (s0_303 H) (by decide +kernel) (fun v7 h6 e1 D =>
            have T := fj_run_ok _ _ _ _ _ _ H.1 e1
            have H := shp_st H T
            j_iret D rt_465) (fun q8 h6 e1 =>
            j_tc_ (n := 107) (fk_at (cu := none) (by decide +kernel) rfl) (s := 26) (e := 32) (hp := 33) (ct := 312) (by decide +kernel) rfl (by decide +kernel) <|
            fk_jump cut_465_33 rfl rfl)))) (fun q3 h1 e1 =>
      j_tx (by decide +kernel))
