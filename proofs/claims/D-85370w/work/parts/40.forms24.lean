/-! forms of methods 616..636, printed by gen/forms.py -/
set_option maxRecDepth 100000
/-! 616 StatuteHouseModel.workTwo(II)V -/
theorem cd_616 : fi_code 616 = prog_69_method_117_code := rfl
theorem hx_616 : ∀ pc, fi_hat 616 pc = none := fun pc => by unfold fi_hat; rw [show fi_hh 616 = [] from rfl]; rfl
theorem rt_616 : fi_ret 616 = none := rfl
theorem nl_616 : fi_nl 616 = 10 := rfl
theorem ow_616 : fi_ow 616 = 29 := rfl
theorem cl_616 : fj_cutT.getD 616 [] = [(57, [0, 2, 3, 5, 7, 8]), (67, [0, 2, 3, 5, 7, 8]), (129, [0, 2]), (133, [0, 2]), (134, [0, 2]), (149, []), (157, []), (263, []), (269, [0, 2, 3, 5, 7, 8])] := rfl
theorem cut_616_57 : fj_cut 616 57 = some [0, 2, 3, 5, 7, 8] := by decide +kernel
noncomputable def c_616_57 (d : Nat) (x2 x3 x5 x7 x8 : Int) (h : fi_H) : fk_R := gG (fj_run d) 616 57 [(0, (4, 602)), (2, (0, x2)), (3, (1, x3)), (5, (1, x5)), (7, (0, x7)), (8, (0, x8))] [] h
theorem cut_616_67 : fj_cut 616 67 = some [0, 2, 3, 5, 7, 8] := by decide +kernel
noncomputable def c_616_67 (d : Nat) (x2 x3 x5 x7 x8 : Int) (h : fi_H) : fk_R := gG (fj_run d) 616 67 [(0, (4, 602)), (2, (0, x2)), (3, (1, x3)), (5, (1, x5)), (7, (0, x7)), (8, (0, x8))] [] h
theorem cut_616_129 : fj_cut 616 129 = some [0, 2] := by decide +kernel
noncomputable def c_616_129 (d : Nat) (x2 : Int) (h : fi_H) : fk_R := gG (fj_run d) 616 129 [(0, (4, 602)), (2, (0, x2))] [] h
theorem cut_616_133 : fj_cut 616 133 = some [0, 2] := by decide +kernel
noncomputable def c_616_133 (d : Nat) (x2 : Int) (h : fi_H) : fk_R := gG (fj_run d) 616 133 [(0, (4, 602)), (2, (0, x2))] [] h
theorem cut_616_134 : fj_cut 616 134 = some [0, 2] := by decide +kernel
noncomputable def c_616_134 (d : Nat) (x2 s0 : Int) (h : fi_H) : fk_R := gG (fj_run d) 616 134 [(0, (4, 602)), (2, (0, x2))] [(0, s0)] h
theorem cut_616_149 : fj_cut 616 149 = some [] := by decide +kernel
noncomputable def c_616_149 (d : Nat) (s0 s1 s2 : Int) (h : fi_H) : fk_R := gG (fj_run d) 616 149 [] [(0, s2), (0, s1), (4, s0)] h
theorem cut_616_157 : fj_cut 616 157 = some [] := by decide +kernel
noncomputable def c_616_157 (d : Nat) (s0 s1 : Int) (h : fi_H) : fk_R := gG (fj_run d) 616 157 [] [(0, s1), (4, s0)] h
theorem cut_616_263 : fj_cut 616 263 = some [] := by decide +kernel
noncomputable def c_616_263 (d : Nat) (s0 s1 : Int) (h : fi_H) : fk_R := gG (fj_run d) 616 263 [] [(0, s1), (4, s0)] h
theorem cut_616_269 : fj_cut 616 269 = some [0, 2, 3, 5, 7, 8] := by decide +kernel
noncomputable def c_616_269 (d : Nat) (x2 x3 x5 x7 x8 : Int) (h : fi_H) : fk_R := gG (fj_run d) 616 269 [(0, (4, 602)), (2, (0, x2)), (3, (1, x3)), (5, (1, x5)), (7, (0, x7)), (8, (0, x8))] [] h
theorem e_616_57 (d : Nat) (x2 x3 x5 x7 x8 : Int) {h : fi_H} (H : Shp h) : c_616_57 d x2 x3 x5 x7 x8 h =
  if x2 = 4 then
    c_616_67 d x2 x3 x5 x7 x8 h
  else
    if x2 = 5 then
      c_616_67 d x2 x3 x5 x7 x8 h
    else
      if x2 < 6 then
        c_616_269 d x2 x3 x5 x7 x8 h
      else
        if 9 < x2 then
          c_616_269 d x2 x3 x5 x7 x8 h
        else
          ca_ (fj_run d 589 h [(0, x7), (1, x3), (1, x5), (0, x8), (1, h 492 602 0), (1, h 493 602 0)]) 0
            (fun v2 h1 =>
            if x2 = 6 then
              if v2 < 0 then
                c_616_263 d 602 1 h1
              else
                c_616_263 d 602 0 h1
            else
              if x2 = 7 then
                if 0 < v2 then
                  c_616_263 d 602 0 h1
                else
                  c_616_263 d 602 1 h1
              else
                if x2 = 8 then
                  if 0 < v2 then
                    c_616_263 d 602 1 h1
                  else
                    c_616_263 d 602 0 h1
                else
                  if v2 < 0 then
                    c_616_263 d 602 0 h1
                  else
                    c_616_263 d 602 1 h1)
            (fun q3 h1 => tx_ q3 h1) := by
  unfold c_616_57
  exact
    have D : fk_D 616 [(57, some [0, 2, 3, 5, 7, 8], .iload_n 2, 1, 0, 0, 0), (58, none, .iconst 4, 1, 0, 4, 0), (59, none, .if_icmp .eq 8, 3, 67, 0, 0), (62, none, .iload_n 2, 1, 0, 0, 0), (63, none, .iconst 5, 1, 0, 5, 0), (64, none, .if_icmp .ne 99, 3, 163, 0, 0)] := fq_of2 cd_616 ow_616 cl_616 rfl (pc := 57) (by decide +kernel)
    j_ildn (pc := 57) D rfl rfl rfl fun D =>
    j_ic (pc := 58) D rfl fun D =>
    j_ieq (pc := 59) D rfl (fun q =>
      fk_jump cut_616_67 rfl rfl) (fun q D =>
      j_ildn (pc := 62) D rfl rfl rfl fun D =>
      j_ic (pc := 63) D rfl fun D =>
      j_ine (pc := 64) D rfl (fun q D =>
        fk_jump cut_616_67 rfl rfl) (fun q =>
        have D : fk_D 616 [(163, none, .iload_n 2, 1, 0, 0, 0), (164, none, .bipush 6, 2, 0, 6, 0), (166, none, .if_icmp .lt 103, 3, 269, 0, 0), (169, none, .iload_n 2, 1, 0, 0, 0), (170, none, .bipush 9, 2, 0, 9, 0), (172, none, .if_icmp .gt 97, 3, 269, 0, 0), (175, none, .iload 7, 2, 0, 0, 0), (177, none, .lload_n 3, 1, 0, 0, 0), (178, none, .lload 5, 2, 0, 0, 0), (180, none, .iload 8, 2, 0, 0, 0), (182, none, .aload_n 0, 1, 0, 0, 0), (183, none, .getfield 869, 3, 492, 129, 11), (186, none, .aload_n 0, 1, 0, 0, 0), (187, none, .getfield 872, 3, 493, 129, 11), (190, none, .invokestatic 1001, 3, 6, 589, 1), (193, none, .istore 9, 2, 0, 0, 0), (195, none, .aload_n 0, 1, 0, 0, 0), (196, none, .iload_n 2, 1, 0, 0, 0), (197, none, .bipush 6, 2, 0, 6, 0), (199, none, .if_icmp .ne 16, 3, 215, 0, 0)] := fq_of2 cd_616 ow_616 cl_616 rfl (pc := 163) (by decide +kernel)
        j_ildn (pc := 163) D rfl rfl rfl fun D =>
        j_bp (pc := 164) D rfl fun D =>
        j_ilt (pc := 166) D rfl (fun q =>
          fk_jump cut_616_269 rfl rfl) (fun q D =>
          j_ildn (pc := 169) D rfl rfl rfl fun D =>
          j_bp (pc := 170) D rfl fun D =>
          j_igt (pc := 172) D rfl (fun q =>
            fk_jump cut_616_269 rfl rfl) (fun q D =>
            j_ild (pc := 175) D rfl rfl rfl fun D =>
            j_lldn (pc := 177) D rfl rfl rfl fun D =>
            j_lld (pc := 178) D rfl rfl rfl fun D =>
            j_ild (pc := 180) D rfl rfl rfl fun D =>
            j_aldn (pc := 182) D rfl rfl rfl fun D =>
            j_gf (pc := 183) (a := 602) D rfl rfl (by decide) rfl (s0_602 H) rfl fun D =>
            j_aldn (pc := 186) D rfl rfl rfl fun D =>
            j_gf (pc := 187) (a := 602) D rfl rfl (by decide) rfl (s0_602 H) rfl fun D =>
            j_is (pc := 190) (m := 589) (a := [(0, x7), (1, x3), (1, x5), (0, x8), (1, h 492 602 0), (1, h 493 602 0)]) (rest := []) D rfl rfl rfl rfl (fun v2 h1 e1 D =>
              have T := fj_run_ok _ _ _ _ _ _ H.1 e1
              have H := shp_st H T
              j_ist (pc := 193) (L' := [(9, (0, v2)), (0, (4, 602)), (2, (0, x2)), (3, (1, x3)), (5, (1, x5)), (7, (0, x7)), (8, (0, x8))]) D rfl nl_616 rfl rfl fun D =>
              j_aldn (pc := 195) D rfl rfl rfl fun D =>
              j_ildn (pc := 196) D rfl rfl rfl fun D =>
              j_bp (pc := 197) D rfl fun D =>
              j_ine (pc := 199) D rfl (fun q D =>
                have D : fk_D 616 [(202, none, .iload 9, 2, 0, 0, 0), (204, none, .ifCond .ge 7, 3, 211, 0, 0), (207, none, .iconst 1, 1, 0, 1, 0), (208, none, .goto 55, 3, 263, 0, 0)] := fq_of2 cd_616 ow_616 cl_616 rfl (pc := 202) (by decide +kernel)
                j_ild (pc := 202) D rfl rfl rfl fun D =>
                j_ifge (pc := 204) D rfl (fun q D =>
                  j_ic (pc := 207) D rfl fun D =>
                  j_goto (pc := 208) D rfl <|
                  fk_jump cut_616_263 rfl rfl) (fun q =>
                  have D : fk_D 616 [(211, none, .iconst 0, 1, 0, 0, 0), (212, none, .goto 51, 3, 263, 0, 0)] := fq_of2 cd_616 ow_616 cl_616 rfl (pc := 211) (by decide +kernel)
                  j_ic (pc := 211) D rfl fun D =>
                  j_goto (pc := 212) D rfl <|
                  fk_jump cut_616_263 rfl rfl)) (fun q =>
                have D : fk_D 616 [(215, none, .iload_n 2, 1, 0, 0, 0), (216, none, .bipush 7, 2, 0, 7, 0), (218, none, .if_icmp .ne 16, 3, 234, 0, 0), (221, none, .iload 9, 2, 0, 0, 0), (223, none, .ifCond .gt 7, 3, 230, 0, 0), (226, none, .iconst 1, 1, 0, 1, 0), (227, none, .goto 36, 3, 263, 0, 0)] := fq_of2 cd_616 ow_616 cl_616 rfl (pc := 215) (by decide +kernel)
                j_ildn (pc := 215) D rfl rfl rfl fun D =>
                j_bp (pc := 216) D rfl fun D =>
                j_ine (pc := 218) D rfl (fun q D =>
                  j_ild (pc := 221) D rfl rfl rfl fun D =>
                  j_ifgt (pc := 223) D rfl (fun q =>
                    have D : fk_D 616 [(230, none, .iconst 0, 1, 0, 0, 0), (231, none, .goto 32, 3, 263, 0, 0)] := fq_of2 cd_616 ow_616 cl_616 rfl (pc := 230) (by decide +kernel)
                    j_ic (pc := 230) D rfl fun D =>
                    j_goto (pc := 231) D rfl <|
                    fk_jump cut_616_263 rfl rfl) (fun q D =>
                    j_ic (pc := 226) D rfl fun D =>
                    j_goto (pc := 227) D rfl <|
                    fk_jump cut_616_263 rfl rfl)) (fun q =>
                  have D : fk_D 616 [(234, none, .iload_n 2, 1, 0, 0, 0), (235, none, .bipush 8, 2, 0, 8, 0), (237, none, .if_icmp .ne 16, 3, 253, 0, 0), (240, none, .iload 9, 2, 0, 0, 0), (242, none, .ifCond .le 7, 3, 249, 0, 0), (245, none, .iconst 1, 1, 0, 1, 0), (246, none, .goto 17, 3, 263, 0, 0)] := fq_of2 cd_616 ow_616 cl_616 rfl (pc := 234) (by decide +kernel)
                  j_ildn (pc := 234) D rfl rfl rfl fun D =>
                  j_bp (pc := 235) D rfl fun D =>
                  j_ine (pc := 237) D rfl (fun q D =>
                    j_ild (pc := 240) D rfl rfl rfl fun D =>
                    j_ifle (pc := 242) D rfl (fun q D =>
                      j_ic (pc := 245) D rfl fun D =>
                      j_goto (pc := 246) D rfl <|
                      fk_jump cut_616_263 rfl rfl) (fun q =>
                      have D : fk_D 616 [(249, none, .iconst 0, 1, 0, 0, 0), (250, none, .goto 13, 3, 263, 0, 0)] := fq_of2 cd_616 ow_616 cl_616 rfl (pc := 249) (by decide +kernel)
                      j_ic (pc := 249) D rfl fun D =>
                      j_goto (pc := 250) D rfl <|
                      fk_jump cut_616_263 rfl rfl)) (fun q =>
                    have D : fk_D 616 [(253, none, .iload 9, 2, 0, 0, 0), (255, none, .ifCond .lt 7, 3, 262, 0, 0), (258, none, .iconst 1, 1, 0, 1, 0), (259, none, .goto 4, 3, 263, 0, 0)] := fq_of2 cd_616 ow_616 cl_616 rfl (pc := 253) (by decide +kernel)
                    j_ild (pc := 253) D rfl rfl rfl fun D =>
                    j_iflt (pc := 255) D rfl (fun q =>
                      have D : fk_D 616 [(262, none, .iconst 0, 1, 0, 0, 0)] := fq_of2 cd_616 ow_616 cl_616 rfl (pc := 262) (by decide +kernel)
                      j_ic (pc := 262) D rfl fun D =>
                      fk_jump cut_616_263 rfl rfl) (fun q D =>
                      j_ic (pc := 258) D rfl fun D =>
                      j_goto (pc := 259) D rfl <|
                      fk_jump cut_616_263 rfl rfl))))) (fun q3 h1 e1 =>
              j_tx (hx_616 _))))))
theorem e_616_67 (d : Nat) (x2 x3 x5 x7 x8 : Int) {h : fi_H} (H : Shp h) : c_616_67 d x2 x3 x5 x7 x8 h =
  ca_ (fj_run d 556 h [(0, x7)]) 0
    (fun v2 h1 =>
    if v2 = 0 then
      if lc_ x3 (h1 492 602 0) = 0 then
        if x7 = 5 then
          if lc_ x5 (h1 493 602 0) = 0 then
            c_616_129 d x2 h1
          else
            c_616_133 d x2 h1
        else
          c_616_129 d x2 h1
      else
        c_616_133 d x2 h1
    else
      ca_ (fj_run d 589 h1 [(0, x7), (1, x3), (1, x5), (0, x8), (1, h1 492 602 0), (1, h1 493 602 0)]) 0
        (fun v5 h4 =>
        if v5 = 0 then
          c_616_134 d x2 1 h4
        else
          c_616_134 d x2 0 h4)
        (fun q6 h4 => tx_ q6 h4))
    (fun q3 h1 => tx_ q3 h1) := by
  unfold c_616_67
  exact
    have D : fk_D 616 [(67, some [0, 2, 3, 5, 7, 8], .iload 7, 2, 0, 0, 0), (69, none, .invokestatic 677, 3, 1, 556, 1), (72, none, .ifCond .eq 32, 3, 104, 0, 0), (75, none, .iload 7, 2, 0, 0, 0), (77, none, .lload_n 3, 1, 0, 0, 0), (78, none, .lload 5, 2, 0, 0, 0), (80, none, .iload 8, 2, 0, 0, 0), (82, none, .aload_n 0, 1, 0, 0, 0), (83, none, .getfield 869, 3, 492, 129, 11), (86, none, .aload_n 0, 1, 0, 0, 0), (87, none, .getfield 872, 3, 493, 129, 11), (90, none, .invokestatic 1001, 3, 6, 589, 1), (93, none, .ifCond .ne 7, 3, 100, 0, 0), (96, none, .iconst 1, 1, 0, 1, 0), (97, none, .goto 37, 3, 134, 0, 0)] := fq_of2 cd_616 ow_616 cl_616 rfl (pc := 67) (by decide +kernel)
    j_ild (pc := 67) D rfl rfl rfl fun D =>
    j_is (pc := 69) (m := 556) (a := [(0, x7)]) (rest := []) D rfl rfl rfl rfl (fun v2 h1 e1 D =>
      have T := fj_run_ok _ _ _ _ _ _ H.1 e1
      have H := shp_st H T
      j_ifeq (pc := 72) D rfl (fun q =>
        have D : fk_D 616 [(104, none, .lload_n 3, 1, 0, 0, 0), (105, none, .aload_n 0, 1, 0, 0, 0), (106, none, .getfield 869, 3, 492, 129, 11), (109, none, .lcmp, 1, 0, 0, 0), (110, none, .ifCond .ne 23, 3, 133, 0, 0), (113, none, .iload 7, 2, 0, 0, 0), (115, none, .iconst 5, 1, 0, 5, 0), (116, none, .if_icmp .ne 13, 3, 129, 0, 0), (119, none, .lload 5, 2, 0, 0, 0), (121, none, .aload_n 0, 1, 0, 0, 0), (122, none, .getfield 872, 3, 493, 129, 11), (125, none, .lcmp, 1, 0, 0, 0), (126, none, .ifCond .ne 7, 3, 133, 0, 0)] := fq_of2 cd_616 ow_616 cl_616 rfl (pc := 104) (by decide +kernel)
        j_lldn (pc := 104) D rfl rfl rfl fun D =>
        j_aldn (pc := 105) D rfl rfl rfl fun D =>
        j_gf (pc := 106) (a := 602) D rfl rfl (by decide) rfl (s0_602 H) rfl fun D =>
        j_lcmp (pc := 109) D rfl fun D =>
        j_ifne (pc := 110) D rfl (fun q D =>
          j_ild (pc := 113) D rfl rfl rfl fun D =>
          j_ic (pc := 115) D rfl fun D =>
          j_ine (pc := 116) D rfl (fun q D =>
            j_lld (pc := 119) D rfl rfl rfl fun D =>
            j_aldn (pc := 121) D rfl rfl rfl fun D =>
            j_gf (pc := 122) (a := 602) D rfl rfl (by decide) rfl (s0_602 H) rfl fun D =>
            j_lcmp (pc := 125) D rfl fun D =>
            j_ifne (pc := 126) D rfl (fun q D =>
              fk_jump cut_616_129 rfl rfl) (fun q =>
              fk_jump cut_616_133 rfl rfl)) (fun q =>
            fk_jump cut_616_129 rfl rfl)) (fun q =>
          fk_jump cut_616_133 rfl rfl)) (fun q D =>
        j_ild (pc := 75) D rfl rfl rfl fun D =>
        j_lldn (pc := 77) D rfl rfl rfl fun D =>
        j_lld (pc := 78) D rfl rfl rfl fun D =>
        j_ild (pc := 80) D rfl rfl rfl fun D =>
        j_aldn (pc := 82) D rfl rfl rfl fun D =>
        j_gf (pc := 83) (a := 602) D rfl rfl (by decide) rfl (s0_602 H) rfl fun D =>
        j_aldn (pc := 86) D rfl rfl rfl fun D =>
        j_gf (pc := 87) (a := 602) D rfl rfl (by decide) rfl (s0_602 H) rfl fun D =>
        j_is (pc := 90) (m := 589) (a := [(0, x7), (1, x3), (1, x5), (0, x8), (1, h1 492 602 0), (1, h1 493 602 0)]) (rest := []) D rfl rfl rfl rfl (fun v5 h4 e1 D =>
          have T := fj_run_ok _ _ _ _ _ _ H.1 e1
          have H := shp_st H T
          j_ifne (pc := 93) D rfl (fun q D =>
            j_ic (pc := 96) D rfl fun D =>
            j_goto (pc := 97) D rfl <|
            fk_jump cut_616_134 rfl rfl) (fun q =>
            have D : fk_D 616 [(100, none, .iconst 0, 1, 0, 0, 0), (101, none, .goto 33, 3, 134, 0, 0)] := fq_of2 cd_616 ow_616 cl_616 rfl (pc := 100) (by decide +kernel)
            j_ic (pc := 100) D rfl fun D =>
            j_goto (pc := 101) D rfl <|
            fk_jump cut_616_134 rfl rfl)) (fun q6 h4 e1 =>
          j_tx (hx_616 _)))) (fun q3 h1 e1 =>
      j_tx (hx_616 _))
theorem e_616_129 (d : Nat) (x2 : Int) {h : fi_H} (H : Shp h) : c_616_129 d x2 h =
  c_616_134 d x2 1 h := by
  unfold c_616_129
  exact
    have D : fk_D 616 [(129, some [0, 2], .iconst 1, 1, 0, 1, 0), (130, none, .goto 4, 3, 134, 0, 0)] := fq_of2 cd_616 ow_616 cl_616 rfl (pc := 129) (by decide +kernel)
    j_ic (pc := 129) D rfl fun D =>
    j_goto (pc := 130) D rfl <|
    fk_jump cut_616_134 rfl rfl
theorem e_616_133 (d : Nat) (x2 : Int) {h : fi_H} (H : Shp h) : c_616_133 d x2 h =
  c_616_134 d x2 0 h := by
  unfold c_616_133
  exact
    have D : fk_D 616 [(133, some [0, 2], .iconst 0, 1, 0, 0, 0)] := fq_of2 cd_616 ow_616 cl_616 rfl (pc := 133) (by decide +kernel)
    j_ic (pc := 133) D rfl fun D =>
    fk_jump cut_616_134 rfl rfl
theorem e_616_134 (d : Nat) (x2 s0 : Int) {h : fi_H} (H : Shp h) : c_616_134 d x2 s0 h =
  if x2 = 4 then
    c_616_149 d 602 s0 1 h
  else
    c_616_149 d 602 s0 0 h := by
  unfold c_616_134
  exact
    have D : fk_D 616 [(134, some [0, 2], .istore 9, 2, 0, 0, 0), (136, none, .aload_n 0, 1, 0, 0, 0), (137, none, .iload 9, 2, 0, 0, 0), (139, none, .iload_n 2, 1, 0, 0, 0), (140, none, .iconst 4, 1, 0, 4, 0), (141, none, .if_icmp .ne 7, 3, 148, 0, 0), (144, none, .iconst 1, 1, 0, 1, 0), (145, none, .goto 4, 3, 149, 0, 0)] := fq_of2 cd_616 ow_616 cl_616 rfl (pc := 134) (by decide +kernel)
    j_ist (pc := 134) (L' := [(9, (0, s0)), (0, (4, 602)), (2, (0, x2))]) D rfl nl_616 rfl rfl fun D =>
    j_aldn (pc := 136) D rfl rfl rfl fun D =>
    j_ild (pc := 137) D rfl rfl rfl fun D =>
    j_ildn (pc := 139) D rfl rfl rfl fun D =>
    j_ic (pc := 140) D rfl fun D =>
    j_ine (pc := 141) D rfl (fun q D =>
      j_ic (pc := 144) D rfl fun D =>
      j_goto (pc := 145) D rfl <|
      fk_jump cut_616_149 rfl rfl) (fun q =>
      have D : fk_D 616 [(148, none, .iconst 0, 1, 0, 0, 0)] := fq_of2 cd_616 ow_616 cl_616 rfl (pc := 148) (by decide +kernel)
      j_ic (pc := 148) D rfl fun D =>
      fk_jump cut_616_149 rfl rfl)
theorem e_616_149 (d : Nat) (s0 s1 s2 : Int) {h : fi_H} (H : Shp h) : c_616_149 d s0 s1 s2 h =
  if s1 = s2 then
    c_616_157 d s0 1 h
  else
    c_616_157 d s0 0 h := by
  unfold c_616_149
  exact
    have D : fk_D 616 [(149, some [], .if_icmp .ne 7, 3, 156, 0, 0), (152, none, .iconst 1, 1, 0, 1, 0), (153, none, .goto 4, 3, 157, 0, 0)] := fq_of2 cd_616 ow_616 cl_616 rfl (pc := 149) (by decide +kernel)
    j_ine (pc := 149) D rfl (fun q D =>
      j_ic (pc := 152) D rfl fun D =>
      j_goto (pc := 153) D rfl <|
      fk_jump cut_616_157 rfl rfl) (fun q =>
      have D : fk_D 616 [(156, none, .iconst 0, 1, 0, 0, 0)] := fq_of2 cd_616 ow_616 cl_616 rfl (pc := 156) (by decide +kernel)
      j_ic (pc := 156) D rfl fun D =>
      fk_jump cut_616_157 rfl rfl)
theorem e_616_157 (d : Nat) (s0 s1 : Int) {h : fi_H} (H : Shp h) : c_616_157 d s0 s1 h =
  dv_ (fi_vt 417 (h 0 s0.toNat 0)) fun m4 => cv_ (fj_run d m4 h [(4, s0), (0, s1)])
    (fun h1 =>
    some (.inl none, h1))
    (fun q3 h1 => tx_ q3 h1) := by
  unfold c_616_157
  exact
    have D : fk_D 616 [(157, some [], .invokevirtual 969, 3, 1, 417, 0), (160, none, .goto 147, 3, 307, 0, 0)] := fq_of2 cd_616 ow_616 cl_616 rfl (pc := 157) (by decide +kernel)
    j_ivuv (pc := 157) (dd := 417) (a := [(0, s1)]) (rest := []) H.2.1 D rfl rfl rfl rfl rfl (fun m4 h1 e1 D =>
      have T := fj_run_ok _ _ _ _ _ _ H.1 e1
      have H := shp_st H T
      j_goto (pc := 160) D rfl <|
      have D : fk_D 616 [(307, none, .return_, 1, 0, 0, 0)] := fq_of2 cd_616 ow_616 cl_616 rfl (pc := 307) (by decide +kernel)
      j_vret D rt_616) (fun m4 q3 h1 e1 =>
      j_tx (hx_616 _))
theorem e_616_263 (d : Nat) (s0 s1 : Int) {h : fi_H} (H : Shp h) : c_616_263 d s0 s1 h =
  dv_ (fi_vt 417 (h 0 s0.toNat 0)) fun m4 => cv_ (fj_run d m4 h [(4, s0), (0, s1)])
    (fun h1 =>
    some (.inl none, h1))
    (fun q3 h1 => tx_ q3 h1) := by
  unfold c_616_263
  exact
    have D : fk_D 616 [(263, some [], .invokevirtual 969, 3, 1, 417, 0), (266, none, .goto 41, 3, 307, 0, 0)] := fq_of2 cd_616 ow_616 cl_616 rfl (pc := 263) (by decide +kernel)
    j_ivuv (pc := 263) (dd := 417) (a := [(0, s1)]) (rest := []) H.2.1 D rfl rfl rfl rfl rfl (fun m4 h1 e1 D =>
      have T := fj_run_ok _ _ _ _ _ _ H.1 e1
      have H := shp_st H T
      j_goto (pc := 266) D rfl <|
      have D : fk_D 616 [(307, none, .return_, 1, 0, 0, 0)] := fq_of2 cd_616 ow_616 cl_616 rfl (pc := 307) (by decide +kernel)
      j_vret D rt_616) (fun m4 q3 h1 e1 =>
      j_tx (hx_616 _))
theorem e_616_269 (d : Nat) (x2 x3 x5 x7 x8 : Int) {h : fi_H} (H : Shp h) : c_616_269 d x2 x3 x5 x7 x8 h =
  if x7 = 4 then
    cv_ (fj_run d 617 h [(4, 602), (0, x2), (0, wI x3), (0, x8)])
      (fun h1 =>
      some (.inl none, h1))
      (fun q3 h1 => tx_ q3 h1)
  else
    cv_ (fj_run d 619 h [(4, 602), (0, x2), (0, x7), (1, x3), (1, x5), (0, x8), (1, h 492 602 0), (1, h 493 602 0)])
      (fun h4 =>
      some (.inl none, h4))
      (fun q6 h4 => tx_ q6 h4) := by
  unfold c_616_269
  exact
    have D : fk_D 616 [(269, some [0, 2, 3, 5, 7, 8], .iload 7, 2, 0, 0, 0), (271, none, .iconst 4, 1, 0, 4, 0), (272, none, .if_icmp .ne 15, 3, 287, 0, 0), (275, none, .aload_n 0, 1, 0, 0, 0), (276, none, .iload_n 2, 1, 0, 0, 0), (277, none, .lload_n 3, 1, 0, 0, 0), (278, none, .l2i, 1, 0, 0, 0), (279, none, .iload 8, 2, 0, 0, 0), (281, none, .invokevirtual 1005, 3, 3, 427, 0), (284, none, .goto 23, 3, 307, 0, 0)] := fq_of2 cd_616 ow_616 cl_616 rfl (pc := 269) (by decide +kernel)
    j_ild (pc := 269) D rfl rfl rfl fun D =>
    j_ic (pc := 271) D rfl fun D =>
    j_ine (pc := 272) D rfl (fun q D =>
      j_aldn (pc := 275) D rfl rfl rfl fun D =>
      j_ildn (pc := 276) D rfl rfl rfl fun D =>
      j_lldn (pc := 277) D rfl rfl rfl fun D =>
      j_l2i (pc := 278) D rfl fun D =>
      j_ild (pc := 279) D rfl rfl rfl fun D =>
      j_ivv (pc := 281) (m := 617) (dd := 427) (a := [(0, x2), (0, wI x3), (0, x8)]) (rest := []) D rfl rfl rfl rfl rfl (by decide) (s0_602 H) (by decide +kernel) (fun h1 e1 D =>
        have T := fj_run_ok _ _ _ _ _ _ H.1 e1
        have H := shp_st H T
        j_goto (pc := 284) D rfl <|
        have D : fk_D 616 [(307, none, .return_, 1, 0, 0, 0)] := fq_of2 cd_616 ow_616 cl_616 rfl (pc := 307) (by decide +kernel)
        j_vret D rt_616) (fun q3 h1 e1 =>
        j_tx (hx_616 _))) (fun q =>
      have D : fk_D 616 [(287, none, .aload_n 0, 1, 0, 0, 0), (288, none, .iload_n 2, 1, 0, 0, 0), (289, none, .iload 7, 2, 0, 0, 0), (291, none, .lload_n 3, 1, 0, 0, 0), (292, none, .lload 5, 2, 0, 0, 0), (294, none, .iload 8, 2, 0, 0, 0), (296, none, .aload_n 0, 1, 0, 0, 0), (297, none, .getfield 869, 3, 492, 129, 11), (300, none, .aload_n 0, 1, 0, 0, 0), (301, none, .getfield 872, 3, 493, 129, 11), (304, none, .invokevirtual 1009, 3, 7, 428, 0), (307, none, .return_, 1, 0, 0, 0)] := fq_of2 cd_616 ow_616 cl_616 rfl (pc := 287) (by decide +kernel)
      j_aldn (pc := 287) D rfl rfl rfl fun D =>
      j_ildn (pc := 288) D rfl rfl rfl fun D =>
      j_ild (pc := 289) D rfl rfl rfl fun D =>
      j_lldn (pc := 291) D rfl rfl rfl fun D =>
      j_lld (pc := 292) D rfl rfl rfl fun D =>
      j_ild (pc := 294) D rfl rfl rfl fun D =>
      j_aldn (pc := 296) D rfl rfl rfl fun D =>
      j_gf (pc := 297) (a := 602) D rfl rfl (by decide) rfl (s0_602 H) rfl fun D =>
      j_aldn (pc := 300) D rfl rfl rfl fun D =>
      j_gf (pc := 301) (a := 602) D rfl rfl (by decide) rfl (s0_602 H) rfl fun D =>
      j_ivv (pc := 304) (m := 619) (dd := 428) (a := [(0, x2), (0, x7), (1, x3), (1, x5), (0, x8), (1, h 492 602 0), (1, h 493 602 0)]) (rest := []) D rfl rfl rfl rfl rfl (by decide) (s0_602 H) (by decide +kernel) (fun h4 e1 D =>
        have T := fj_run_ok _ _ _ _ _ _ H.1 e1
        have H := shp_st H T
        j_vret D rt_616) (fun q6 h4 e1 =>
        j_tx (hx_616 _)))
theorem m_616 (d : Nat) (x1 x2 : Int) {h : fi_H} (H : Shp h) : fj_run (d + 1) 616 h [(4, 602), (0, x1), (0, x2)] =
  if 0 ≤ x1 ∧ x1 < 9300 then
  cv_ (fj_run d 575 h [(4, 602), (0, h 10 619 x1.toNat)])
    (fun h2 =>
    cv_ (fj_run d 575 h2 [(4, 602), (0, h2 10 620 x1.toNat)])
      (fun h5 =>
      if 0 ≤ h5 10 619 x1.toNat ∧ h5 10 619 x1.toNat < 9300 then
      if 0 ≤ h5 10 620 x1.toNat ∧ h5 10 620 x1.toNat < 9300 then
      c_616_57 d x2 (h2 492 602 0) (h2 493 602 0) (h5 10 618 (h5 10 619 x1.toNat).toNat) (h5 10 618 (h5 10 620 x1.toNat).toNat) h5
      else none
      else none)
      (fun q7 h5 => tx_ q7 h5))
    (fun q4 h2 => tx_ q4 h2)
  else none := by
  rw [fj_run_eq d (by decide) h [(4, 602), (0, x1), (0, x2)] (Nat.le_of_ble_eq_true (by rw [nl_616]; rfl))]
  show gG (fj_run d) 616 0 [(0, (4, 602)), (1, (0, x1)), (2, (0, x2))] [] h = _
  exact
    have D : fk_D 616 [(0, none, .aload_n 0, 1, 0, 0, 0), (1, none, .aload_n 0, 1, 0, 0, 0), (2, none, .getfield 68, 3, 420, 129, 12), (5, none, .iload_n 1, 1, 0, 0, 0), (6, none, .iaload, 1, 0, 0, 0), (7, none, .invokevirtual 913, 3, 1, 412, 0), (10, none, .aload_n 0, 1, 0, 0, 0), (11, none, .getfield 869, 3, 492, 129, 11), (14, none, .lstore_n 3, 1, 0, 0, 0), (15, none, .aload_n 0, 1, 0, 0, 0), (16, none, .getfield 872, 3, 493, 129, 11), (19, none, .lstore 5, 2, 0, 0, 0), (21, none, .aload_n 0, 1, 0, 0, 0), (22, none, .aload_n 0, 1, 0, 0, 0), (23, none, .getfield 71, 3, 421, 129, 12), (26, none, .iload_n 1, 1, 0, 0, 0), (27, none, .iaload, 1, 0, 0, 0), (28, none, .invokevirtual 913, 3, 1, 412, 0), (31, none, .aload_n 0, 1, 0, 0, 0), (32, none, .getfield 65, 3, 419, 129, 12)] := fq_of2 cd_616 ow_616 cl_616 rfl (pc := 0) (by decide +kernel)
    j_aldn (pc := 0) D rfl rfl rfl fun D =>
    j_aldn (pc := 1) D rfl rfl rfl fun D =>
    j_gfc (pc := 2) (a := 602) D rfl rfl (by decide) rfl (s0_602 H) rfl (sf_420_602 H) fun D =>
    j_ildn (pc := 5) D rfl rfl rfl fun D =>
    j_al (pc := 6) (a := 619) (e := 10) D rfl rfl rfl (by decide) (s0_619 H) (s1_619 H) ⟨rfl, rfl, rfl⟩ rfl gn fun qb1 D =>
    j_ivv (pc := 7) (m := 575) (dd := 412) (a := [(0, h 10 619 x1.toNat)]) (rest := []) D rfl rfl rfl rfl rfl (by decide) (s0_602 H) (by decide +kernel) (fun h2 e1 D =>
      have T := fj_run_ok _ _ _ _ _ _ H.1 e1
      have H := shp_st H T
      j_aldn (pc := 10) D rfl rfl rfl fun D =>
      j_gf (pc := 11) (a := 602) D rfl rfl (by decide) rfl (s0_602 H) rfl fun D =>
      j_lstn (pc := 14) (L' := [(3, (1, h2 492 602 0)), (0, (4, 602)), (1, (0, x1)), (2, (0, x2))]) D rfl nl_616 rfl rfl fun D =>
      j_aldn (pc := 15) D rfl rfl rfl fun D =>
      j_gf (pc := 16) (a := 602) D rfl rfl (by decide) rfl (s0_602 H) rfl fun D =>
      j_lst (pc := 19) (L' := [(5, (1, h2 493 602 0)), (3, (1, h2 492 602 0)), (0, (4, 602)), (1, (0, x1)), (2, (0, x2))]) D rfl nl_616 rfl rfl fun D =>
      j_aldn (pc := 21) D rfl rfl rfl fun D =>
      j_aldn (pc := 22) D rfl rfl rfl fun D =>
      j_gfc (pc := 23) (a := 602) D rfl rfl (by decide) rfl (s0_602 H) rfl (sf_421_602 H) fun D =>
      j_ildn (pc := 26) D rfl rfl rfl fun D =>
      j_al (pc := 27) (a := 620) (e := 10) D rfl rfl rfl (by decide) (s0_620 H) (s1_620 H) ⟨rfl, rfl, rfl⟩ rfl (gy qb1) fun q D =>
      j_ivv (pc := 28) (m := 575) (dd := 412) (a := [(0, h2 10 620 x1.toNat)]) (rest := []) D rfl rfl rfl rfl rfl (by decide) (s0_602 H) (by decide +kernel) (fun h5 e1 D =>
        have T := fj_run_ok _ _ _ _ _ _ H.1 e1
        have H := shp_st H T
        j_aldn (pc := 31) D rfl rfl rfl fun D =>
        j_gfc (pc := 32) (a := 602) D rfl rfl (by decide) rfl (s0_602 H) rfl (sf_419_602 H) fun D =>
        have D : fk_D 616 [(35, none, .aload_n 0, 1, 0, 0, 0), (36, none, .getfield 68, 3, 420, 129, 12), (39, none, .iload_n 1, 1, 0, 0, 0), (40, none, .iaload, 1, 0, 0, 0), (41, none, .iaload, 1, 0, 0, 0), (42, none, .istore 7, 2, 0, 0, 0), (44, none, .aload_n 0, 1, 0, 0, 0), (45, none, .getfield 65, 3, 419, 129, 12), (48, none, .aload_n 0, 1, 0, 0, 0), (49, none, .getfield 71, 3, 421, 129, 12), (52, none, .iload_n 1, 1, 0, 0, 0), (53, none, .iaload, 1, 0, 0, 0), (54, none, .iaload, 1, 0, 0, 0), (55, none, .istore 8, 2, 0, 0, 0)] := fq_of2 cd_616 ow_616 cl_616 rfl (pc := 35) (by decide +kernel)
        j_aldn (pc := 35) D rfl rfl rfl fun D =>
        j_gfc (pc := 36) (a := 602) D rfl rfl (by decide) rfl (s0_602 H) rfl (sf_420_602 H) fun D =>
        j_ildn (pc := 39) D rfl rfl rfl fun D =>
        j_al (pc := 40) (a := 619) (e := 10) D rfl rfl rfl (by decide) (s0_619 H) (s1_619 H) ⟨rfl, rfl, rfl⟩ rfl (gy qb1) fun q D =>
        j_al (pc := 41) (a := 618) (e := 10) D rfl rfl rfl (by decide) (s0_618 H) (s1_618 H) ⟨rfl, rfl, rfl⟩ rfl gn fun qb8 D =>
        j_ist (pc := 42) (L' := [(7, (0, h5 10 618 (h5 10 619 x1.toNat).toNat)), (5, (1, h2 493 602 0)), (3, (1, h2 492 602 0)), (0, (4, 602)), (1, (0, x1)), (2, (0, x2))]) D rfl nl_616 rfl rfl fun D =>
        j_aldn (pc := 44) D rfl rfl rfl fun D =>
        j_gfc (pc := 45) (a := 602) D rfl rfl (by decide) rfl (s0_602 H) rfl (sf_419_602 H) fun D =>
        j_aldn (pc := 48) D rfl rfl rfl fun D =>
        j_gfc (pc := 49) (a := 602) D rfl rfl (by decide) rfl (s0_602 H) rfl (sf_421_602 H) fun D =>
        j_ildn (pc := 52) D rfl rfl rfl fun D =>
        j_al (pc := 53) (a := 620) (e := 10) D rfl rfl rfl (by decide) (s0_620 H) (s1_620 H) ⟨rfl, rfl, rfl⟩ rfl (gy qb1) fun q D =>
        j_al (pc := 54) (a := 618) (e := 10) D rfl rfl rfl (by decide) (s0_618 H) (s1_618 H) ⟨rfl, rfl, rfl⟩ rfl gn fun qb9 D =>
        j_ist (pc := 55) (L' := [(8, (0, h5 10 618 (h5 10 620 x1.toNat).toNat)), (7, (0, h5 10 618 (h5 10 619 x1.toNat).toNat)), (5, (1, h2 493 602 0)), (3, (1, h2 492 602 0)), (0, (4, 602)), (1, (0, x1)), (2, (0, x2))]) D rfl nl_616 rfl rfl fun D =>
        fk_jump cut_616_57 rfl rfl) (fun q7 h5 e1 =>
        j_tx (hx_616 _))) (fun q4 h2 e1 =>
      j_tx (hx_616 _))
/-! 617 StatuteHouseModel.dated(III)V -/
theorem cd_617 : fi_code 617 = prog_69_method_118_code := rfl
theorem hx_617 : ∀ pc, fi_hat 617 pc = none := fun pc => by unfold fi_hat; rw [show fi_hh 617 = [] from rfl]; rfl
theorem rt_617 : fi_ret 617 = none := rfl
theorem nl_617 : fi_nl 617 = 5 := rfl
theorem ow_617 : fi_ow 617 = 29 := rfl
theorem cl_617 : fj_cutT.getD 617 [] = [(59, [0])] := rfl
theorem cut_617_59 : fj_cut 617 59 = some [0] := by decide +kernel
noncomputable def c_617_59 (d : Nat) (s0 : Int) (h : fi_H) : fk_R := gG (fj_run d) 617 59 [(0, (4, 602))] [(0, s0)] h
theorem e_617_59 (d : Nat) (s0 : Int) {h : fi_H} (H : Shp h) : c_617_59 d s0 h =
  cv_ (fj_run d 594 h [(4, 602), (1, wI s0)])
    (fun h1 =>
    some (.inl none, h1))
    (fun q3 h1 => tx_ q3 h1) := by
  unfold c_617_59
  exact
    have D : fk_D 617 [(59, some [0], .istore 4, 2, 0, 0, 0), (61, none, .aload_n 0, 1, 0, 0, 0), (62, none, .iload 4, 2, 0, 0, 0), (64, none, .i2l, 1, 0, 0, 0), (65, none, .invokevirtual 976, 3, 1, 419, 0), (68, none, .return_, 1, 0, 0, 0)] := fq_of2 cd_617 ow_617 cl_617 rfl (pc := 59) (by decide +kernel)
    j_ist (pc := 59) (L' := [(4, (0, s0)), (0, (4, 602))]) D rfl nl_617 rfl rfl fun D =>
    j_aldn (pc := 61) D rfl rfl rfl fun D =>
    j_ild (pc := 62) D rfl rfl rfl fun D =>
    j_i2l (pc := 64) D rfl fun D =>
    j_ivv (pc := 65) (m := 594) (dd := 419) (a := [(1, wI s0)]) (rest := []) D rfl rfl rfl rfl rfl (by decide) (s0_602 H) (by decide +kernel) (fun h1 e1 D =>
      have T := fj_run_ok _ _ _ _ _ _ H.1 e1
      have H := shp_st H T
      j_vret D rt_617) (fun q3 h1 e1 =>
      j_tx (hx_617 _))
theorem m_617 (d : Nat) (x1 x2 x3 : Int) {h : fi_H} (H : Shp h) : fj_run (d + 1) 617 h [(4, 602), (0, x1), (0, x2), (0, x3)] =
  if x3 = 4 then
    cv_ (fj_run d 585 h [(4, 602), (1, 0), (1, wJ ((wI x2) - (h 492 602 0)))])
      (fun h1 =>
      some (.inl none, h1))
      (fun q3 h1 => tx_ q3 h1)
  else
    if x1 = 10 then
      ca_ (fj_run d 618 h [(4, 602), (0, x2), (0, wI (h 492 602 0)), (0, wI (h 493 602 0))]) 0
        (fun v5 h4 =>
        c_617_59 d v5 h4)
        (fun q6 h4 => tx_ q6 h4)
    else
      ca_ (fj_run d 618 h [(4, 602), (0, x2), (0, wI (wJ (-(h 492 602 0)))), (0, wI (wJ (-(h 493 602 0))))]) 0
        (fun v8 h7 =>
        c_617_59 d v8 h7)
        (fun q9 h7 => tx_ q9 h7) := by
  rw [fj_run_eq d (by decide) h [(4, 602), (0, x1), (0, x2), (0, x3)] (Nat.le_of_ble_eq_true (by rw [nl_617]; rfl))]
  show gG (fj_run d) 617 0 [(0, (4, 602)), (1, (0, x1)), (2, (0, x2)), (3, (0, x3))] [] h = _
  exact
    have D : fk_D 617 [(0, none, .iload_n 3, 1, 0, 0, 0), (1, none, .iconst 4, 1, 0, 4, 0), (2, none, .if_icmp .ne 16, 3, 18, 0, 0), (5, none, .aload_n 0, 1, 0, 0, 0), (6, none, .lconst 0, 1, 0, 0, 0), (7, none, .iload_n 2, 1, 0, 0, 0), (8, none, .i2l, 1, 0, 0, 0), (9, none, .aload_n 0, 1, 0, 0, 0), (10, none, .getfield 869, 3, 492, 129, 11), (13, none, .lsub, 1, 0, 0, 0), (14, none, .invokevirtual 1013, 3, 2, 429, 0), (17, none, .return_, 1, 0, 0, 0)] := fq_of2 cd_617 ow_617 cl_617 rfl (pc := 0) (by decide +kernel)
    j_ildn (pc := 0) D rfl rfl rfl fun D =>
    j_ic (pc := 1) D rfl fun D =>
    j_ine (pc := 2) D rfl (fun q D =>
      j_aldn (pc := 5) D rfl rfl rfl fun D =>
      j_c0 (pc := 6) (v := (1, 0)) D rfl rfl (by decide +kernel) fun D =>
      j_ildn (pc := 7) D rfl rfl rfl fun D =>
      j_i2l (pc := 8) D rfl fun D =>
      j_aldn (pc := 9) D rfl rfl rfl fun D =>
      j_gf (pc := 10) (a := 602) D rfl rfl (by decide) rfl (s0_602 H) rfl fun D =>
      j_lsub (pc := 13) D rfl fun D =>
      j_ivv (pc := 14) (m := 585) (dd := 429) (a := [(1, 0), (1, wJ ((wI x2) - (h 492 602 0)))]) (rest := []) D rfl rfl rfl rfl rfl (by decide) (s0_602 H) (by decide +kernel) (fun h1 e1 D =>
        have T := fj_run_ok _ _ _ _ _ _ H.1 e1
        have H := shp_st H T
        j_vret D rt_617) (fun q3 h1 e1 =>
        j_tx (hx_617 _))) (fun q =>
      have D : fk_D 617 [(18, none, .iload_n 1, 1, 0, 0, 0), (19, none, .bipush 10, 2, 0, 10, 0), (21, none, .if_icmp .ne 21, 3, 42, 0, 0), (24, none, .aload_n 0, 1, 0, 0, 0), (25, none, .iload_n 2, 1, 0, 0, 0), (26, none, .aload_n 0, 1, 0, 0, 0), (27, none, .getfield 869, 3, 492, 129, 11), (30, none, .l2i, 1, 0, 0, 0), (31, none, .aload_n 0, 1, 0, 0, 0), (32, none, .getfield 872, 3, 493, 129, 11), (35, none, .l2i, 1, 0, 0, 0), (36, none, .invokevirtual 1017, 3, 3, 430, 1), (39, none, .goto 20, 3, 59, 0, 0)] := fq_of2 cd_617 ow_617 cl_617 rfl (pc := 18) (by decide +kernel)
      j_ildn (pc := 18) D rfl rfl rfl fun D =>
      j_bp (pc := 19) D rfl fun D =>
      j_ine (pc := 21) D rfl (fun q D =>
        j_aldn (pc := 24) D rfl rfl rfl fun D =>
        j_ildn (pc := 25) D rfl rfl rfl fun D =>
        j_aldn (pc := 26) D rfl rfl rfl fun D =>
        j_gf (pc := 27) (a := 602) D rfl rfl (by decide) rfl (s0_602 H) rfl fun D =>
        j_l2i (pc := 30) D rfl fun D =>
        j_aldn (pc := 31) D rfl rfl rfl fun D =>
        j_gf (pc := 32) (a := 602) D rfl rfl (by decide) rfl (s0_602 H) rfl fun D =>
        j_l2i (pc := 35) D rfl fun D =>
        j_iv (pc := 36) (m := 618) (dd := 430) (a := [(0, x2), (0, wI (h 492 602 0)), (0, wI (h 493 602 0))]) (rest := []) D rfl rfl rfl rfl rfl (by decide) (s0_602 H) (by decide +kernel) (fun v5 h4 e1 D =>
          have T := fj_run_ok _ _ _ _ _ _ H.1 e1
          have H := shp_st H T
          j_goto (pc := 39) D rfl <|
          fk_jump cut_617_59 rfl rfl) (fun q6 h4 e1 =>
          j_tx (hx_617 _))) (fun q =>
        have D : fk_D 617 [(42, none, .aload_n 0, 1, 0, 0, 0), (43, none, .iload_n 2, 1, 0, 0, 0), (44, none, .aload_n 0, 1, 0, 0, 0), (45, none, .getfield 869, 3, 492, 129, 11), (48, none, .lneg, 1, 0, 0, 0), (49, none, .l2i, 1, 0, 0, 0), (50, none, .aload_n 0, 1, 0, 0, 0), (51, none, .getfield 872, 3, 493, 129, 11), (54, none, .lneg, 1, 0, 0, 0), (55, none, .l2i, 1, 0, 0, 0), (56, none, .invokevirtual 1017, 3, 3, 430, 1)] := fq_of2 cd_617 ow_617 cl_617 rfl (pc := 42) (by decide +kernel)
        j_aldn (pc := 42) D rfl rfl rfl fun D =>
        j_ildn (pc := 43) D rfl rfl rfl fun D =>
        j_aldn (pc := 44) D rfl rfl rfl fun D =>
        j_gf (pc := 45) (a := 602) D rfl rfl (by decide) rfl (s0_602 H) rfl fun D =>
        j_lneg (pc := 48) D rfl fun D =>
        j_l2i (pc := 49) D rfl fun D =>
        j_aldn (pc := 50) D rfl rfl rfl fun D =>
        j_gf (pc := 51) (a := 602) D rfl rfl (by decide) rfl (s0_602 H) rfl fun D =>
        j_lneg (pc := 54) D rfl fun D =>
        j_l2i (pc := 55) D rfl fun D =>
        j_iv (pc := 56) (m := 618) (dd := 430) (a := [(0, x2), (0, wI (wJ (-(h 492 602 0)))), (0, wI (wJ (-(h 493 602 0))))]) (rest := []) D rfl rfl rfl rfl rfl (by decide) (s0_602 H) (by decide +kernel) (fun v8 h7 e1 D =>
          have T := fj_run_ok _ _ _ _ _ _ H.1 e1
          have H := shp_st H T
          fk_jump cut_617_59 rfl rfl) (fun q9 h7 e1 =>
          j_tx (hx_617 _))))
/-! 618 StatuteHouseModel.gone(III)I -/
theorem cd_618 : fi_code 618 = prog_69_method_11_code := rfl
theorem hx_618 : ∀ pc, fi_hat 618 pc = none := fun pc => by unfold fi_hat; rw [show fi_hh 618 = [] from rfl]; rfl
theorem rt_618 : fi_ret 618 = some .int := rfl
theorem nl_618 : fi_nl 618 = 5 := rfl
theorem ow_618 : fi_ow 618 = 29 := rfl
theorem cl_618 : fj_cutT.getD 618 [] = [] := rfl
theorem m_618 (d : Nat) (x1 x2 x3 : Int) {h : fi_H} (H : Shp h) : fj_run (d + 1) 618 h [(4, 602), (0, x1), (0, x2), (0, x3)] =
  ca_ (fj_run d 601 h [(4, 602), (0, x1), (0, x2)]) 0
    (fun v2 h1 =>
    if v2 = (-2147483648) then
      some (.inl (some (0, (-1))), h1)
    else
      ca_ (fj_run d 520 h1 [(1, wJ ((wI v2) + (wI x3)))]) 0
        (fun v5 h4 =>
        if v5 = 0 then
          some (.inl (some (0, (-1))), h4)
        else
          some (.inl (some (0, wI (v2 + x3))), h4))
        (fun q6 h4 => tx_ q6 h4))
    (fun q3 h1 => tx_ q3 h1) := by
  rw [fj_run_eq d (by decide) h [(4, 602), (0, x1), (0, x2), (0, x3)] (Nat.le_of_ble_eq_true (by rw [nl_618]; rfl))]
  show gG (fj_run d) 618 0 [(0, (4, 602)), (1, (0, x1)), (2, (0, x2)), (3, (0, x3))] [] h = _
  exact
    have D : fk_D 618 [(0, none, .aload_n 0, 1, 0, 0, 0), (1, none, .iload_n 1, 1, 0, 0, 0), (2, none, .iload_n 2, 1, 0, 0, 0), (3, none, .invokevirtual 453, 3, 2, 336, 1), (6, none, .istore 4, 2, 0, 0, 0), (8, none, .iload 4, 2, 0, 0, 0), (10, none, .ldc_w 448, 3, 0, (-2147483648), 0), (13, none, .if_icmp .ne 5, 3, 18, 0, 0), (16, none, .iconst (-1), 1, 0, (-1), 0), (17, none, .ireturn, 1, 0, 0, 0)] := fq_of2 cd_618 ow_618 cl_618 rfl (pc := 0) (by decide +kernel)
    j_aldn (pc := 0) D rfl rfl rfl fun D =>
    j_ildn (pc := 1) D rfl rfl rfl fun D =>
    j_ildn (pc := 2) D rfl rfl rfl fun D =>
    j_iv (pc := 3) (m := 601) (dd := 336) (a := [(0, x1), (0, x2)]) (rest := []) D rfl rfl rfl rfl rfl (by decide) (s0_602 H) (by decide +kernel) (fun v2 h1 e1 D =>
      have T := fj_run_ok _ _ _ _ _ _ H.1 e1
      have H := shp_st H T
      j_ist (pc := 6) (L' := [(4, (0, v2)), (0, (4, 602)), (1, (0, x1)), (2, (0, x2)), (3, (0, x3))]) D rfl nl_618 rfl rfl fun D =>
      j_ild (pc := 8) D rfl rfl rfl fun D =>
      j_ldcw (pc := 10) D rfl fun D =>
      j_ine (pc := 13) D rfl (fun q D =>
        j_ic (pc := 16) D rfl fun D =>
        j_iret D rt_618) (fun q =>
        have D : fk_D 618 [(18, none, .iload 4, 2, 0, 0, 0), (20, none, .i2l, 1, 0, 0, 0), (21, none, .iload_n 3, 1, 0, 0, 0), (22, none, .i2l, 1, 0, 0, 0), (23, none, .ladd, 1, 0, 0, 0), (24, none, .invokestatic 456, 3, 1, 520, 1), (27, none, .ifCond .eq 10, 3, 37, 0, 0), (30, none, .iload 4, 2, 0, 0, 0), (32, none, .iload_n 3, 1, 0, 0, 0), (33, none, .iadd, 1, 0, 0, 0), (34, none, .goto 4, 3, 38, 0, 0)] := fq_of2 cd_618 ow_618 cl_618 rfl (pc := 18) (by decide +kernel)
        j_ild (pc := 18) D rfl rfl rfl fun D =>
        j_i2l (pc := 20) D rfl fun D =>
        j_ildn (pc := 21) D rfl rfl rfl fun D =>
        j_i2l (pc := 22) D rfl fun D =>
        j_ladd (pc := 23) D rfl fun D =>
        j_is (pc := 24) (m := 520) (a := [(1, wJ ((wI v2) + (wI x3)))]) (rest := []) D rfl rfl rfl rfl (fun v5 h4 e1 D =>
          have T := fj_run_ok _ _ _ _ _ _ H.1 e1
          have H := shp_st H T
          j_ifeq (pc := 27) D rfl (fun q =>
            have D : fk_D 618 [(37, none, .iconst (-1), 1, 0, (-1), 0), (38, none, .ireturn, 1, 0, 0, 0)] := fq_of2 cd_618 ow_618 cl_618 rfl (pc := 37) (by decide +kernel)
            j_ic (pc := 37) D rfl fun D =>
            j_iret D rt_618) (fun q D =>
            j_ild (pc := 30) D rfl rfl rfl fun D =>
            j_ildn (pc := 32) D rfl rfl rfl fun D =>
            j_iadd (pc := 33) D rfl fun D =>
            j_goto (pc := 34) D rfl <|
            have D : fk_D 618 [(38, none, .ireturn, 1, 0, 0, 0)] := fq_of2 cd_618 ow_618 cl_618 rfl (pc := 38) (by decide +kernel)
            j_iret D rt_618)) (fun q6 h4 e1 =>
          j_tx (hx_618 _)))) (fun q3 h1 e1 =>
      j_tx (hx_618 _))
/-! 619 StatuteHouseModel.reckoned(IIJJIJJ)V -/
theorem cd_619 : fi_code 619 = prog_69_method_119_code := rfl
theorem hx_619 : ∀ pc, fi_hat 619 pc = none := fun pc => by unfold fi_hat; rw [show fi_hh 619 = [] from rfl]; rfl
theorem rt_619 : fi_ret 619 = none := rfl
theorem nl_619 : fi_nl 619 = 16 := rfl
theorem ow_619 : fi_ow 619 = 29 := rfl
theorem cl_619 : fj_cutT.getD 619 [] = [(22, [0, 1, 2, 3, 5, 7, 8, 10]), (103, []), (121, [0, 1, 2, 3, 5, 7, 8, 10]), (135, [2, 3, 5, 7, 8, 10]), (228, [0, 2, 3, 5, 7, 8, 10]), (247, [0, 8]), (265, [8]), (293, [2, 5, 8]), (305, [8])] := rfl
theorem cut_619_22 : fj_cut 619 22 = some [0, 1, 2, 3, 5, 7, 8, 10] := by decide +kernel
noncomputable def c_619_22 (d : Nat) (x1 x2 x3 x5 x7 x8 x10 : Int) (h : fi_H) : fk_R := gG (fj_run d) 619 22 [(0, (4, 602)), (1, (0, x1)), (2, (0, x2)), (3, (1, x3)), (5, (1, x5)), (7, (0, x7)), (8, (1, x8)), (10, (1, x10))] [] h
theorem cut_619_103 : fj_cut 619 103 = some [] := by decide +kernel
noncomputable def c_619_103 (d : Nat) (s0 s1 : Int) (h : fi_H) : fk_R := gG (fj_run d) 619 103 [] [(3, s1), (4, s0)] h
theorem cut_619_121 : fj_cut 619 121 = some [0, 1, 2, 3, 5, 7, 8, 10] := by decide +kernel
noncomputable def c_619_121 (d : Nat) (x1 x2 x3 x5 x7 x8 x10 : Int) (h : fi_H) : fk_R := gG (fj_run d) 619 121 [(0, (4, 602)), (1, (0, x1)), (2, (0, x2)), (3, (1, x3)), (5, (1, x5)), (7, (0, x7)), (8, (1, x8)), (10, (1, x10))] [] h
theorem cut_619_135 : fj_cut 619 135 = some [2, 3, 5, 7, 8, 10] := by decide +kernel
noncomputable def c_619_135 (d : Nat) (x2 x3 x5 x7 x8 x10 s0 s1 : Int) (h : fi_H) : fk_R := gG (fj_run d) 619 135 [(2, (0, x2)), (3, (1, x3)), (5, (1, x5)), (7, (0, x7)), (8, (1, x8)), (10, (1, x10))] [(1, s1), (4, s0)] h
theorem cut_619_228 : fj_cut 619 228 = some [0, 2, 3, 5, 7, 8, 10] := by decide +kernel
noncomputable def c_619_228 (d : Nat) (x2 x3 x5 x7 x8 x10 : Int) (h : fi_H) : fk_R := gG (fj_run d) 619 228 [(0, (4, 602)), (2, (0, x2)), (3, (1, x3)), (5, (1, x5)), (7, (0, x7)), (8, (1, x8)), (10, (1, x10))] [] h
theorem cut_619_247 : fj_cut 619 247 = some [0, 8] := by decide +kernel
noncomputable def c_619_247 (d : Nat) (x8 s0 : Int) (h : fi_H) : fk_R := gG (fj_run d) 619 247 [(0, (4, 602)), (8, (1, x8))] [(1, s0)] h
theorem cut_619_265 : fj_cut 619 265 = some [8] := by decide +kernel
noncomputable def c_619_265 (d : Nat) (x8 s0 s1 : Int) (h : fi_H) : fk_R := gG (fj_run d) 619 265 [(8, (1, x8))] [(1, s1), (4, s0)] h
theorem cut_619_293 : fj_cut 619 293 = some [2, 5, 8] := by decide +kernel
noncomputable def c_619_293 (d : Nat) (x2 x5 x8 s0 s1 s2 : Int) (h : fi_H) : fk_R := gG (fj_run d) 619 293 [(2, (0, x2)), (5, (1, x5)), (8, (1, x8))] [(1, s2), (1, s1), (4, s0)] h
theorem cut_619_305 : fj_cut 619 305 = some [8] := by decide +kernel
noncomputable def c_619_305 (d : Nat) (x8 s0 s1 s2 : Int) (h : fi_H) : fk_R := gG (fj_run d) 619 305 [(8, (1, x8))] [(1, s2), (1, s1), (4, s0)] h
theorem e_619_22 (d : Nat) (x1 x2 x3 x5 x7 x8 x10 : Int) {h : fi_H} (H : Shp h) : c_619_22 d x1 x2 x3 x5 x7 x8 x10 h =
  if x2 = 6 then
    ca_ (fj_run d 582 h [(1, x3)]) 3
      (fun v2 h1 =>
      ca_ (fj_run d 582 h1 [(1, x8)]) 3
        (fun v5 h4 =>
        if x1 = 10 then
          dn_ (FP.dadd (fi_D v2) (fi_D v5)) fun v7 =>
          c_619_103 d 602 v7 h4
        else
          if x1 = 11 then
            dn_ (FP.dsub (fi_D v2) (fi_D v5)) fun v8 =>
            c_619_103 d 602 v8 h4
          else
            if x1 = 12 then
              dn_ (FP.dmul (fi_D v2) (fi_D v5)) fun v9 =>
              c_619_103 d 602 v9 h4
            else
              if x1 = 13 then
                dn_ (FP.ddiv (fi_D v2) (fi_D v5)) fun v10 =>
                c_619_103 d 602 v10 h4
              else
                dn_ (FP.drem (fi_D v2) (fi_D v5)) fun v11 =>
                c_619_103 d 602 v11 h4)
        (fun q6 h4 => tx_ q6 h4))
      (fun q3 h1 => tx_ q3 h1)
  else
    if x1 = 10 then
      c_619_121 d x1 x2 x3 x5 x7 x8 x10 h
    else
      if x1 = 11 then
        c_619_121 d x1 x2 x3 x5 x7 x8 x10 h
      else
        if x1 = 12 then
          cv_ (fj_run d 621 h [(4, 602), (0, x2), (1, x3), (1, x5), (0, x7), (1, x8), (1, x10)])
            (fun h12 =>
            some (.inl none, h12))
            (fun q14 h12 => tx_ q14 h12)
        else
          if x1 = 14 then
            if x2 = 2 then
              if x8 = 0 then none else
              cv_ (fj_run d 586 h [(4, 602), (1, lr_ x3 x8)])
                (fun h15 =>
                some (.inl none, h15))
                (fun q17 h15 => tx_ q17 h15)
            else
              if x8 = 0 then none else
              cv_ (fj_run d 587 h [(4, 602), (1, lr_ x3 x8)])
                (fun h18 =>
                some (.inl none, h18))
                (fun q20 h18 => tx_ q20 h18)
          else
            if x2 = 2 then
              if x7 = 2 then
                cv_ (fj_run d 588 h [(4, 602), (1, x3), (1, x8)])
                  (fun h21 =>
                  some (.inl none, h21))
                  (fun q23 h21 => tx_ q23 h21)
              else
                c_619_228 d x2 x3 x5 x7 x8 x10 h
            else
              c_619_228 d x2 x3 x5 x7 x8 x10 h := by
  unfold c_619_22
  exact
    have D : fk_D 619 [(22, some [0, 1, 2, 3, 5, 7, 8, 10], .iload_n 2, 1, 0, 0, 0), (23, none, .bipush 6, 2, 0, 6, 0), (25, none, .if_icmp .ne 84, 3, 109, 0, 0), (28, none, .lload_n 3, 1, 0, 0, 0), (29, none, .invokestatic 960, 3, 1, 582, 4), (32, none, .dstore 12, 2, 0, 0, 0), (34, none, .lload 8, 2, 0, 0, 0), (36, none, .invokestatic 960, 3, 1, 582, 4), (39, none, .dstore 14, 2, 0, 0, 0), (41, none, .aload_n 0, 1, 0, 0, 0), (42, none, .iload_n 1, 1, 0, 0, 0), (43, none, .bipush 10, 2, 0, 10, 0), (45, none, .if_icmp .ne 11, 3, 56, 0, 0), (48, none, .dload 12, 2, 0, 0, 0), (50, none, .dload 14, 2, 0, 0, 0), (52, none, .dadd, 1, 0, 0, 0), (53, none, .goto 50, 3, 103, 0, 0)] := fq_of2 cd_619 ow_619 cl_619 rfl (pc := 22) (by decide +kernel)
    j_ildn (pc := 22) D rfl rfl rfl fun D =>
    j_bp (pc := 23) D rfl fun D =>
    j_ine (pc := 25) D rfl (fun q D =>
      j_lldn (pc := 28) D rfl rfl rfl fun D =>
      j_is (pc := 29) (m := 582) (a := [(1, x3)]) (rest := []) D rfl rfl rfl rfl (fun v2 h1 e1 D =>
        have T := fj_run_ok _ _ _ _ _ _ H.1 e1
        have H := shp_st H T
        j_dst (pc := 32) (L' := [(12, (3, v2)), (0, (4, 602)), (1, (0, x1)), (2, (0, x2)), (3, (1, x3)), (5, (1, x5)), (7, (0, x7)), (8, (1, x8)), (10, (1, x10))]) D rfl nl_619 rfl rfl fun D =>
        j_lld (pc := 34) D rfl rfl rfl fun D =>
        j_is (pc := 36) (m := 582) (a := [(1, x8)]) (rest := []) D rfl rfl rfl rfl (fun v5 h4 e1 D =>
          have T := fj_run_ok _ _ _ _ _ _ H.1 e1
          have H := shp_st H T
          j_dst (pc := 39) (L' := [(14, (3, v5)), (12, (3, v2)), (0, (4, 602)), (1, (0, x1)), (2, (0, x2)), (3, (1, x3)), (5, (1, x5)), (7, (0, x7)), (8, (1, x8)), (10, (1, x10))]) D rfl nl_619 rfl rfl fun D =>
          j_aldn (pc := 41) D rfl rfl rfl fun D =>
          j_ildn (pc := 42) D rfl rfl rfl fun D =>
          j_bp (pc := 43) D rfl fun D =>
          j_ine (pc := 45) D rfl (fun q D =>
            j_dld (pc := 48) D rfl rfl rfl fun D =>
            j_dld (pc := 50) D rfl rfl rfl fun D =>
            j_dop (pc := 52) (u := FP.dadd (fi_D v2) (fi_D v5)) D rfl rfl rfl fun D v7 =>
            j_goto (pc := 53) D rfl <|
            fk_jump cut_619_103 rfl rfl) (fun q =>
            have D : fk_D 619 [(56, none, .iload_n 1, 1, 0, 0, 0), (57, none, .bipush 11, 2, 0, 11, 0), (59, none, .if_icmp .ne 11, 3, 70, 0, 0), (62, none, .dload 12, 2, 0, 0, 0), (64, none, .dload 14, 2, 0, 0, 0), (66, none, .dsub, 1, 0, 0, 0), (67, none, .goto 36, 3, 103, 0, 0)] := fq_of2 cd_619 ow_619 cl_619 rfl (pc := 56) (by decide +kernel)
            j_ildn (pc := 56) D rfl rfl rfl fun D =>
            j_bp (pc := 57) D rfl fun D =>
            j_ine (pc := 59) D rfl (fun q D =>
              j_dld (pc := 62) D rfl rfl rfl fun D =>
              j_dld (pc := 64) D rfl rfl rfl fun D =>
              j_dop (pc := 66) (u := FP.dsub (fi_D v2) (fi_D v5)) D rfl rfl rfl fun D v8 =>
              j_goto (pc := 67) D rfl <|
              fk_jump cut_619_103 rfl rfl) (fun q =>
              have D : fk_D 619 [(70, none, .iload_n 1, 1, 0, 0, 0), (71, none, .bipush 12, 2, 0, 12, 0), (73, none, .if_icmp .ne 11, 3, 84, 0, 0), (76, none, .dload 12, 2, 0, 0, 0), (78, none, .dload 14, 2, 0, 0, 0), (80, none, .dmul, 1, 0, 0, 0), (81, none, .goto 22, 3, 103, 0, 0)] := fq_of2 cd_619 ow_619 cl_619 rfl (pc := 70) (by decide +kernel)
              j_ildn (pc := 70) D rfl rfl rfl fun D =>
              j_bp (pc := 71) D rfl fun D =>
              j_ine (pc := 73) D rfl (fun q D =>
                j_dld (pc := 76) D rfl rfl rfl fun D =>
                j_dld (pc := 78) D rfl rfl rfl fun D =>
                j_dop (pc := 80) (u := FP.dmul (fi_D v2) (fi_D v5)) D rfl rfl rfl fun D v9 =>
                j_goto (pc := 81) D rfl <|
                fk_jump cut_619_103 rfl rfl) (fun q =>
                have D : fk_D 619 [(84, none, .iload_n 1, 1, 0, 0, 0), (85, none, .bipush 13, 2, 0, 13, 0), (87, none, .if_icmp .ne 11, 3, 98, 0, 0), (90, none, .dload 12, 2, 0, 0, 0), (92, none, .dload 14, 2, 0, 0, 0), (94, none, .ddiv, 1, 0, 0, 0), (95, none, .goto 8, 3, 103, 0, 0)] := fq_of2 cd_619 ow_619 cl_619 rfl (pc := 84) (by decide +kernel)
                j_ildn (pc := 84) D rfl rfl rfl fun D =>
                j_bp (pc := 85) D rfl fun D =>
                j_ine (pc := 87) D rfl (fun q D =>
                  j_dld (pc := 90) D rfl rfl rfl fun D =>
                  j_dld (pc := 92) D rfl rfl rfl fun D =>
                  j_dop (pc := 94) (u := FP.ddiv (fi_D v2) (fi_D v5)) D rfl rfl rfl fun D v10 =>
                  j_goto (pc := 95) D rfl <|
                  fk_jump cut_619_103 rfl rfl) (fun q =>
                  have D : fk_D 619 [(98, none, .dload 12, 2, 0, 0, 0), (100, none, .dload 14, 2, 0, 0, 0), (102, none, .drem, 1, 0, 0, 0)] := fq_of2 cd_619 ow_619 cl_619 rfl (pc := 98) (by decide +kernel)
                  j_dld (pc := 98) D rfl rfl rfl fun D =>
                  j_dld (pc := 100) D rfl rfl rfl fun D =>
                  j_dop (pc := 102) (u := FP.drem (fi_D v2) (fi_D v5)) D rfl rfl rfl fun D v11 =>
                  fk_jump cut_619_103 rfl rfl))))) (fun q6 h4 e1 =>
          j_tx (hx_619 _))) (fun q3 h1 e1 =>
        j_tx (hx_619 _))) (fun q =>
      have D : fk_D 619 [(109, none, .iload_n 1, 1, 0, 0, 0), (110, none, .bipush 10, 2, 0, 10, 0), (112, none, .if_icmp .eq 9, 3, 121, 0, 0), (115, none, .iload_n 1, 1, 0, 0, 0), (116, none, .bipush 11, 2, 0, 11, 0), (118, none, .if_icmp .ne 33, 3, 151, 0, 0)] := fq_of2 cd_619 ow_619 cl_619 rfl (pc := 109) (by decide +kernel)
      j_ildn (pc := 109) D rfl rfl rfl fun D =>
      j_bp (pc := 110) D rfl fun D =>
      j_ieq (pc := 112) D rfl (fun q =>
        fk_jump cut_619_121 rfl rfl) (fun q D =>
        j_ildn (pc := 115) D rfl rfl rfl fun D =>
        j_bp (pc := 116) D rfl fun D =>
        j_ine (pc := 118) D rfl (fun q D =>
          fk_jump cut_619_121 rfl rfl) (fun q =>
          have D : fk_D 619 [(151, none, .iload_n 1, 1, 0, 0, 0), (152, none, .bipush 12, 2, 0, 12, 0), (154, none, .if_icmp .ne 20, 3, 174, 0, 0), (157, none, .aload_n 0, 1, 0, 0, 0), (158, none, .iload_n 2, 1, 0, 0, 0), (159, none, .lload_n 3, 1, 0, 0, 0), (160, none, .lload 5, 2, 0, 0, 0), (162, none, .iload 7, 2, 0, 0, 0), (164, none, .lload 8, 2, 0, 0, 0), (166, none, .lload 10, 2, 0, 0, 0), (168, none, .invokevirtual 1030, 3, 6, 432, 0), (171, none, .goto 140, 3, 311, 0, 0)] := fq_of2 cd_619 ow_619 cl_619 rfl (pc := 151) (by decide +kernel)
          j_ildn (pc := 151) D rfl rfl rfl fun D =>
          j_bp (pc := 152) D rfl fun D =>
          j_ine (pc := 154) D rfl (fun q D =>
            j_aldn (pc := 157) D rfl rfl rfl fun D =>
            j_ildn (pc := 158) D rfl rfl rfl fun D =>
            j_lldn (pc := 159) D rfl rfl rfl fun D =>
            j_lld (pc := 160) D rfl rfl rfl fun D =>
            j_ild (pc := 162) D rfl rfl rfl fun D =>
            j_lld (pc := 164) D rfl rfl rfl fun D =>
            j_lld (pc := 166) D rfl rfl rfl fun D =>
            j_ivv (pc := 168) (m := 621) (dd := 432) (a := [(0, x2), (1, x3), (1, x5), (0, x7), (1, x8), (1, x10)]) (rest := []) D rfl rfl rfl rfl rfl (by decide) (s0_602 H) (by decide +kernel) (fun h12 e1 D =>
              have T := fj_run_ok _ _ _ _ _ _ H.1 e1
              have H := shp_st H T
              j_goto (pc := 171) D rfl <|
              have D : fk_D 619 [(311, none, .return_, 1, 0, 0, 0)] := fq_of2 cd_619 ow_619 cl_619 rfl (pc := 311) (by decide +kernel)
              j_vret D rt_619) (fun q14 h12 e1 =>
              j_tx (hx_619 _))) (fun q =>
            have D : fk_D 619 [(174, none, .iload_n 1, 1, 0, 0, 0), (175, none, .bipush 14, 2, 0, 14, 0), (177, none, .if_icmp .ne 30, 3, 207, 0, 0), (180, none, .iload_n 2, 1, 0, 0, 0), (181, none, .iconst 2, 1, 0, 2, 0), (182, none, .if_icmp .ne 14, 3, 196, 0, 0), (185, none, .aload_n 0, 1, 0, 0, 0), (186, none, .lload_n 3, 1, 0, 0, 0), (187, none, .lload 8, 2, 0, 0, 0), (189, none, .lrem, 1, 0, 0, 0), (190, none, .invokevirtual 920, 3, 1, 414, 0), (193, none, .goto 118, 3, 311, 0, 0)] := fq_of2 cd_619 ow_619 cl_619 rfl (pc := 174) (by decide +kernel)
            j_ildn (pc := 174) D rfl rfl rfl fun D =>
            j_bp (pc := 175) D rfl fun D =>
            j_ine (pc := 177) D rfl (fun q D =>
              j_ildn (pc := 180) D rfl rfl rfl fun D =>
              j_ic (pc := 181) D rfl fun D =>
              j_ine (pc := 182) D rfl (fun q D =>
                j_aldn (pc := 185) D rfl rfl rfl fun D =>
                j_lldn (pc := 186) D rfl rfl rfl fun D =>
                j_lld (pc := 187) D rfl rfl rfl fun D =>
                j_lrem (pc := 189) D rfl fun q D =>
                j_ivv (pc := 190) (m := 586) (dd := 414) (a := [(1, lr_ x3 x8)]) (rest := []) D rfl rfl rfl rfl rfl (by decide) (s0_602 H) (by decide +kernel) (fun h15 e1 D =>
                  have T := fj_run_ok _ _ _ _ _ _ H.1 e1
                  have H := shp_st H T
                  j_goto (pc := 193) D rfl <|
                  have D : fk_D 619 [(311, none, .return_, 1, 0, 0, 0)] := fq_of2 cd_619 ow_619 cl_619 rfl (pc := 311) (by decide +kernel)
                  j_vret D rt_619) (fun q17 h15 e1 =>
                  j_tx (hx_619 _))) (fun q =>
                have D : fk_D 619 [(196, none, .aload_n 0, 1, 0, 0, 0), (197, none, .lload_n 3, 1, 0, 0, 0), (198, none, .lload 8, 2, 0, 0, 0), (200, none, .lrem, 1, 0, 0, 0), (201, none, .invokevirtual 994, 3, 1, 425, 0), (204, none, .goto 107, 3, 311, 0, 0)] := fq_of2 cd_619 ow_619 cl_619 rfl (pc := 196) (by decide +kernel)
                j_aldn (pc := 196) D rfl rfl rfl fun D =>
                j_lldn (pc := 197) D rfl rfl rfl fun D =>
                j_lld (pc := 198) D rfl rfl rfl fun D =>
                j_lrem (pc := 200) D rfl fun q D =>
                j_ivv (pc := 201) (m := 587) (dd := 425) (a := [(1, lr_ x3 x8)]) (rest := []) D rfl rfl rfl rfl rfl (by decide) (s0_602 H) (by decide +kernel) (fun h18 e1 D =>
                  have T := fj_run_ok _ _ _ _ _ _ H.1 e1
                  have H := shp_st H T
                  j_goto (pc := 204) D rfl <|
                  have D : fk_D 619 [(311, none, .return_, 1, 0, 0, 0)] := fq_of2 cd_619 ow_619 cl_619 rfl (pc := 311) (by decide +kernel)
                  j_vret D rt_619) (fun q20 h18 e1 =>
                  j_tx (hx_619 _)))) (fun q =>
              have D : fk_D 619 [(207, none, .iload_n 2, 1, 0, 0, 0), (208, none, .iconst 2, 1, 0, 2, 0), (209, none, .if_icmp .ne 19, 3, 228, 0, 0), (212, none, .iload 7, 2, 0, 0, 0), (214, none, .iconst 2, 1, 0, 2, 0), (215, none, .if_icmp .ne 13, 3, 228, 0, 0), (218, none, .aload_n 0, 1, 0, 0, 0), (219, none, .lload_n 3, 1, 0, 0, 0), (220, none, .lload 8, 2, 0, 0, 0), (222, none, .invokevirtual 1034, 3, 2, 433, 0), (225, none, .goto 86, 3, 311, 0, 0)] := fq_of2 cd_619 ow_619 cl_619 rfl (pc := 207) (by decide +kernel)
              j_ildn (pc := 207) D rfl rfl rfl fun D =>
              j_ic (pc := 208) D rfl fun D =>
              j_ine (pc := 209) D rfl (fun q D =>
                j_ild (pc := 212) D rfl rfl rfl fun D =>
                j_ic (pc := 214) D rfl fun D =>
                j_ine (pc := 215) D rfl (fun q D =>
                  j_aldn (pc := 218) D rfl rfl rfl fun D =>
                  j_lldn (pc := 219) D rfl rfl rfl fun D =>
                  j_lld (pc := 220) D rfl rfl rfl fun D =>
                  j_ivv (pc := 222) (m := 588) (dd := 433) (a := [(1, x3), (1, x8)]) (rest := []) D rfl rfl rfl rfl rfl (by decide) (s0_602 H) (by decide +kernel) (fun h21 e1 D =>
                    have T := fj_run_ok _ _ _ _ _ _ H.1 e1
                    have H := shp_st H T
                    j_goto (pc := 225) D rfl <|
                    have D : fk_D 619 [(311, none, .return_, 1, 0, 0, 0)] := fq_of2 cd_619 ow_619 cl_619 rfl (pc := 311) (by decide +kernel)
                    j_vret D rt_619) (fun q23 h21 e1 =>
                    j_tx (hx_619 _))) (fun q =>
                  fk_jump cut_619_228 rfl rfl)) (fun q =>
                fk_jump cut_619_228 rfl rfl))))))
theorem e_619_103 (d : Nat) (s0 s1 : Int) {h : fi_H} (H : Shp h) : c_619_103 d s0 s1 h =
  dv_ (fi_vt 426 (h 0 s0.toNat 0)) fun m4 => cv_ (fj_run d m4 h [(4, s0), (3, s1)])
    (fun h1 =>
    some (.inl none, h1))
    (fun q3 h1 => tx_ q3 h1) := by
  unfold c_619_103
  exact
    have D : fk_D 619 [(103, some [], .invokevirtual 997, 3, 1, 426, 0), (106, none, .goto 205, 3, 311, 0, 0)] := fq_of2 cd_619 ow_619 cl_619 rfl (pc := 103) (by decide +kernel)
    j_ivuv (pc := 103) (dd := 426) (a := [(3, s1)]) (rest := []) H.2.1 D rfl rfl rfl rfl rfl (fun m4 h1 e1 D =>
      have T := fj_run_ok _ _ _ _ _ _ H.1 e1
      have H := shp_st H T
      j_goto (pc := 106) D rfl <|
      have D : fk_D 619 [(311, none, .return_, 1, 0, 0, 0)] := fq_of2 cd_619 ow_619 cl_619 rfl (pc := 311) (by decide +kernel)
      j_vret D rt_619) (fun m4 q3 h1 e1 =>
      j_tx (hx_619 _))
theorem e_619_121 (d : Nat) (x1 x2 x3 x5 x7 x8 x10 : Int) {h : fi_H} (H : Shp h) : c_619_121 d x1 x2 x3 x5 x7 x8 x10 h =
  if x1 = 10 then
    c_619_135 d x2 x3 x5 x7 x8 x10 602 1 h
  else
    c_619_135 d x2 x3 x5 x7 x8 x10 602 (-1) h := by
  unfold c_619_121
  exact
    have D : fk_D 619 [(121, some [0, 1, 2, 3, 5, 7, 8, 10], .aload_n 0, 1, 0, 0, 0), (122, none, .iload_n 1, 1, 0, 0, 0), (123, none, .bipush 10, 2, 0, 10, 0), (125, none, .if_icmp .ne 7, 3, 132, 0, 0), (128, none, .lconst 1, 1, 0, 0, 0), (129, none, .goto 6, 3, 135, 0, 0)] := fq_of2 cd_619 ow_619 cl_619 rfl (pc := 121) (by decide +kernel)
    j_aldn (pc := 121) D rfl rfl rfl fun D =>
    j_ildn (pc := 122) D rfl rfl rfl fun D =>
    j_bp (pc := 123) D rfl fun D =>
    j_ine (pc := 125) D rfl (fun q D =>
      j_c0 (pc := 128) (v := (1, 1)) D rfl rfl (by decide +kernel) fun D =>
      j_goto (pc := 129) D rfl <|
      fk_jump cut_619_135 rfl rfl) (fun q =>
      have D : fk_D 619 [(132, none, .ldc2_w 1024, 3, 1, (-1), 0)] := fq_of2 cd_619 ow_619 cl_619 rfl (pc := 132) (by decide +kernel)
      j_ldc2 (pc := 132) D rfl fun D =>
      fk_jump cut_619_135 rfl rfl)
theorem e_619_135 (d : Nat) (x2 x3 x5 x7 x8 x10 s0 s1 : Int) {h : fi_H} (H : Shp h) : c_619_135 d x2 x3 x5 x7 x8 x10 s0 s1 h =
  dv_ (fi_vt 431 (h 0 s0.toNat 0)) fun m4 => cv_ (fj_run d m4 h [(4, s0), (1, s1), (0, x2), (1, x3), (1, x5), (0, x7), (1, x8), (1, x10)])
    (fun h1 =>
    some (.inl none, h1))
    (fun q3 h1 => tx_ q3 h1) := by
  unfold c_619_135
  exact
    have D : fk_D 619 [(135, some [2, 3, 5, 7, 8, 10], .iload_n 2, 1, 0, 0, 0), (136, none, .lload_n 3, 1, 0, 0, 0), (137, none, .lload 5, 2, 0, 0, 0), (139, none, .iload 7, 2, 0, 0, 0), (141, none, .lload 8, 2, 0, 0, 0), (143, none, .lload 10, 2, 0, 0, 0), (145, none, .invokevirtual 1026, 3, 7, 431, 0), (148, none, .goto 163, 3, 311, 0, 0)] := fq_of2 cd_619 ow_619 cl_619 rfl (pc := 135) (by decide +kernel)
    j_ildn (pc := 135) D rfl rfl rfl fun D =>
    j_lldn (pc := 136) D rfl rfl rfl fun D =>
    j_lld (pc := 137) D rfl rfl rfl fun D =>
    j_ild (pc := 139) D rfl rfl rfl fun D =>
    j_lld (pc := 141) D rfl rfl rfl fun D =>
    j_lld (pc := 143) D rfl rfl rfl fun D =>
    j_ivuv (pc := 145) (dd := 431) (a := [(1, s1), (0, x2), (1, x3), (1, x5), (0, x7), (1, x8), (1, x10)]) (rest := []) H.2.1 D rfl rfl rfl rfl rfl (fun m4 h1 e1 D =>
      have T := fj_run_ok _ _ _ _ _ _ H.1 e1
      have H := shp_st H T
      j_goto (pc := 148) D rfl <|
      have D : fk_D 619 [(311, none, .return_, 1, 0, 0, 0)] := fq_of2 cd_619 ow_619 cl_619 rfl (pc := 311) (by decide +kernel)
      j_vret D rt_619) (fun m4 q3 h1 e1 =>
      j_tx (hx_619 _))
theorem e_619_228 (d : Nat) (x2 x3 x5 x7 x8 x10 : Int) {h : fi_H} (H : Shp h) : c_619_228 d x2 x3 x5 x7 x8 x10 h =
  if x2 = 2 then
    if x7 = 3 then
      c_619_247 d x8 (wJ (x3 * x10)) h
    else
      c_619_247 d x8 x3 h
  else
    if x7 = 3 then
      c_619_293 d x2 x5 x8 602 x3 x10 h
    else
      c_619_293 d x2 x5 x8 602 x3 1 h := by
  unfold c_619_228
  exact
    have D : fk_D 619 [(228, some [0, 2, 3, 5, 7, 8, 10], .iload_n 2, 1, 0, 0, 0), (229, none, .iconst 2, 1, 0, 2, 0), (230, none, .if_icmp .ne 49, 3, 279, 0, 0), (233, none, .iload 7, 2, 0, 0, 0), (235, none, .iconst 3, 1, 0, 3, 0), (236, none, .if_icmp .ne 10, 3, 246, 0, 0), (239, none, .lload_n 3, 1, 0, 0, 0), (240, none, .lload 10, 2, 0, 0, 0), (242, none, .lmul, 1, 0, 0, 0), (243, none, .goto 4, 3, 247, 0, 0)] := fq_of2 cd_619 ow_619 cl_619 rfl (pc := 228) (by decide +kernel)
    j_ildn (pc := 228) D rfl rfl rfl fun D =>
    j_ic (pc := 229) D rfl fun D =>
    j_ine (pc := 230) D rfl (fun q D =>
      j_ild (pc := 233) D rfl rfl rfl fun D =>
      j_ic (pc := 235) D rfl fun D =>
      j_ine (pc := 236) D rfl (fun q D =>
        j_lldn (pc := 239) D rfl rfl rfl fun D =>
        j_lld (pc := 240) D rfl rfl rfl fun D =>
        j_lmul (pc := 242) D rfl fun D =>
        j_goto (pc := 243) D rfl <|
        fk_jump cut_619_247 rfl rfl) (fun q =>
        have D : fk_D 619 [(246, none, .lload_n 3, 1, 0, 0, 0)] := fq_of2 cd_619 ow_619 cl_619 rfl (pc := 246) (by decide +kernel)
        j_lldn (pc := 246) D rfl rfl rfl fun D =>
        fk_jump cut_619_247 rfl rfl)) (fun q =>
      have D : fk_D 619 [(279, none, .aload_n 0, 1, 0, 0, 0), (280, none, .lload_n 3, 1, 0, 0, 0), (281, none, .iload 7, 2, 0, 0, 0), (283, none, .iconst 3, 1, 0, 3, 0), (284, none, .if_icmp .ne 8, 3, 292, 0, 0), (287, none, .lload 10, 2, 0, 0, 0), (289, none, .goto 4, 3, 293, 0, 0)] := fq_of2 cd_619 ow_619 cl_619 rfl (pc := 279) (by decide +kernel)
      j_aldn (pc := 279) D rfl rfl rfl fun D =>
      j_lldn (pc := 280) D rfl rfl rfl fun D =>
      j_ild (pc := 281) D rfl rfl rfl fun D =>
      j_ic (pc := 283) D rfl fun D =>
      j_ine (pc := 284) D rfl (fun q D =>
        j_lld (pc := 287) D rfl rfl rfl fun D =>
        j_goto (pc := 289) D rfl <|
        fk_jump cut_619_293 rfl rfl) (fun q =>
        have D : fk_D 619 [(292, none, .lconst 1, 1, 0, 0, 0)] := fq_of2 cd_619 ow_619 cl_619 rfl (pc := 292) (by decide +kernel)
        j_c0 (pc := 292) (v := (1, 1)) D rfl rfl (by decide +kernel) fun D =>
        fk_jump cut_619_293 rfl rfl))
theorem e_619_247 (d : Nat) (x8 s0 : Int) {h : fi_H} (H : Shp h) : c_619_247 d x8 s0 h =
  if lc_ x8 0 < 0 then
    c_619_265 d x8 602 (wJ (-s0)) h
  else
    c_619_265 d x8 602 s0 h := by
  unfold c_619_247
  exact
    have D : fk_D 619 [(247, some [0, 8], .lstore 12, 2, 0, 0, 0), (249, none, .aload_n 0, 1, 0, 0, 0), (250, none, .lload 8, 2, 0, 0, 0), (252, none, .lconst 0, 1, 0, 0, 0), (253, none, .lcmp, 1, 0, 0, 0), (254, none, .ifCond .ge 9, 3, 263, 0, 0), (257, none, .lload 12, 2, 0, 0, 0), (259, none, .lneg, 1, 0, 0, 0), (260, none, .goto 5, 3, 265, 0, 0)] := fq_of2 cd_619 ow_619 cl_619 rfl (pc := 247) (by decide +kernel)
    j_lst (pc := 247) (L' := [(12, (1, s0)), (0, (4, 602)), (8, (1, x8))]) D rfl nl_619 rfl rfl fun D =>
    j_aldn (pc := 249) D rfl rfl rfl fun D =>
    j_lld (pc := 250) D rfl rfl rfl fun D =>
    j_c0 (pc := 252) (v := (1, 0)) D rfl rfl (by decide +kernel) fun D =>
    j_lcmp (pc := 253) D rfl fun D =>
    j_ifge (pc := 254) D rfl (fun q D =>
      j_lld (pc := 257) D rfl rfl rfl fun D =>
      j_lneg (pc := 259) D rfl fun D =>
      j_goto (pc := 260) D rfl <|
      fk_jump cut_619_265 rfl rfl) (fun q =>
      have D : fk_D 619 [(263, none, .lload 12, 2, 0, 0, 0)] := fq_of2 cd_619 ow_619 cl_619 rfl (pc := 263) (by decide +kernel)
      j_lld (pc := 263) D rfl rfl rfl fun D =>
      fk_jump cut_619_265 rfl rfl)
theorem e_619_265 (d : Nat) (x8 s0 s1 : Int) {h : fi_H} (H : Shp h) : c_619_265 d x8 s0 s1 h =
  ca_ (fj_run d 598 h [(1, x8)]) 1
    (fun v2 h1 =>
    ca_ (fj_run d 603 h1 [(1, s1), (1, v2)]) 1
      (fun v5 h4 =>
      dv_ (fi_vt 414 (h4 0 s0.toNat 0)) fun m10 => cv_ (fj_run d m10 h4 [(4, s0), (1, v5)])
        (fun h7 =>
        some (.inl none, h7))
        (fun q9 h7 => tx_ q9 h7))
      (fun q6 h4 => tx_ q6 h4))
    (fun q3 h1 => tx_ q3 h1) := by
  unfold c_619_265
  exact
    have D : fk_D 619 [(265, some [8], .lload 8, 2, 0, 0, 0), (267, none, .invokestatic 954, 3, 1, 598, 2), (270, none, .invokestatic 957, 3, 2, 603, 2), (273, none, .invokevirtual 920, 3, 1, 414, 0), (276, none, .goto 35, 3, 311, 0, 0)] := fq_of2 cd_619 ow_619 cl_619 rfl (pc := 265) (by decide +kernel)
    j_lld (pc := 265) D rfl rfl rfl fun D =>
    j_is (pc := 267) (m := 598) (a := [(1, x8)]) (rest := [(1, s1), (4, s0)]) D rfl rfl rfl rfl (fun v2 h1 e1 D =>
      have T := fj_run_ok _ _ _ _ _ _ H.1 e1
      have H := shp_st H T
      j_is (pc := 270) (m := 603) (a := [(1, s1), (1, v2)]) (rest := [(4, s0)]) D rfl rfl rfl rfl (fun v5 h4 e1 D =>
        have T := fj_run_ok _ _ _ _ _ _ H.1 e1
        have H := shp_st H T
        j_ivuv (pc := 273) (dd := 414) (a := [(1, v5)]) (rest := []) H.2.1 D rfl rfl rfl rfl rfl (fun m10 h7 e1 D =>
          have T := fj_run_ok _ _ _ _ _ _ H.1 e1
          have H := shp_st H T
          j_goto (pc := 276) D rfl <|
          have D : fk_D 619 [(311, none, .return_, 1, 0, 0, 0)] := fq_of2 cd_619 ow_619 cl_619 rfl (pc := 311) (by decide +kernel)
          j_vret D rt_619) (fun m10 q9 h7 e1 =>
          j_tx (hx_619 _))) (fun q6 h4 e1 =>
        j_tx (hx_619 _))) (fun q3 h1 e1 =>
      j_tx (hx_619 _))
theorem e_619_293 (d : Nat) (x2 x5 x8 s0 s1 s2 : Int) {h : fi_H} (H : Shp h) : c_619_293 d x2 x5 x8 s0 s1 s2 h =
  if x2 = 3 then
    c_619_305 d x8 s0 (wJ (s1 * s2)) x5 h
  else
    c_619_305 d x8 s0 (wJ (s1 * s2)) 1 h := by
  unfold c_619_293
  exact
    have D : fk_D 619 [(293, some [2, 5, 8], .lmul, 1, 0, 0, 0), (294, none, .iload_n 2, 1, 0, 0, 0), (295, none, .iconst 3, 1, 0, 3, 0), (296, none, .if_icmp .ne 8, 3, 304, 0, 0), (299, none, .lload 5, 2, 0, 0, 0), (301, none, .goto 4, 3, 305, 0, 0)] := fq_of2 cd_619 ow_619 cl_619 rfl (pc := 293) (by decide +kernel)
    j_lmul (pc := 293) D rfl fun D =>
    j_ildn (pc := 294) D rfl rfl rfl fun D =>
    j_ic (pc := 295) D rfl fun D =>
    j_ine (pc := 296) D rfl (fun q D =>
      j_lld (pc := 299) D rfl rfl rfl fun D =>
      j_goto (pc := 301) D rfl <|
      fk_jump cut_619_305 rfl rfl) (fun q =>
      have D : fk_D 619 [(304, none, .lconst 1, 1, 0, 0, 0)] := fq_of2 cd_619 ow_619 cl_619 rfl (pc := 304) (by decide +kernel)
      j_c0 (pc := 304) (v := (1, 1)) D rfl rfl (by decide +kernel) fun D =>
      fk_jump cut_619_305 rfl rfl)
theorem e_619_305 (d : Nat) (x8 s0 s1 s2 : Int) {h : fi_H} (H : Shp h) : c_619_305 d x8 s0 s1 s2 h =
  dv_ (fi_vt 433 (h 0 s0.toNat 0)) fun m4 => cv_ (fj_run d m4 h [(4, s0), (1, s1), (1, wJ (s2 * x8))])
    (fun h1 =>
    some (.inl none, h1))
    (fun q3 h1 => tx_ q3 h1) := by
  unfold c_619_305
  exact
    have D : fk_D 619 [(305, some [8], .lload 8, 2, 0, 0, 0), (307, none, .lmul, 1, 0, 0, 0), (308, none, .invokevirtual 1034, 3, 2, 433, 0), (311, none, .return_, 1, 0, 0, 0)] := fq_of2 cd_619 ow_619 cl_619 rfl (pc := 305) (by decide +kernel)
    j_lld (pc := 305) D rfl rfl rfl fun D =>
    j_lmul (pc := 307) D rfl fun D =>
    j_ivuv (pc := 308) (dd := 433) (a := [(1, s1), (1, wJ (s2 * x8))]) (rest := []) H.2.1 D rfl rfl rfl rfl rfl (fun m4 h1 e1 D =>
      have T := fj_run_ok _ _ _ _ _ _ H.1 e1
      have H := shp_st H T
      j_vret D rt_619) (fun m4 q3 h1 e1 =>
      j_tx (hx_619 _))
theorem m_619 (d : Nat) (x1 x2 x3 x5 x7 x8 x10 : Int) {h : fi_H} (H : Shp h) : fj_run (d + 1) 619 h [(4, 602), (0, x1), (0, x2), (1, x3), (1, x5), (0, x7), (1, x8), (1, x10)] =
  if x1 < 13 then
    c_619_22 d x1 x2 x3 x5 x7 x8 x10 h
  else
    ca_ (fj_run d 620 h [(0, x7), (1, x8)]) 0
      (fun v2 h1 =>
      if v2 = 0 then
        c_619_22 d x1 x2 x3 x5 x7 x8 x10 h1
      else
        cv_ (fj_run d 577 h1 [(4, 602), (0, 7)])
          (fun h4 =>
          c_619_22 d x1 x2 x3 x5 x7 x8 x10 h4)
          (fun q6 h4 => tx_ q6 h4))
      (fun q3 h1 => tx_ q3 h1) := by
  rw [fj_run_eq d (by decide) h [(4, 602), (0, x1), (0, x2), (1, x3), (1, x5), (0, x7), (1, x8), (1, x10)] (Nat.le_of_ble_eq_true (by rw [nl_619]; rfl))]
  show gG (fj_run d) 619 0 [(0, (4, 602)), (1, (0, x1)), (2, (0, x2)), (3, (1, x3)), (5, (1, x5)), (7, (0, x7)), (8, (1, x8)), (10, (1, x10))] [] h = _
  exact
    have D : fk_D 619 [(0, none, .iload_n 1, 1, 0, 0, 0), (1, none, .bipush 13, 2, 0, 13, 0), (3, none, .if_icmp .lt 19, 3, 22, 0, 0), (6, none, .iload 7, 2, 0, 0, 0), (8, none, .lload 8, 2, 0, 0, 0), (10, none, .invokestatic 1020, 3, 2, 620, 1), (13, none, .ifCond .eq 9, 3, 22, 0, 0), (16, none, .aload_n 0, 1, 0, 0, 0), (17, none, .bipush 7, 2, 0, 7, 0), (19, none, .invokevirtual 854, 3, 1, 403, 0)] := fq_of2 cd_619 ow_619 cl_619 rfl (pc := 0) (by decide +kernel)
    j_ildn (pc := 0) D rfl rfl rfl fun D =>
    j_bp (pc := 1) D rfl fun D =>
    j_ilt (pc := 3) D rfl (fun q =>
      fk_jump cut_619_22 rfl rfl) (fun q D =>
      j_ild (pc := 6) D rfl rfl rfl fun D =>
      j_lld (pc := 8) D rfl rfl rfl fun D =>
      j_is (pc := 10) (m := 620) (a := [(0, x7), (1, x8)]) (rest := []) D rfl rfl rfl rfl (fun v2 h1 e1 D =>
        have T := fj_run_ok _ _ _ _ _ _ H.1 e1
        have H := shp_st H T
        j_ifeq (pc := 13) D rfl (fun q =>
          fk_jump cut_619_22 rfl rfl) (fun q D =>
          j_aldn (pc := 16) D rfl rfl rfl fun D =>
          j_bp (pc := 17) D rfl fun D =>
          j_ivv (pc := 19) (m := 577) (dd := 403) (a := [(0, 7)]) (rest := []) D rfl rfl rfl rfl rfl (by decide) (s0_602 H) (by decide +kernel) (fun h4 e1 D =>
            have T := fj_run_ok _ _ _ _ _ _ H.1 e1
            have H := shp_st H T
            fk_jump cut_619_22 rfl rfl) (fun q6 h4 e1 =>
            j_tx (hx_619 _)))) (fun q3 h1 e1 =>
        j_tx (hx_619 _)))
/-! 620 StatuteHouseModel.isNought(IJ)Z -/
theorem cd_620 : fi_code 620 = prog_69_method_120_code := rfl
theorem hx_620 : ∀ pc, fi_hat 620 pc = none := fun pc => by unfold fi_hat; rw [show fi_hh 620 = [] from rfl]; rfl
theorem rt_620 : fi_ret 620 = some .boolean := rfl
theorem nl_620 : fi_nl 620 = 3 := rfl
theorem ow_620 : fi_ow 620 = 29 := rfl
theorem cl_620 : fj_cutT.getD 620 [] = [] := rfl
theorem m_620 (d : Nat) (x0 x1 : Int) {h : fi_H} (H : Shp h) : fj_run (d + 1) 620 h [(0, x0), (1, x1)] =
  if x0 = 6 then
    ca_ (fj_run d 582 h [(1, x1)]) 3
      (fun v2 h1 =>
      if dl_ v2 0 = 0 then
        some (.inl (some (0, 1)), h1)
      else
        some (.inl (some (0, 0)), h1))
      (fun q3 h1 => tx_ q3 h1)
  else
    if lc_ x1 0 = 0 then
      some (.inl (some (0, 1)), h)
    else
      some (.inl (some (0, 0)), h) := by
  rw [fj_run_eq d (by decide) h [(0, x0), (1, x1)] (Nat.le_of_ble_eq_true (by rw [nl_620]; rfl))]
  show gG (fj_run d) 620 0 [(0, (0, x0)), (1, (1, x1))] [] h = _
  exact
    have D : fk_D 620 [(0, none, .iload_n 0, 1, 0, 0, 0), (1, none, .bipush 6, 2, 0, 6, 0), (3, none, .if_icmp .ne 20, 3, 23, 0, 0), (6, none, .lload_n 1, 1, 0, 0, 0), (7, none, .invokestatic 960, 3, 1, 582, 4), (10, none, .dconst 0, 1, 0, 0, 0), (11, none, .dcmp .l, 1, 0, 0, 0), (12, none, .ifCond .ne 7, 3, 19, 0, 0), (15, none, .iconst 1, 1, 0, 1, 0), (16, none, .goto 18, 3, 34, 0, 0)] := fq_of2 cd_620 ow_620 cl_620 rfl (pc := 0) (by decide +kernel)
    j_ildn (pc := 0) D rfl rfl rfl fun D =>
    j_bp (pc := 1) D rfl fun D =>
    j_ine (pc := 3) D rfl (fun q D =>
      j_lldn (pc := 6) D rfl rfl rfl fun D =>
      j_is (pc := 7) (m := 582) (a := [(1, x1)]) (rest := []) D rfl rfl rfl rfl (fun v2 h1 e1 D =>
        have T := fj_run_ok _ _ _ _ _ _ H.1 e1
        have H := shp_st H T
        j_c0 (pc := 10) (v := (3, 0)) D rfl rfl (by decide +kernel) fun D =>
        j_dcmpl (pc := 11) D rfl fun D =>
        j_ifne (pc := 12) D rfl (fun q D =>
          j_ic (pc := 15) D rfl fun D =>
          j_goto (pc := 16) D rfl <|
          have D : fk_D 620 [(34, none, .ireturn, 1, 0, 0, 0)] := fq_of2 cd_620 ow_620 cl_620 rfl (pc := 34) (by decide +kernel)
          j_zret D rt_620 (gy (by decide))) (fun q =>
          have D : fk_D 620 [(19, none, .iconst 0, 1, 0, 0, 0), (20, none, .goto 14, 3, 34, 0, 0)] := fq_of2 cd_620 ow_620 cl_620 rfl (pc := 19) (by decide +kernel)
          j_ic (pc := 19) D rfl fun D =>
          j_goto (pc := 20) D rfl <|
          have D : fk_D 620 [(34, none, .ireturn, 1, 0, 0, 0)] := fq_of2 cd_620 ow_620 cl_620 rfl (pc := 34) (by decide +kernel)
          j_zret D rt_620 (gy (by decide)))) (fun q3 h1 e1 =>
        j_tx (hx_620 _))) (fun q =>
      have D : fk_D 620 [(23, none, .lload_n 1, 1, 0, 0, 0), (24, none, .lconst 0, 1, 0, 0, 0), (25, none, .lcmp, 1, 0, 0, 0), (26, none, .ifCond .ne 7, 3, 33, 0, 0), (29, none, .iconst 1, 1, 0, 1, 0), (30, none, .goto 4, 3, 34, 0, 0)] := fq_of2 cd_620 ow_620 cl_620 rfl (pc := 23) (by decide +kernel)
      j_lldn (pc := 23) D rfl rfl rfl fun D =>
      j_c0 (pc := 24) (v := (1, 0)) D rfl rfl (by decide +kernel) fun D =>
      j_lcmp (pc := 25) D rfl fun D =>
      j_ifne (pc := 26) D rfl (fun q D =>
        j_ic (pc := 29) D rfl fun D =>
        j_goto (pc := 30) D rfl <|
        have D : fk_D 620 [(34, none, .ireturn, 1, 0, 0, 0)] := fq_of2 cd_620 ow_620 cl_620 rfl (pc := 34) (by decide +kernel)
        j_zret D rt_620 (gy (by decide))) (fun q =>
        have D : fk_D 620 [(33, none, .iconst 0, 1, 0, 0, 0), (34, none, .ireturn, 1, 0, 0, 0)] := fq_of2 cd_620 ow_620 cl_620 rfl (pc := 33) (by decide +kernel)
        j_ic (pc := 33) D rfl fun D =>
        j_zret D rt_620 (gy (by decide))))
/-! 621 StatuteHouseModel.times(IJJIJJ)V -/
theorem cd_621 : fi_code 621 = prog_69_method_122_code := rfl
theorem hx_621 : ∀ pc, fi_hat 621 pc = none := fun pc => by unfold fi_hat; rw [show fi_hh 621 = [] from rfl]; rfl
theorem rt_621 : fi_ret 621 = none := rfl
theorem nl_621 : fi_nl 621 = 16 := rfl
theorem ow_621 : fi_ow 621 = 29 := rfl
theorem cl_621 : fj_cutT.getD 621 [] = [(11, [0, 1, 2, 4, 6, 7, 9]), (22, [0, 1, 2, 4, 6, 7, 9]), (35, [0, 1, 4, 6, 9, 11]), (48, [0, 1, 4, 9, 11, 13]), (74, []), (114, [0, 11, 13]), (190, [0, 1, 2, 4, 6, 7, 9]), (206, [6, 9]), (218, [])] := rfl
theorem cut_621_11 : fj_cut 621 11 = some [0, 1, 2, 4, 6, 7, 9] := by decide +kernel
noncomputable def c_621_11 (d : Nat) (x1 x2 x4 x6 x7 x9 : Int) (h : fi_H) : fk_R := gG (fj_run d) 621 11 [(0, (4, 602)), (1, (0, x1)), (2, (1, x2)), (4, (1, x4)), (6, (0, x6)), (7, (1, x7)), (9, (1, x9))] [] h
theorem cut_621_22 : fj_cut 621 22 = some [0, 1, 2, 4, 6, 7, 9] := by decide +kernel
noncomputable def c_621_22 (d : Nat) (x1 x2 x4 x6 x7 x9 s0 : Int) (h : fi_H) : fk_R := gG (fj_run d) 621 22 [(0, (4, 602)), (1, (0, x1)), (2, (1, x2)), (4, (1, x4)), (6, (0, x6)), (7, (1, x7)), (9, (1, x9))] [(1, s0)] h
theorem cut_621_35 : fj_cut 621 35 = some [0, 1, 4, 6, 9, 11] := by decide +kernel
noncomputable def c_621_35 (d : Nat) (x1 x4 x6 x9 x11 s0 : Int) (h : fi_H) : fk_R := gG (fj_run d) 621 35 [(0, (4, 602)), (1, (0, x1)), (4, (1, x4)), (6, (0, x6)), (9, (1, x9)), (11, (1, x11))] [(1, s0)] h
theorem cut_621_48 : fj_cut 621 48 = some [0, 1, 4, 9, 11, 13] := by decide +kernel
noncomputable def c_621_48 (d : Nat) (x1 x4 x9 x11 x13 s0 : Int) (h : fi_H) : fk_R := gG (fj_run d) 621 48 [(0, (4, 602)), (1, (0, x1)), (4, (1, x4)), (9, (1, x9)), (11, (1, x11)), (13, (1, x13))] [(0, s0)] h
theorem cut_621_74 : fj_cut 621 74 = some [] := by decide +kernel
noncomputable def c_621_74 (d : Nat) (s0 s1 s2 : Int) (h : fi_H) : fk_R := gG (fj_run d) 621 74 [] [(1, s2), (1, s1), (4, s0)] h
theorem cut_621_114 : fj_cut 621 114 = some [0, 11, 13] := by decide +kernel
noncomputable def c_621_114 (d : Nat) (x11 x13 : Int) (h : fi_H) : fk_R := gG (fj_run d) 621 114 [(0, (4, 602)), (11, (1, x11)), (13, (1, x13))] [] h
theorem cut_621_190 : fj_cut 621 190 = some [0, 1, 2, 4, 6, 7, 9] := by decide +kernel
noncomputable def c_621_190 (d : Nat) (x1 x2 x4 x6 x7 x9 : Int) (h : fi_H) : fk_R := gG (fj_run d) 621 190 [(0, (4, 602)), (1, (0, x1)), (2, (1, x2)), (4, (1, x4)), (6, (0, x6)), (7, (1, x7)), (9, (1, x9))] [] h
theorem cut_621_206 : fj_cut 621 206 = some [6, 9] := by decide +kernel
noncomputable def c_621_206 (d : Nat) (x6 x9 s0 s1 s2 : Int) (h : fi_H) : fk_R := gG (fj_run d) 621 206 [(6, (0, x6)), (9, (1, x9))] [(1, s2), (1, s1), (4, s0)] h
theorem cut_621_218 : fj_cut 621 218 = some [] := by decide +kernel
noncomputable def c_621_218 (d : Nat) (s0 s1 s2 s3 : Int) (h : fi_H) : fk_R := gG (fj_run d) 621 218 [] [(1, s3), (1, s2), (1, s1), (4, s0)] h
theorem e_621_11 (d : Nat) (x1 x2 x4 x6 x7 x9 : Int) {h : fi_H} (H : Shp h) : c_621_11 d x1 x2 x4 x6 x7 x9 h =
  if x1 = 2 then
    c_621_22 d x1 x2 x4 x6 x7 x9 x2 h
  else
    c_621_22 d x1 x2 x4 x6 x7 x9 x7 h := by
  unfold c_621_11
  exact
    have D : fk_D 621 [(11, some [0, 1, 2, 4, 6, 7, 9], .iload_n 1, 1, 0, 0, 0), (12, none, .iconst 2, 1, 0, 2, 0), (13, none, .if_icmp .ne 7, 3, 20, 0, 0), (16, none, .lload_n 2, 1, 0, 0, 0), (17, none, .goto 5, 3, 22, 0, 0)] := fq_of2 cd_621 ow_621 cl_621 rfl (pc := 11) (by decide +kernel)
    j_ildn (pc := 11) D rfl rfl rfl fun D =>
    j_ic (pc := 12) D rfl fun D =>
    j_ine (pc := 13) D rfl (fun q D =>
      j_lldn (pc := 16) D rfl rfl rfl fun D =>
      j_goto (pc := 17) D rfl <|
      fk_jump cut_621_22 rfl rfl) (fun q =>
      have D : fk_D 621 [(20, none, .lload 7, 2, 0, 0, 0)] := fq_of2 cd_621 ow_621 cl_621 rfl (pc := 20) (by decide +kernel)
      j_lld (pc := 20) D rfl rfl rfl fun D =>
      fk_jump cut_621_22 rfl rfl)
theorem e_621_22 (d : Nat) (x1 x2 x4 x6 x7 x9 s0 : Int) {h : fi_H} (H : Shp h) : c_621_22 d x1 x2 x4 x6 x7 x9 s0 h =
  if x1 = 2 then
    c_621_35 d x1 x4 x6 x9 s0 x7 h
  else
    c_621_35 d x1 x4 x6 x9 s0 x2 h := by
  unfold c_621_22
  exact
    have D : fk_D 621 [(22, some [0, 1, 2, 4, 6, 7, 9], .lstore 11, 2, 0, 0, 0), (24, none, .iload_n 1, 1, 0, 0, 0), (25, none, .iconst 2, 1, 0, 2, 0), (26, none, .if_icmp .ne 8, 3, 34, 0, 0), (29, none, .lload 7, 2, 0, 0, 0), (31, none, .goto 4, 3, 35, 0, 0)] := fq_of2 cd_621 ow_621 cl_621 rfl (pc := 22) (by decide +kernel)
    j_lst (pc := 22) (L' := [(11, (1, s0)), (0, (4, 602)), (1, (0, x1)), (2, (1, x2)), (4, (1, x4)), (6, (0, x6)), (7, (1, x7)), (9, (1, x9))]) D rfl nl_621 rfl rfl fun D =>
    j_ildn (pc := 24) D rfl rfl rfl fun D =>
    j_ic (pc := 25) D rfl fun D =>
    j_ine (pc := 26) D rfl (fun q D =>
      j_lld (pc := 29) D rfl rfl rfl fun D =>
      j_goto (pc := 31) D rfl <|
      fk_jump cut_621_35 rfl rfl) (fun q =>
      have D : fk_D 621 [(34, none, .lload_n 2, 1, 0, 0, 0)] := fq_of2 cd_621 ow_621 cl_621 rfl (pc := 34) (by decide +kernel)
      j_lldn (pc := 34) D rfl rfl rfl fun D =>
      fk_jump cut_621_35 rfl rfl)
theorem e_621_35 (d : Nat) (x1 x4 x6 x9 x11 s0 : Int) {h : fi_H} (H : Shp h) : c_621_35 d x1 x4 x6 x9 x11 s0 h =
  if x1 = 2 then
    c_621_48 d x1 x4 x9 x11 s0 x6 h
  else
    c_621_48 d x1 x4 x9 x11 s0 x1 h := by
  unfold c_621_35
  exact
    have D : fk_D 621 [(35, some [0, 1, 4, 6, 9, 11], .lstore 13, 2, 0, 0, 0), (37, none, .iload_n 1, 1, 0, 0, 0), (38, none, .iconst 2, 1, 0, 2, 0), (39, none, .if_icmp .ne 8, 3, 47, 0, 0), (42, none, .iload 6, 2, 0, 0, 0), (44, none, .goto 4, 3, 48, 0, 0)] := fq_of2 cd_621 ow_621 cl_621 rfl (pc := 35) (by decide +kernel)
    j_lst (pc := 35) (L' := [(13, (1, s0)), (0, (4, 602)), (1, (0, x1)), (4, (1, x4)), (6, (0, x6)), (9, (1, x9)), (11, (1, x11))]) D rfl nl_621 rfl rfl fun D =>
    j_ildn (pc := 37) D rfl rfl rfl fun D =>
    j_ic (pc := 38) D rfl fun D =>
    j_ine (pc := 39) D rfl (fun q D =>
      j_ild (pc := 42) D rfl rfl rfl fun D =>
      j_goto (pc := 44) D rfl <|
      fk_jump cut_621_48 rfl rfl) (fun q =>
      have D : fk_D 621 [(47, none, .iload_n 1, 1, 0, 0, 0)] := fq_of2 cd_621 ow_621 cl_621 rfl (pc := 47) (by decide +kernel)
      j_ildn (pc := 47) D rfl rfl rfl fun D =>
      fk_jump cut_621_48 rfl rfl)
theorem e_621_48 (d : Nat) (x1 x4 x9 x11 x13 s0 : Int) {h : fi_H} (H : Shp h) : c_621_48 d x1 x4 x9 x11 x13 s0 h =
  if s0 = 3 then
    if x1 = 2 then
      c_621_74 d 602 (wJ (x11 * x13)) x9 h
    else
      c_621_74 d 602 (wJ (x11 * x13)) x4 h
  else
    if lc_ x13 0 = 0 then
      c_621_114 d x11 x13 h
    else
      ca_ (fj_run d 598 h [(1, x11)]) 1
        (fun v2 h1 =>
        ca_ (fj_run d 598 h1 [(1, x13)]) 1
          (fun v5 h4 =>
          if v5 = 0 then none else
          if 0 < lc_ v2 (lq_ 1000000000000 v5) then
            cv_ (fj_run d 577 h4 [(4, 602), (0, 8)])
              (fun h7 =>
              c_621_114 d x11 x13 h7)
              (fun q9 h7 => tx_ q9 h7)
          else
            c_621_114 d x11 x13 h4)
          (fun q6 h4 => tx_ q6 h4))
        (fun q3 h1 => tx_ q3 h1) := by
  unfold c_621_48
  exact
    have D : fk_D 621 [(48, some [0, 1, 4, 9, 11, 13], .istore 15, 2, 0, 0, 0), (50, none, .iload 15, 2, 0, 0, 0), (52, none, .iconst 3, 1, 0, 3, 0), (53, none, .if_icmp .ne 30, 3, 83, 0, 0), (56, none, .aload_n 0, 1, 0, 0, 0), (57, none, .lload 11, 2, 0, 0, 0), (59, none, .lload 13, 2, 0, 0, 0), (61, none, .lmul, 1, 0, 0, 0), (62, none, .iload_n 1, 1, 0, 0, 0), (63, none, .iconst 2, 1, 0, 2, 0), (64, none, .if_icmp .ne 8, 3, 72, 0, 0), (67, none, .lload 9, 2, 0, 0, 0), (69, none, .goto 5, 3, 74, 0, 0)] := fq_of2 cd_621 ow_621 cl_621 rfl (pc := 48) (by decide +kernel)
    j_ist (pc := 48) (L' := [(15, (0, s0)), (0, (4, 602)), (1, (0, x1)), (4, (1, x4)), (9, (1, x9)), (11, (1, x11)), (13, (1, x13))]) D rfl nl_621 rfl rfl fun D =>
    j_ild (pc := 50) D rfl rfl rfl fun D =>
    j_ic (pc := 52) D rfl fun D =>
    j_ine (pc := 53) D rfl (fun q D =>
      j_aldn (pc := 56) D rfl rfl rfl fun D =>
      j_lld (pc := 57) D rfl rfl rfl fun D =>
      j_lld (pc := 59) D rfl rfl rfl fun D =>
      j_lmul (pc := 61) D rfl fun D =>
      j_ildn (pc := 62) D rfl rfl rfl fun D =>
      j_ic (pc := 63) D rfl fun D =>
      j_ine (pc := 64) D rfl (fun q D =>
        j_lld (pc := 67) D rfl rfl rfl fun D =>
        j_goto (pc := 69) D rfl <|
        fk_jump cut_621_74 rfl rfl) (fun q =>
        have D : fk_D 621 [(72, none, .lload 4, 2, 0, 0, 0)] := fq_of2 cd_621 ow_621 cl_621 rfl (pc := 72) (by decide +kernel)
        j_lld (pc := 72) D rfl rfl rfl fun D =>
        fk_jump cut_621_74 rfl rfl)) (fun q =>
      have D : fk_D 621 [(83, none, .lload 13, 2, 0, 0, 0), (85, none, .lconst 0, 1, 0, 0, 0), (86, none, .lcmp, 1, 0, 0, 0), (87, none, .ifCond .eq 27, 3, 114, 0, 0), (90, none, .lload 11, 2, 0, 0, 0), (92, none, .invokestatic 954, 3, 1, 598, 2), (95, none, .ldc2_w 930, 3, 1, 1000000000000, 0), (98, none, .lload 13, 2, 0, 0, 0), (100, none, .invokestatic 954, 3, 1, 598, 2), (103, none, .ldiv, 1, 0, 0, 0), (104, none, .lcmp, 1, 0, 0, 0), (105, none, .ifCond .le 9, 3, 114, 0, 0), (108, none, .aload_n 0, 1, 0, 0, 0), (109, none, .bipush 8, 2, 0, 8, 0), (111, none, .invokevirtual 854, 3, 1, 403, 0)] := fq_of2 cd_621 ow_621 cl_621 rfl (pc := 83) (by decide +kernel)
      j_lld (pc := 83) D rfl rfl rfl fun D =>
      j_c0 (pc := 85) (v := (1, 0)) D rfl rfl (by decide +kernel) fun D =>
      j_lcmp (pc := 86) D rfl fun D =>
      j_ifeq (pc := 87) D rfl (fun q =>
        fk_jump cut_621_114 rfl rfl) (fun q D =>
        j_lld (pc := 90) D rfl rfl rfl fun D =>
        j_is (pc := 92) (m := 598) (a := [(1, x11)]) (rest := []) D rfl rfl rfl rfl (fun v2 h1 e1 D =>
          have T := fj_run_ok _ _ _ _ _ _ H.1 e1
          have H := shp_st H T
          j_ldc2 (pc := 95) D rfl fun D =>
          j_lld (pc := 98) D rfl rfl rfl fun D =>
          j_is (pc := 100) (m := 598) (a := [(1, x13)]) (rest := [(1, 1000000000000), (1, v2)]) D rfl rfl rfl rfl (fun v5 h4 e1 D =>
            have T := fj_run_ok _ _ _ _ _ _ H.1 e1
            have H := shp_st H T
            j_ldiv (pc := 103) D rfl fun q D =>
            j_lcmp (pc := 104) D rfl fun D =>
            j_ifle (pc := 105) D rfl (fun q D =>
              j_aldn (pc := 108) D rfl rfl rfl fun D =>
              j_bp (pc := 109) D rfl fun D =>
              j_ivv (pc := 111) (m := 577) (dd := 403) (a := [(0, 8)]) (rest := []) D rfl rfl rfl rfl rfl (by decide) (s0_602 H) (by decide +kernel) (fun h7 e1 D =>
                have T := fj_run_ok _ _ _ _ _ _ H.1 e1
                have H := shp_st H T
                fk_jump cut_621_114 rfl rfl) (fun q9 h7 e1 =>
                j_tx (hx_621 _))) (fun q =>
              fk_jump cut_621_114 rfl rfl)) (fun q6 h4 e1 =>
            j_tx (hx_621 _))) (fun q3 h1 e1 =>
          j_tx (hx_621 _))))
theorem e_621_74 (d : Nat) (s0 s1 s2 : Int) {h : fi_H} (H : Shp h) : c_621_74 d s0 s1 s2 h =
  ca_ (fj_run d 603 h [(1, s1), (1, s2)]) 1
    (fun v2 h1 =>
    dv_ (fi_vt 414 (h1 0 s0.toNat 0)) fun m7 => cv_ (fj_run d m7 h1 [(4, s0), (1, v2)])
      (fun h4 =>
      some (.inl none, h4))
      (fun q6 h4 => tx_ q6 h4))
    (fun q3 h1 => tx_ q3 h1) := by
  unfold c_621_74
  exact
    have D : fk_D 621 [(74, some [], .invokestatic 957, 3, 2, 603, 2), (77, none, .invokevirtual 920, 3, 1, 414, 0), (80, none, .goto 43, 3, 123, 0, 0)] := fq_of2 cd_621 ow_621 cl_621 rfl (pc := 74) (by decide +kernel)
    j_is (pc := 74) (m := 603) (a := [(1, s1), (1, s2)]) (rest := [(4, s0)]) D rfl rfl rfl rfl (fun v2 h1 e1 D =>
      have T := fj_run_ok _ _ _ _ _ _ H.1 e1
      have H := shp_st H T
      j_ivuv (pc := 77) (dd := 414) (a := [(1, v2)]) (rest := []) H.2.1 D rfl rfl rfl rfl rfl (fun m7 h4 e1 D =>
        have T := fj_run_ok _ _ _ _ _ _ H.1 e1
        have H := shp_st H T
        j_goto (pc := 80) D rfl <|
        have D : fk_D 621 [(123, none, .goto 99, 3, 222, 0, 0)] := fq_of2 cd_621 ow_621 cl_621 rfl (pc := 123) (by decide +kernel)
        j_goto (pc := 123) D rfl <|
        have D : fk_D 621 [(222, none, .return_, 1, 0, 0, 0)] := fq_of2 cd_621 ow_621 cl_621 rfl (pc := 222) (by decide +kernel)
        j_vret D rt_621) (fun m7 q6 h4 e1 =>
        j_tx (hx_621 _))) (fun q3 h1 e1 =>
      j_tx (hx_621 _))
theorem e_621_114 (d : Nat) (x11 x13 : Int) {h : fi_H} (H : Shp h) : c_621_114 d x11 x13 h =
  cv_ (fj_run d 586 h [(4, 602), (1, wJ (x11 * x13))])
    (fun h1 =>
    some (.inl none, h1))
    (fun q3 h1 => tx_ q3 h1) := by
  unfold c_621_114
  exact
    have D : fk_D 621 [(114, some [0, 11, 13], .aload_n 0, 1, 0, 0, 0), (115, none, .lload 11, 2, 0, 0, 0), (117, none, .lload 13, 2, 0, 0, 0), (119, none, .lmul, 1, 0, 0, 0), (120, none, .invokevirtual 920, 3, 1, 414, 0), (123, none, .goto 99, 3, 222, 0, 0)] := fq_of2 cd_621 ow_621 cl_621 rfl (pc := 114) (by decide +kernel)
    j_aldn (pc := 114) D rfl rfl rfl fun D =>
    j_lld (pc := 115) D rfl rfl rfl fun D =>
    j_lld (pc := 117) D rfl rfl rfl fun D =>
    j_lmul (pc := 119) D rfl fun D =>
    j_ivv (pc := 120) (m := 586) (dd := 414) (a := [(1, wJ (x11 * x13))]) (rest := []) D rfl rfl rfl rfl rfl (by decide) (s0_602 H) (by decide +kernel) (fun h1 e1 D =>
      have T := fj_run_ok _ _ _ _ _ _ H.1 e1
      have H := shp_st H T
      j_goto (pc := 123) D rfl <|
      have D : fk_D 621 [(222, none, .return_, 1, 0, 0, 0)] := fq_of2 cd_621 ow_621 cl_621 rfl (pc := 222) (by decide +kernel)
      j_vret D rt_621) (fun q3 h1 e1 =>
      j_tx (hx_621 _))
theorem e_621_190 (d : Nat) (x1 x2 x4 x6 x7 x9 : Int) {h : fi_H} (H : Shp h) : c_621_190 d x1 x2 x4 x6 x7 x9 h =
  if x1 = 3 then
    c_621_206 d x6 x9 602 (wJ (x2 * x7)) x4 h
  else
    c_621_206 d x6 x9 602 (wJ (x2 * x7)) 1 h := by
  unfold c_621_190
  exact
    have D : fk_D 621 [(190, some [0, 1, 2, 4, 6, 7, 9], .aload_n 0, 1, 0, 0, 0), (191, none, .lload_n 2, 1, 0, 0, 0), (192, none, .lload 7, 2, 0, 0, 0), (194, none, .lmul, 1, 0, 0, 0), (195, none, .iload_n 1, 1, 0, 0, 0), (196, none, .iconst 3, 1, 0, 3, 0), (197, none, .if_icmp .ne 8, 3, 205, 0, 0), (200, none, .lload 4, 2, 0, 0, 0), (202, none, .goto 4, 3, 206, 0, 0)] := fq_of2 cd_621 ow_621 cl_621 rfl (pc := 190) (by decide +kernel)
    j_aldn (pc := 190) D rfl rfl rfl fun D =>
    j_lldn (pc := 191) D rfl rfl rfl fun D =>
    j_lld (pc := 192) D rfl rfl rfl fun D =>
    j_lmul (pc := 194) D rfl fun D =>
    j_ildn (pc := 195) D rfl rfl rfl fun D =>
    j_ic (pc := 196) D rfl fun D =>
    j_ine (pc := 197) D rfl (fun q D =>
      j_lld (pc := 200) D rfl rfl rfl fun D =>
      j_goto (pc := 202) D rfl <|
      fk_jump cut_621_206 rfl rfl) (fun q =>
      have D : fk_D 621 [(205, none, .lconst 1, 1, 0, 0, 0)] := fq_of2 cd_621 ow_621 cl_621 rfl (pc := 205) (by decide +kernel)
      j_c0 (pc := 205) (v := (1, 1)) D rfl rfl (by decide +kernel) fun D =>
      fk_jump cut_621_206 rfl rfl)
theorem e_621_206 (d : Nat) (x6 x9 s0 s1 s2 : Int) {h : fi_H} (H : Shp h) : c_621_206 d x6 x9 s0 s1 s2 h =
  if x6 = 3 then
    c_621_218 d s0 s1 s2 x9 h
  else
    c_621_218 d s0 s1 s2 1 h := by
  unfold c_621_206
  exact
    have D : fk_D 621 [(206, some [6, 9], .iload 6, 2, 0, 0, 0), (208, none, .iconst 3, 1, 0, 3, 0), (209, none, .if_icmp .ne 8, 3, 217, 0, 0), (212, none, .lload 9, 2, 0, 0, 0), (214, none, .goto 4, 3, 218, 0, 0)] := fq_of2 cd_621 ow_621 cl_621 rfl (pc := 206) (by decide +kernel)
    j_ild (pc := 206) D rfl rfl rfl fun D =>
    j_ic (pc := 208) D rfl fun D =>
    j_ine (pc := 209) D rfl (fun q D =>
      j_lld (pc := 212) D rfl rfl rfl fun D =>
      j_goto (pc := 214) D rfl <|
      fk_jump cut_621_218 rfl rfl) (fun q =>
      have D : fk_D 621 [(217, none, .lconst 1, 1, 0, 0, 0)] := fq_of2 cd_621 ow_621 cl_621 rfl (pc := 217) (by decide +kernel)
      j_c0 (pc := 217) (v := (1, 1)) D rfl rfl (by decide +kernel) fun D =>
      fk_jump cut_621_218 rfl rfl)
theorem e_621_218 (d : Nat) (s0 s1 s2 s3 : Int) {h : fi_H} (H : Shp h) : c_621_218 d s0 s1 s2 s3 h =
  dv_ (fi_vt 433 (h 0 s0.toNat 0)) fun m4 => cv_ (fj_run d m4 h [(4, s0), (1, s1), (1, wJ (s2 * s3))])
    (fun h1 =>
    some (.inl none, h1))
    (fun q3 h1 => tx_ q3 h1) := by
  unfold c_621_218
  exact
    have D : fk_D 621 [(218, some [], .lmul, 1, 0, 0, 0), (219, none, .invokevirtual 1034, 3, 2, 433, 0), (222, none, .return_, 1, 0, 0, 0)] := fq_of2 cd_621 ow_621 cl_621 rfl (pc := 218) (by decide +kernel)
    j_lmul (pc := 218) D rfl fun D =>
    j_ivuv (pc := 219) (dd := 433) (a := [(1, s1), (1, wJ (s2 * s3))]) (rest := []) H.2.1 D rfl rfl rfl rfl rfl (fun m4 h1 e1 D =>
      have T := fj_run_ok _ _ _ _ _ _ H.1 e1
      have H := shp_st H T
      j_vret D rt_621) (fun m4 q3 h1 e1 =>
      j_tx (hx_621 _))
theorem m_621 (d : Nat) (x1 x2 x4 x6 x7 x9 : Int) {h : fi_H} (H : Shp h) : fj_run (d + 1) 621 h [(4, 602), (0, x1), (1, x2), (1, x4), (0, x6), (1, x7), (1, x9)] =
  if x1 = 2 then
    c_621_11 d x1 x2 x4 x6 x7 x9 h
  else
    if x6 = 2 then
      c_621_11 d x1 x2 x4 x6 x7 x9 h
    else
      if x1 = 5 then
        cv_ (fj_run d 585 h [(4, 602), (1, wJ (x2 * x7)), (1, wJ (x4 * x7))])
          (fun h1 =>
          some (.inl none, h1))
          (fun q3 h1 => tx_ q3 h1)
      else
        if x6 = 5 then
          cv_ (fj_run d 585 h [(4, 602), (1, wJ (x2 * x7)), (1, wJ (x2 * x9))])
            (fun h4 =>
            some (.inl none, h4))
            (fun q6 h4 => tx_ q6 h4)
        else
          if x1 = 1 then
            if x6 = 1 then
              cv_ (fj_run d 587 h [(4, 602), (1, wJ (x2 * x7))])
                (fun h7 =>
                some (.inl none, h7))
                (fun q9 h7 => tx_ q9 h7)
            else
              c_621_190 d x1 x2 x4 x6 x7 x9 h
          else
            c_621_190 d x1 x2 x4 x6 x7 x9 h := by
  rw [fj_run_eq d (by decide) h [(4, 602), (0, x1), (1, x2), (1, x4), (0, x6), (1, x7), (1, x9)] (Nat.le_of_ble_eq_true (by rw [nl_621]; rfl))]
  show gG (fj_run d) 621 0 [(0, (4, 602)), (1, (0, x1)), (2, (1, x2)), (4, (1, x4)), (6, (0, x6)), (7, (1, x7)), (9, (1, x9))] [] h = _
  exact
    have D : fk_D 621 [(0, none, .iload_n 1, 1, 0, 0, 0), (1, none, .iconst 2, 1, 0, 2, 0), (2, none, .if_icmp .eq 9, 3, 11, 0, 0), (5, none, .iload 6, 2, 0, 0, 0), (7, none, .iconst 2, 1, 0, 2, 0), (8, none, .if_icmp .ne 118, 3, 126, 0, 0)] := fq_of2 cd_621 ow_621 cl_621 rfl (pc := 0) (by decide +kernel)
    j_ildn (pc := 0) D rfl rfl rfl fun D =>
    j_ic (pc := 1) D rfl fun D =>
    j_ieq (pc := 2) D rfl (fun q =>
      fk_jump cut_621_11 rfl rfl) (fun q D =>
      j_ild (pc := 5) D rfl rfl rfl fun D =>
      j_ic (pc := 7) D rfl fun D =>
      j_ine (pc := 8) D rfl (fun q D =>
        fk_jump cut_621_11 rfl rfl) (fun q =>
        have D : fk_D 621 [(126, none, .iload_n 1, 1, 0, 0, 0), (127, none, .iconst 5, 1, 0, 5, 0), (128, none, .if_icmp .ne 19, 3, 147, 0, 0), (131, none, .aload_n 0, 1, 0, 0, 0), (132, none, .lload_n 2, 1, 0, 0, 0), (133, none, .lload 7, 2, 0, 0, 0), (135, none, .lmul, 1, 0, 0, 0), (136, none, .lload 4, 2, 0, 0, 0), (138, none, .lload 7, 2, 0, 0, 0), (140, none, .lmul, 1, 0, 0, 0), (141, none, .invokevirtual 1013, 3, 2, 429, 0), (144, none, .goto 78, 3, 222, 0, 0)] := fq_of2 cd_621 ow_621 cl_621 rfl (pc := 126) (by decide +kernel)
        j_ildn (pc := 126) D rfl rfl rfl fun D =>
        j_ic (pc := 127) D rfl fun D =>
        j_ine (pc := 128) D rfl (fun q D =>
          j_aldn (pc := 131) D rfl rfl rfl fun D =>
          j_lldn (pc := 132) D rfl rfl rfl fun D =>
          j_lld (pc := 133) D rfl rfl rfl fun D =>
          j_lmul (pc := 135) D rfl fun D =>
          j_lld (pc := 136) D rfl rfl rfl fun D =>
          j_lld (pc := 138) D rfl rfl rfl fun D =>
          j_lmul (pc := 140) D rfl fun D =>
          j_ivv (pc := 141) (m := 585) (dd := 429) (a := [(1, wJ (x2 * x7)), (1, wJ (x4 * x7))]) (rest := []) D rfl rfl rfl rfl rfl (by decide) (s0_602 H) (by decide +kernel) (fun h1 e1 D =>
            have T := fj_run_ok _ _ _ _ _ _ H.1 e1
            have H := shp_st H T
            j_goto (pc := 144) D rfl <|
            have D : fk_D 621 [(222, none, .return_, 1, 0, 0, 0)] := fq_of2 cd_621 ow_621 cl_621 rfl (pc := 222) (by decide +kernel)
            j_vret D rt_621) (fun q3 h1 e1 =>
            j_tx (hx_621 _))) (fun q =>
          have D : fk_D 621 [(147, none, .iload 6, 2, 0, 0, 0), (149, none, .iconst 5, 1, 0, 5, 0), (150, none, .if_icmp .ne 18, 3, 168, 0, 0), (153, none, .aload_n 0, 1, 0, 0, 0), (154, none, .lload_n 2, 1, 0, 0, 0), (155, none, .lload 7, 2, 0, 0, 0), (157, none, .lmul, 1, 0, 0, 0), (158, none, .lload_n 2, 1, 0, 0, 0), (159, none, .lload 9, 2, 0, 0, 0), (161, none, .lmul, 1, 0, 0, 0), (162, none, .invokevirtual 1013, 3, 2, 429, 0), (165, none, .goto 57, 3, 222, 0, 0)] := fq_of2 cd_621 ow_621 cl_621 rfl (pc := 147) (by decide +kernel)
          j_ild (pc := 147) D rfl rfl rfl fun D =>
          j_ic (pc := 149) D rfl fun D =>
          j_ine (pc := 150) D rfl (fun q D =>
            j_aldn (pc := 153) D rfl rfl rfl fun D =>
            j_lldn (pc := 154) D rfl rfl rfl fun D =>
            j_lld (pc := 155) D rfl rfl rfl fun D =>
            j_lmul (pc := 157) D rfl fun D =>
            j_lldn (pc := 158) D rfl rfl rfl fun D =>
            j_lld (pc := 159) D rfl rfl rfl fun D =>
            j_lmul (pc := 161) D rfl fun D =>
            j_ivv (pc := 162) (m := 585) (dd := 429) (a := [(1, wJ (x2 * x7)), (1, wJ (x2 * x9))]) (rest := []) D rfl rfl rfl rfl rfl (by decide) (s0_602 H) (by decide +kernel) (fun h4 e1 D =>
              have T := fj_run_ok _ _ _ _ _ _ H.1 e1
              have H := shp_st H T
              j_goto (pc := 165) D rfl <|
              have D : fk_D 621 [(222, none, .return_, 1, 0, 0, 0)] := fq_of2 cd_621 ow_621 cl_621 rfl (pc := 222) (by decide +kernel)
              j_vret D rt_621) (fun q6 h4 e1 =>
              j_tx (hx_621 _))) (fun q =>
            have D : fk_D 621 [(168, none, .iload_n 1, 1, 0, 0, 0), (169, none, .iconst 1, 1, 0, 1, 0), (170, none, .if_icmp .ne 20, 3, 190, 0, 0), (173, none, .iload 6, 2, 0, 0, 0), (175, none, .iconst 1, 1, 0, 1, 0), (176, none, .if_icmp .ne 14, 3, 190, 0, 0), (179, none, .aload_n 0, 1, 0, 0, 0), (180, none, .lload_n 2, 1, 0, 0, 0), (181, none, .lload 7, 2, 0, 0, 0), (183, none, .lmul, 1, 0, 0, 0), (184, none, .invokevirtual 994, 3, 1, 425, 0), (187, none, .goto 35, 3, 222, 0, 0)] := fq_of2 cd_621 ow_621 cl_621 rfl (pc := 168) (by decide +kernel)
            j_ildn (pc := 168) D rfl rfl rfl fun D =>
            j_ic (pc := 169) D rfl fun D =>
            j_ine (pc := 170) D rfl (fun q D =>
              j_ild (pc := 173) D rfl rfl rfl fun D =>
              j_ic (pc := 175) D rfl fun D =>
              j_ine (pc := 176) D rfl (fun q D =>
                j_aldn (pc := 179) D rfl rfl rfl fun D =>
                j_lldn (pc := 180) D rfl rfl rfl fun D =>
                j_lld (pc := 181) D rfl rfl rfl fun D =>
                j_lmul (pc := 183) D rfl fun D =>
                j_ivv (pc := 184) (m := 587) (dd := 425) (a := [(1, wJ (x2 * x7))]) (rest := []) D rfl rfl rfl rfl rfl (by decide) (s0_602 H) (by decide +kernel) (fun h7 e1 D =>
                  have T := fj_run_ok _ _ _ _ _ _ H.1 e1
                  have H := shp_st H T
                  j_goto (pc := 187) D rfl <|
                  have D : fk_D 621 [(222, none, .return_, 1, 0, 0, 0)] := fq_of2 cd_621 ow_621 cl_621 rfl (pc := 222) (by decide +kernel)
                  j_vret D rt_621) (fun q9 h7 e1 =>
                  j_tx (hx_621 _))) (fun q =>
                fk_jump cut_621_190 rfl rfl)) (fun q =>
              fk_jump cut_621_190 rfl rfl)))))
/-! 622 StatuteHouseModel.pass(I)I -/
theorem cd_622 : fi_code 622 = prog_69_method_140_code := rfl
theorem hx_622 : ∀ pc, fi_hat 622 pc = none := fun pc => by unfold fi_hat; rw [show fi_hh 622 = [] from rfl]; rfl
theorem rt_622 : fi_ret 622 = some .int := rfl
theorem nl_622 : fi_nl 622 = 5 := rfl
theorem ow_622 : fi_ow 622 = 29 := rfl
theorem cl_622 : fj_cutT.getD 622 [] = [(28, [0, 1, 2, 3]), (68, [0, 1, 2, 3]), (76, [0, 1, 2, 3]), (138, [0, 1, 2, 3]), (169, [0, 1, 2, 3]), (170, [0, 1, 2, 3]), (171, [0, 1, 2, 3])] := rfl
theorem cut_622_28 : fj_cut 622 28 = some [0, 1, 2, 3] := by decide +kernel
noncomputable def c_622_28 (d : Nat) (x1 x2 x3 : Int) (h : fi_H) : fk_R := gG (fj_run d) 622 28 [(0, (4, 602)), (1, (0, x1)), (2, (0, x2)), (3, (0, x3))] [] h
theorem cut_622_68 : fj_cut 622 68 = some [0, 1, 2, 3] := by decide +kernel
noncomputable def c_622_68 (d : Nat) (x1 x2 x3 : Int) (h : fi_H) : fk_R := gG (fj_run d) 622 68 [(0, (4, 602)), (1, (0, x1)), (2, (0, x2)), (3, (0, x3))] [] h
theorem cut_622_76 : fj_cut 622 76 = some [0, 1, 2, 3] := by decide +kernel
noncomputable def c_622_76 (d : Nat) (x1 x2 x3 : Int) (h : fi_H) : fk_R := gG (fj_run d) 622 76 [(0, (4, 602)), (1, (0, x1)), (2, (0, x2)), (3, (0, x3))] [] h
theorem cut_622_138 : fj_cut 622 138 = some [0, 1, 2, 3] := by decide +kernel
noncomputable def c_622_138 (d : Nat) (x1 x2 x3 s0 s1 : Int) (h : fi_H) : fk_R := gG (fj_run d) 622 138 [(0, (4, 602)), (1, (0, x1)), (2, (0, x2)), (3, (0, x3))] [(0, s1), (4, s0)] h
theorem cut_622_169 : fj_cut 622 169 = some [0, 1, 2, 3] := by decide +kernel
noncomputable def c_622_169 (d : Nat) (x1 x2 x3 s0 s1 : Int) (h : fi_H) : fk_R := gG (fj_run d) 622 169 [(0, (4, 602)), (1, (0, x1)), (2, (0, x2)), (3, (0, x3))] [(0, s1), (4, s0)] h
theorem cut_622_170 : fj_cut 622 170 = some [0, 1, 2, 3] := by decide +kernel
noncomputable def c_622_170 (d : Nat) (x1 x2 x3 s0 s1 s2 : Int) (h : fi_H) : fk_R := gG (fj_run d) 622 170 [(0, (4, 602)), (1, (0, x1)), (2, (0, x2)), (3, (0, x3))] [(0, s2), (0, s1), (4, s0)] h
theorem cut_622_171 : fj_cut 622 171 = some [0, 1, 2, 3] := by decide +kernel
noncomputable def c_622_171 (d : Nat) (x1 x2 x3 : Int) (h : fi_H) : fk_R := gG (fj_run d) 622 171 [(0, (4, 602)), (1, (0, x1)), (2, (0, x2)), (3, (0, x3))] [] h
theorem e_622_28 (d : Nat) (x1 x2 x3 : Int) {h : fi_H} (H : Shp h) : c_622_28 d x1 x2 x3 h =
  if x3 < h 528 602 0 then
    if 0 ≤ x3 ∧ x3 < 30 then
    if h 10 685 x3.toNat = 0 then
      if h 10 686 x3.toNat < x1 then
        lt_ (fi_upd h 10 685 x3.toNat 2) fun h2 =>
        c_622_68 d x1 (wI (x2 + 1)) x3 h2
      else
        c_622_68 d x1 x2 x3 h
    else
      c_622_68 d x1 x2 x3 h
    else none
  else
    c_622_76 d x1 x2 0 h := by
  unfold c_622_28
  exact
    have D : fk_D 622 [(28, some [0, 1, 2, 3], .iload_n 3, 1, 0, 0, 0), (29, none, .aload_n 0, 1, 0, 0, 0), (30, none, .getfield 1095, 3, 528, 129, 10), (33, none, .if_icmp .ge 41, 3, 74, 0, 0), (36, none, .aload_n 0, 1, 0, 0, 0), (37, none, .getfield 305, 3, 524, 129, 12), (40, none, .iload_n 3, 1, 0, 0, 0), (41, none, .iaload, 1, 0, 0, 0), (42, none, .ifCond .ne 26, 3, 68, 0, 0), (45, none, .aload_n 0, 1, 0, 0, 0), (46, none, .getfield 308, 3, 525, 129, 12), (49, none, .iload_n 3, 1, 0, 0, 0), (50, none, .iaload, 1, 0, 0, 0), (51, none, .iload_n 1, 1, 0, 0, 0), (52, none, .if_icmp .lt 6, 3, 58, 0, 0), (55, none, .goto 13, 3, 68, 0, 0)] := fq_of2 cd_622 ow_622 cl_622 rfl (pc := 28) (by decide +kernel)
    j_ildn (pc := 28) D rfl rfl rfl fun D =>
    j_aldn (pc := 29) D rfl rfl rfl fun D =>
    j_gf (pc := 30) (a := 602) D rfl rfl (by decide) rfl (s0_602 H) rfl fun D =>
    j_ige (pc := 33) D rfl (fun q D =>
      j_aldn (pc := 36) D rfl rfl rfl fun D =>
      j_gfc (pc := 37) (a := 602) D rfl rfl (by decide) rfl (s0_602 H) rfl (sf_524_602 H) fun D =>
      j_ildn (pc := 40) D rfl rfl rfl fun D =>
      j_al (pc := 41) (a := 685) (e := 10) D rfl rfl rfl (by decide) (s0_685 H) (s1_685 H) ⟨rfl, rfl, rfl⟩ rfl gn fun qb1 D =>
      j_ifne (pc := 42) D rfl (fun q D =>
        j_aldn (pc := 45) D rfl rfl rfl fun D =>
        j_gfc (pc := 46) (a := 602) D rfl rfl (by decide) rfl (s0_602 H) rfl (sf_525_602 H) fun D =>
        j_ildn (pc := 49) D rfl rfl rfl fun D =>
        j_al (pc := 50) (a := 686) (e := 10) D rfl rfl rfl (by decide) (s0_686 H) (s1_686 H) ⟨rfl, rfl, rfl⟩ rfl (gy qb1) fun q D =>
        j_ildn (pc := 51) D rfl rfl rfl fun D =>
        j_ilt (pc := 52) D rfl (fun q =>
          have D : fk_D 622 [(58, none, .aload_n 0, 1, 0, 0, 0), (59, none, .getfield 305, 3, 524, 129, 12), (62, none, .iload_n 3, 1, 0, 0, 0), (63, none, .iconst 2, 1, 0, 2, 0), (64, none, .iastore, 1, 0, 0, 0), (65, none, .iinc 2 1, 3, 0, 1, 0)] := fq_of2 cd_622 ow_622 cl_622 rfl (pc := 58) (by decide +kernel)
          j_aldn (pc := 58) D rfl rfl rfl fun D =>
          j_gfc (pc := 59) (a := 602) D rfl rfl (by decide) rfl (s0_602 H) rfl (sf_524_602 H) fun D =>
          j_ildn (pc := 62) D rfl rfl rfl fun D =>
          j_ic (pc := 63) D rfl fun D =>
          j_as (pc := 64) (a := 685) (e := 10) D rfl ⟨rfl, rfl⟩ rfl (by decide) (s0_685 H) (s1_685 H) ⟨rfl, rfl, rfl⟩ rfl (gy qb1) (gy rfl) fun h2 eh2 S q D =>
          have T := fj_hs_ok H.1 S
          have H := shp_st H T
          j_inc (pc := 65) (L' := [(2, (0, wI (x2 + 1))), (0, (4, 602)), (1, (0, x1)), (3, (0, x3))]) D rfl rfl rfl (by decide +kernel) rfl fun D =>
          fk_jump cut_622_68 rfl rfl) (fun q D =>
          j_goto (pc := 55) D rfl <|
          fk_jump cut_622_68 rfl rfl)) (fun q =>
        fk_jump cut_622_68 rfl rfl)) (fun q =>
      have D : fk_D 622 [(74, none, .iconst 0, 1, 0, 0, 0), (75, none, .istore_n 3, 1, 0, 0, 0)] := fq_of2 cd_622 ow_622 cl_622 rfl (pc := 74) (by decide +kernel)
      j_ic (pc := 74) D rfl fun D =>
      j_istn (pc := 75) (L' := [(3, (0, 0)), (0, (4, 602)), (1, (0, x1)), (2, (0, x2))]) D rfl nl_622 rfl rfl fun D =>
      fk_jump cut_622_76 rfl rfl)
theorem e_622_68 (d : Nat) (x1 x2 x3 : Int) {h : fi_H} (H : Shp h) : c_622_68 d x1 x2 x3 h =
  c_622_28 d x1 x2 (wI (x3 + 1)) h := by
  unfold c_622_68
  exact
    have D : fk_D 622 [(68, some [0, 1, 2, 3], .iinc 3 1, 3, 0, 1, 0), (71, none, .goto (-43), 3, 28, 0, 0)] := fq_of2 cd_622 ow_622 cl_622 rfl (pc := 68) (by decide +kernel)
    j_inc (pc := 68) (L' := [(3, (0, wI (x3 + 1))), (0, (4, 602)), (1, (0, x1)), (2, (0, x2))]) D rfl rfl rfl (by decide +kernel) rfl fun D =>
    j_goto (pc := 71) D rfl <|
    fk_jump cut_622_28 rfl rfl
theorem e_622_76 (d : Nat) (x1 x2 x3 : Int) {h : fi_H} (H : Shp h) : c_622_76 d x1 x2 x3 h =
  if x3 < h 542 602 0 then
    if 0 ≤ x3 ∧ x3 < 440 then
    if lc_ (h 11 695 x3.toNat) 0 = 0 then
      c_622_171 d x1 x2 x3 h
    else
      if h 4 698 x3.toNat = 0 then
        if h 10 693 x3.toNat < h 10 697 x3.toNat then
          c_622_138 d x1 x2 x3 602 (h 10 697 x3.toNat) h
        else
          c_622_138 d x1 x2 x3 602 (h 10 693 x3.toNat) h
      else
        c_622_171 d x1 x2 x3 h
    else none
  else
    some (.inl (some (0, x2)), h) := by
  unfold c_622_76
  exact
    have D : fk_D 622 [(76, some [0, 1, 2, 3], .iload_n 3, 1, 0, 0, 0), (77, none, .aload_n 0, 1, 0, 0, 0), (78, none, .getfield 1098, 3, 542, 129, 10), (81, none, .if_icmp .ge 96, 3, 177, 0, 0), (84, none, .aload_n 0, 1, 0, 0, 0), (85, none, .getfield 335, 3, 535, 129, 12), (88, none, .iload_n 3, 1, 0, 0, 0), (89, none, .laload, 1, 0, 0, 0), (90, none, .lconst 0, 1, 0, 0, 0), (91, none, .lcmp, 1, 0, 0, 0), (92, none, .ifCond .eq 79, 3, 171, 0, 0), (95, none, .aload_n 0, 1, 0, 0, 0), (96, none, .getfield 344, 3, 538, 129, 12), (99, none, .iload_n 3, 1, 0, 0, 0), (100, none, .baload, 1, 0, 0, 0), (101, none, .ifCond .eq 6, 3, 107, 0, 0), (104, none, .goto 67, 3, 171, 0, 0)] := fq_of2 cd_622 ow_622 cl_622 rfl (pc := 76) (by decide +kernel)
    j_ildn (pc := 76) D rfl rfl rfl fun D =>
    j_aldn (pc := 77) D rfl rfl rfl fun D =>
    j_gf (pc := 78) (a := 602) D rfl rfl (by decide) rfl (s0_602 H) rfl fun D =>
    j_ige (pc := 81) D rfl (fun q D =>
      j_aldn (pc := 84) D rfl rfl rfl fun D =>
      j_gfc (pc := 85) (a := 602) D rfl rfl (by decide) rfl (s0_602 H) rfl (sf_535_602 H) fun D =>
      j_ildn (pc := 88) D rfl rfl rfl fun D =>
      j_al (pc := 89) (a := 695) (e := 11) D rfl rfl rfl (by decide) (s0_695 H) (s1_695 H) ⟨rfl, rfl, rfl⟩ rfl gn fun qb1 D =>
      j_c0 (pc := 90) (v := (1, 0)) D rfl rfl (by decide +kernel) fun D =>
      j_lcmp (pc := 91) D rfl fun D =>
      j_ifeq (pc := 92) D rfl (fun q =>
        fk_jump cut_622_171 rfl rfl) (fun q D =>
        j_aldn (pc := 95) D rfl rfl rfl fun D =>
        j_gfc (pc := 96) (a := 602) D rfl rfl (by decide) rfl (s0_602 H) rfl (sf_538_602 H) fun D =>
        j_ildn (pc := 99) D rfl rfl rfl fun D =>
        j_al (pc := 100) (a := 698) (e := 4) D rfl rfl rfl (by decide) (s0_698 H) (s1_698 H) ⟨rfl, rfl, rfl⟩ rfl (gy qb1) fun q D =>
        j_ifeq (pc := 101) D rfl (fun q =>
          have D : fk_D 622 [(107, none, .aload_n 0, 1, 0, 0, 0), (108, none, .aload_n 0, 1, 0, 0, 0), (109, none, .getfield 341, 3, 537, 129, 12), (112, none, .iload_n 3, 1, 0, 0, 0), (113, none, .iaload, 1, 0, 0, 0), (114, none, .aload_n 0, 1, 0, 0, 0), (115, none, .getfield 329, 3, 533, 129, 12), (118, none, .iload_n 3, 1, 0, 0, 0), (119, none, .iaload, 1, 0, 0, 0), (120, none, .if_icmp .le 12, 3, 132, 0, 0), (123, none, .aload_n 0, 1, 0, 0, 0), (124, none, .getfield 341, 3, 537, 129, 12), (127, none, .iload_n 3, 1, 0, 0, 0), (128, none, .iaload, 1, 0, 0, 0), (129, none, .goto 9, 3, 138, 0, 0)] := fq_of2 cd_622 ow_622 cl_622 rfl (pc := 107) (by decide +kernel)
          j_aldn (pc := 107) D rfl rfl rfl fun D =>
          j_aldn (pc := 108) D rfl rfl rfl fun D =>
          j_gfc (pc := 109) (a := 602) D rfl rfl (by decide) rfl (s0_602 H) rfl (sf_537_602 H) fun D =>
          j_ildn (pc := 112) D rfl rfl rfl fun D =>
          j_al (pc := 113) (a := 697) (e := 10) D rfl rfl rfl (by decide) (s0_697 H) (s1_697 H) ⟨rfl, rfl, rfl⟩ rfl (gy qb1) fun q D =>
          j_aldn (pc := 114) D rfl rfl rfl fun D =>
          j_gfc (pc := 115) (a := 602) D rfl rfl (by decide) rfl (s0_602 H) rfl (sf_533_602 H) fun D =>
          j_ildn (pc := 118) D rfl rfl rfl fun D =>
          j_al (pc := 119) (a := 693) (e := 10) D rfl rfl rfl (by decide) (s0_693 H) (s1_693 H) ⟨rfl, rfl, rfl⟩ rfl (gy qb1) fun q D =>
          j_ile (pc := 120) D rfl (fun q D =>
            j_aldn (pc := 123) D rfl rfl rfl fun D =>
            j_gfc (pc := 124) (a := 602) D rfl rfl (by decide) rfl (s0_602 H) rfl (sf_537_602 H) fun D =>
            j_ildn (pc := 127) D rfl rfl rfl fun D =>
            j_al (pc := 128) (a := 697) (e := 10) D rfl rfl rfl (by decide) (s0_697 H) (s1_697 H) ⟨rfl, rfl, rfl⟩ rfl (gy qb1) fun q D =>
            j_goto (pc := 129) D rfl <|
            fk_jump cut_622_138 rfl rfl) (fun q =>
            have D : fk_D 622 [(132, none, .aload_n 0, 1, 0, 0, 0), (133, none, .getfield 329, 3, 533, 129, 12), (136, none, .iload_n 3, 1, 0, 0, 0), (137, none, .iaload, 1, 0, 0, 0)] := fq_of2 cd_622 ow_622 cl_622 rfl (pc := 132) (by decide +kernel)
            j_aldn (pc := 132) D rfl rfl rfl fun D =>
            j_gfc (pc := 133) (a := 602) D rfl rfl (by decide) rfl (s0_602 H) rfl (sf_533_602 H) fun D =>
            j_ildn (pc := 136) D rfl rfl rfl fun D =>
            j_al (pc := 137) (a := 693) (e := 10) D rfl rfl rfl (by decide) (s0_693 H) (s1_693 H) ⟨rfl, rfl, rfl⟩ rfl (gy qb1) fun q D =>
            fk_jump cut_622_138 rfl rfl)) (fun q D =>
          j_goto (pc := 104) D rfl <|
          fk_jump cut_622_171 rfl rfl))) (fun q =>
      have D : fk_D 622 [(177, none, .iload_n 2, 1, 0, 0, 0), (178, none, .ireturn, 1, 0, 0, 0)] := fq_of2 cd_622 ow_622 cl_622 rfl (pc := 177) (by decide +kernel)
      j_ildn (pc := 177) D rfl rfl rfl fun D =>
      j_iret D rt_622)
theorem e_622_138 (d : Nat) (x1 x2 x3 s0 s1 : Int) {h : fi_H} (H : Shp h) : c_622_138 d x1 x2 x3 s0 s1 h =
  dv_ (fi_vt 430 (h 0 s0.toNat 0)) fun m4 => ca_ (fj_run d m4 h [(4, s0), (0, s1), (0, h 541 602 0), (0, 0)]) 0
    (fun v2 h1 =>
    if v2 = (-1) then
      c_622_169 d x1 x2 x3 698 x3 h1
    else
      if v2 < x1 then
        c_622_170 d x1 x2 x3 698 x3 1 h1
      else
        c_622_169 d x1 x2 x3 698 x3 h1)
    (fun q3 h1 => tx_ q3 h1) := by
  unfold c_622_138
  exact
    have D : fk_D 622 [(138, some [0, 1, 2, 3], .aload_n 0, 1, 0, 0, 0), (139, none, .getfield 353, 3, 541, 129, 10), (142, none, .iconst 0, 1, 0, 0, 0), (143, none, .invokevirtual 1017, 3, 3, 430, 1), (146, none, .istore 4, 2, 0, 0, 0), (148, none, .aload_n 0, 1, 0, 0, 0), (149, none, .getfield 344, 3, 538, 129, 12), (152, none, .iload_n 3, 1, 0, 0, 0), (153, none, .iload 4, 2, 0, 0, 0), (155, none, .iconst (-1), 1, 0, (-1), 0), (156, none, .if_icmp .eq 13, 3, 169, 0, 0), (159, none, .iload 4, 2, 0, 0, 0), (161, none, .iload_n 1, 1, 0, 0, 0), (162, none, .if_icmp .ge 7, 3, 169, 0, 0), (165, none, .iconst 1, 1, 0, 1, 0), (166, none, .goto 4, 3, 170, 0, 0)] := fq_of2 cd_622 ow_622 cl_622 rfl (pc := 138) (by decide +kernel)
    j_aldn (pc := 138) D rfl rfl rfl fun D =>
    j_gf (pc := 139) (a := 602) D rfl rfl (by decide) rfl (s0_602 H) rfl fun D =>
    j_ic (pc := 142) D rfl fun D =>
    j_ivu (pc := 143) (dd := 430) (a := [(0, s1), (0, h 541 602 0), (0, 0)]) (rest := []) H.2.1 D rfl rfl rfl rfl rfl (fun m4 v2 h1 e1 D =>
      have T := fj_run_ok _ _ _ _ _ _ H.1 e1
      have H := shp_st H T
      j_ist (pc := 146) (L' := [(4, (0, v2)), (0, (4, 602)), (1, (0, x1)), (2, (0, x2)), (3, (0, x3))]) D rfl nl_622 rfl rfl fun D =>
      j_aldn (pc := 148) D rfl rfl rfl fun D =>
      j_gfc (pc := 149) (a := 602) D rfl rfl (by decide) rfl (s0_602 H) rfl (sf_538_602 H) fun D =>
      j_ildn (pc := 152) D rfl rfl rfl fun D =>
      j_ild (pc := 153) D rfl rfl rfl fun D =>
      j_ic (pc := 155) D rfl fun D =>
      j_ieq (pc := 156) D rfl (fun q =>
        fk_jump cut_622_169 rfl rfl) (fun q D =>
        j_ild (pc := 159) D rfl rfl rfl fun D =>
        j_ildn (pc := 161) D rfl rfl rfl fun D =>
        j_ige (pc := 162) D rfl (fun q D =>
          j_ic (pc := 165) D rfl fun D =>
          j_goto (pc := 166) D rfl <|
          fk_jump cut_622_170 rfl rfl) (fun q =>
          fk_jump cut_622_169 rfl rfl))) (fun m4 q3 h1 e1 =>
      j_tx (hx_622 _))
theorem e_622_169 (d : Nat) (x1 x2 x3 s0 s1 : Int) {h : fi_H} (H : Shp h) : c_622_169 d x1 x2 x3 s0 s1 h =
  c_622_170 d x1 x2 x3 s0 s1 0 h := by
  unfold c_622_169
  exact
    have D : fk_D 622 [(169, some [0, 1, 2, 3], .iconst 0, 1, 0, 0, 0)] := fq_of2 cd_622 ow_622 cl_622 rfl (pc := 169) (by decide +kernel)
    j_ic (pc := 169) D rfl fun D =>
    fk_jump cut_622_170 rfl rfl
theorem e_622_170 (d : Nat) (x1 x2 x3 s0 s1 s2 : Int) {h : fi_H} (H : Shp h) : c_622_170 d x1 x2 x3 s0 s1 s2 h =
  if 302 < s0 ∧ fi_et 1 (h 0 s0.toNat 0) ≠ 0 then
  if 0 ≤ s1 ∧ s1 < h 1 s0.toNat 0 then
  if fi_rg (fi_et 1 (h 0 s0.toNat 0)) s2 = true then
  lt_ (fi_upd h (fi_et 1 (h 0 s0.toNat 0)) s0.toNat s1.toNat s2) fun h1 =>
  c_622_171 d x1 x2 x3 h1
  else none
  else none
  else none := by
  unfold c_622_170
  exact
    have D : fk_D 622 [(170, some [0, 1, 2, 3], .bastore, 1, 0, 0, 0)] := fq_of2 cd_622 ow_622 cl_622 rfl (pc := 170) (by decide +kernel)
    j_asub (pc := 170) D rfl rfl gn gn gn fun h1 eh1 S q q2 D =>
    have T := fj_hs_ok H.1 S
    have H := shp_st H T
    fk_jump cut_622_171 rfl rfl
theorem e_622_171 (d : Nat) (x1 x2 x3 : Int) {h : fi_H} (H : Shp h) : c_622_171 d x1 x2 x3 h =
  c_622_76 d x1 x2 (wI (x3 + 1)) h := by
  unfold c_622_171
  exact
    have D : fk_D 622 [(171, some [0, 1, 2, 3], .iinc 3 1, 3, 0, 1, 0), (174, none, .goto (-98), 3, 76, 0, 0)] := fq_of2 cd_622 ow_622 cl_622 rfl (pc := 171) (by decide +kernel)
    j_inc (pc := 171) (L' := [(3, (0, wI (x3 + 1))), (0, (4, 602)), (1, (0, x1)), (2, (0, x2))]) D rfl rfl rfl (by decide +kernel) rfl fun D =>
    j_goto (pc := 174) D rfl <|
    fk_jump cut_622_76 rfl rfl
theorem m_622 (d : Nat) (x1 : Int) {h : fi_H} (H : Shp h) : fj_run (d + 1) 622 h [(4, 602), (0, x1)] =
  ca_ (fj_run d 520 h [(1, wI x1)]) 0
    (fun v2 h1 =>
    if v2 = 0 then
      some (.inl (some (0, (-2))), h1)
    else
      if x1 < h1 449 602 0 then
        some (.inl (some (0, (-2))), h1)
      else
        lt_ (fi_upd h1 449 602 0 x1) fun h4 =>
        c_622_28 d x1 0 0 h4)
    (fun q3 h1 => tx_ q3 h1) := by
  rw [fj_run_eq d (by decide) h [(4, 602), (0, x1)] (Nat.le_of_ble_eq_true (by rw [nl_622]; rfl))]
  show gG (fj_run d) 622 0 [(0, (4, 602)), (1, (0, x1))] [] h = _
  exact
    have D : fk_D 622 [(0, none, .iload_n 1, 1, 0, 0, 0), (1, none, .i2l, 1, 0, 0, 0), (2, none, .invokestatic 456, 3, 1, 520, 1), (5, none, .ifCond .eq 11, 3, 16, 0, 0), (8, none, .iload_n 1, 1, 0, 0, 0), (9, none, .aload_n 0, 1, 0, 0, 0), (10, none, .getfield 141, 3, 449, 129, 10), (13, none, .if_icmp .ge 6, 3, 19, 0, 0), (16, none, .bipush (-2), 2, 0, (-2), 0), (18, none, .ireturn, 1, 0, 0, 0)] := fq_of2 cd_622 ow_622 cl_622 rfl (pc := 0) (by decide +kernel)
    j_ildn (pc := 0) D rfl rfl rfl fun D =>
    j_i2l (pc := 1) D rfl fun D =>
    j_is (pc := 2) (m := 520) (a := [(1, wI x1)]) (rest := []) D rfl rfl rfl rfl (fun v2 h1 e1 D =>
      have T := fj_run_ok _ _ _ _ _ _ H.1 e1
      have H := shp_st H T
      j_ifeq (pc := 5) D rfl (fun q =>
        have D : fk_D 622 [(16, none, .bipush (-2), 2, 0, (-2), 0), (18, none, .ireturn, 1, 0, 0, 0)] := fq_of2 cd_622 ow_622 cl_622 rfl (pc := 16) (by decide +kernel)
        j_bp (pc := 16) D rfl fun D =>
        j_iret D rt_622) (fun q D =>
        j_ildn (pc := 8) D rfl rfl rfl fun D =>
        j_aldn (pc := 9) D rfl rfl rfl fun D =>
        j_gf (pc := 10) (a := 602) D rfl rfl (by decide) rfl (s0_602 H) rfl fun D =>
        j_ige (pc := 13) D rfl (fun q D =>
          j_bp (pc := 16) D rfl fun D =>
          j_iret D rt_622) (fun q =>
          have D : fk_D 622 [(19, none, .aload_n 0, 1, 0, 0, 0), (20, none, .iload_n 1, 1, 0, 0, 0), (21, none, .putfield 141, 3, 449, 129, 10), (24, none, .iconst 0, 1, 0, 0, 0), (25, none, .istore_n 2, 1, 0, 0, 0), (26, none, .iconst 0, 1, 0, 0, 0), (27, none, .istore_n 3, 1, 0, 0, 0)] := fq_of2 cd_622 ow_622 cl_622 rfl (pc := 19) (by decide +kernel)
          j_aldn (pc := 19) D rfl rfl rfl fun D =>
          j_ildn (pc := 20) D rfl rfl rfl fun D =>
          j_pf (pc := 21) (a := 602) D rfl rfl rfl (s0_602 H) rfl rfl (gy (by decide)) (gy rfl) fun h4 eh4 S D =>
          have T := fj_hs_ok H.1 S
          have H := shp_st H T
          j_ic (pc := 24) D rfl fun D =>
          j_istn (pc := 25) (L' := [(2, (0, 0)), (0, (4, 602)), (1, (0, x1))]) D rfl nl_622 rfl rfl fun D =>
          j_ic (pc := 26) D rfl fun D =>
          j_istn (pc := 27) (L' := [(3, (0, 0)), (2, (0, 0)), (0, (4, 602)), (1, (0, x1))]) D rfl nl_622 rfl rfl fun D =>
          fk_jump cut_622_28 rfl rfl))) (fun q3 h1 e1 =>
      j_tx (hx_622 _))
/-! 623 StatuteHouseModel.due(III)I -/
theorem cd_623 : fi_code 623 = prog_69_method_141_code := rfl
theorem hx_623 : ∀ pc, fi_hat 623 pc = none := fun pc => by unfold fi_hat; rw [show fi_hh 623 = [] from rfl]; rfl
theorem rt_623 : fi_ret 623 = some .int := rfl
theorem nl_623 : fi_nl 623 = 6 := rfl
theorem ow_623 : fi_ow 623 = 29 := rfl
theorem cl_623 : fj_cutT.getD 623 [] = [(64, [])] := rfl
theorem cut_623_64 : fj_cut 623 64 = some [] := by decide +kernel
noncomputable def c_623_64 (d : Nat) (s0 : Int) (h : fi_H) : fk_R := gG (fj_run d) 623 64 [] [(0, s0)] h
theorem e_623_64 (d : Nat) (s0 : Int) {h : fi_H} (H : Shp h) : c_623_64 d s0 h =
  if s0 = (-1) then
    some (.inl (some (0, (-4))), h)
  else
    some (.inl (some (0, s0)), h) := by
  unfold c_623_64
  exact
    have D : fk_D 623 [(64, some [], .istore 5, 2, 0, 0, 0), (66, none, .iload 5, 2, 0, 0, 0), (68, none, .iconst (-1), 1, 0, (-1), 0), (69, none, .if_icmp .ne 8, 3, 77, 0, 0), (72, none, .bipush (-4), 2, 0, (-4), 0), (74, none, .goto 5, 3, 79, 0, 0)] := fq_of2 cd_623 ow_623 cl_623 rfl (pc := 64) (by decide +kernel)
    j_ist (pc := 64) (L' := [(5, (0, s0))]) D rfl nl_623 rfl rfl fun D =>
    j_ild (pc := 66) D rfl rfl rfl fun D =>
    j_ic (pc := 68) D rfl fun D =>
    j_ine (pc := 69) D rfl (fun q D =>
      j_bp (pc := 72) D rfl fun D =>
      j_goto (pc := 74) D rfl <|
      have D : fk_D 623 [(79, none, .ireturn, 1, 0, 0, 0)] := fq_of2 cd_623 ow_623 cl_623 rfl (pc := 79) (by decide +kernel)
      j_iret D rt_623) (fun q =>
      have D : fk_D 623 [(77, none, .iload 5, 2, 0, 0, 0), (79, none, .ireturn, 1, 0, 0, 0)] := fq_of2 cd_623 ow_623 cl_623 rfl (pc := 77) (by decide +kernel)
      j_ild (pc := 77) D rfl rfl rfl fun D =>
      j_iret D rt_623)
theorem m_623 (d : Nat) (x1 x2 x3 : Int) {h : fi_H} (H : Shp h) : fj_run (d + 1) 623 h [(4, 602), (0, x1), (0, x2), (0, x3)] =
  ca_ (fj_run d 520 h [(1, wI x1)]) 0
    (fun v2 h1 =>
    if v2 = 0 then
      some (.inl (some (0, (-2))), h1)
    else
      ca_ (fj_run d 508 h1 [(1, wI x2), (1, (-2400)), (1, 2400)]) 0
        (fun v5 h4 =>
        if v5 = 0 then
          some (.inl (some (0, (-2))), h4)
        else
          ca_ (fj_run d 508 h4 [(1, wI x3), (1, (-65535)), (1, 65535)]) 0
            (fun v8 h7 =>
            if v8 = 0 then
              some (.inl (some (0, (-2))), h7)
            else
              ca_ (fj_run d 618 h7 [(4, 602), (0, x1), (0, x2), (0, x3)]) 0
                (fun v11 h10 =>
                if v11 = (-1) then
                  c_623_64 d (-1) h10
                else
                  ca_ (fj_run d 597 h10 [(4, 602), (0, v11)]) 0
                    (fun v14 h13 =>
                    c_623_64 d v14 h13)
                    (fun q15 h13 => tx_ q15 h13))
                (fun q12 h10 => tx_ q12 h10))
            (fun q9 h7 => tx_ q9 h7))
        (fun q6 h4 => tx_ q6 h4))
    (fun q3 h1 => tx_ q3 h1) := by
  rw [fj_run_eq d (by decide) h [(4, 602), (0, x1), (0, x2), (0, x3)] (Nat.le_of_ble_eq_true (by rw [nl_623]; rfl))]
  show gG (fj_run d) 623 0 [(0, (4, 602)), (1, (0, x1)), (2, (0, x2)), (3, (0, x3))] [] h = _
  exact
    have D : fk_D 623 [(0, none, .iload_n 1, 1, 0, 0, 0), (1, none, .i2l, 1, 0, 0, 0), (2, none, .invokestatic 456, 3, 1, 520, 1), (5, none, .ifCond .eq 31, 3, 36, 0, 0), (8, none, .iload_n 2, 1, 0, 0, 0), (9, none, .i2l, 1, 0, 0, 0), (10, none, .ldc2_w 946, 3, 1, (-2400), 0), (13, none, .ldc2_w 612, 3, 1, 2400, 0), (16, none, .invokestatic 434, 3, 3, 508, 1), (19, none, .ifCond .eq 17, 3, 36, 0, 0), (22, none, .iload_n 3, 1, 0, 0, 0), (23, none, .i2l, 1, 0, 0, 0), (24, none, .ldc2_w 948, 3, 1, (-65535), 0), (27, none, .ldc2_w 432, 3, 1, 65535, 0), (30, none, .invokestatic 434, 3, 3, 508, 1), (33, none, .ifCond .ne 6, 3, 39, 0, 0), (36, none, .bipush (-2), 2, 0, (-2), 0), (38, none, .ireturn, 1, 0, 0, 0)] := fq_of2 cd_623 ow_623 cl_623 rfl (pc := 0) (by decide +kernel)
    j_ildn (pc := 0) D rfl rfl rfl fun D =>
    j_i2l (pc := 1) D rfl fun D =>
    j_is (pc := 2) (m := 520) (a := [(1, wI x1)]) (rest := []) D rfl rfl rfl rfl (fun v2 h1 e1 D =>
      have T := fj_run_ok _ _ _ _ _ _ H.1 e1
      have H := shp_st H T
      j_ifeq (pc := 5) D rfl (fun q =>
        have D : fk_D 623 [(36, none, .bipush (-2), 2, 0, (-2), 0), (38, none, .ireturn, 1, 0, 0, 0)] := fq_of2 cd_623 ow_623 cl_623 rfl (pc := 36) (by decide +kernel)
        j_bp (pc := 36) D rfl fun D =>
        j_iret D rt_623) (fun q D =>
        j_ildn (pc := 8) D rfl rfl rfl fun D =>
        j_i2l (pc := 9) D rfl fun D =>
        j_ldc2 (pc := 10) D rfl fun D =>
        j_ldc2 (pc := 13) D rfl fun D =>
        j_is (pc := 16) (m := 508) (a := [(1, wI x2), (1, (-2400)), (1, 2400)]) (rest := []) D rfl rfl rfl rfl (fun v5 h4 e1 D =>
          have T := fj_run_ok _ _ _ _ _ _ H.1 e1
          have H := shp_st H T
          j_ifeq (pc := 19) D rfl (fun q =>
            have D : fk_D 623 [(36, none, .bipush (-2), 2, 0, (-2), 0), (38, none, .ireturn, 1, 0, 0, 0)] := fq_of2 cd_623 ow_623 cl_623 rfl (pc := 36) (by decide +kernel)
            j_bp (pc := 36) D rfl fun D =>
            j_iret D rt_623) (fun q D =>
            j_ildn (pc := 22) D rfl rfl rfl fun D =>
            j_i2l (pc := 23) D rfl fun D =>
            j_ldc2 (pc := 24) D rfl fun D =>
            j_ldc2 (pc := 27) D rfl fun D =>
            j_is (pc := 30) (m := 508) (a := [(1, wI x3), (1, (-65535)), (1, 65535)]) (rest := []) D rfl rfl rfl rfl (fun v8 h7 e1 D =>
              have T := fj_run_ok _ _ _ _ _ _ H.1 e1
              have H := shp_st H T
              j_ifne (pc := 33) D rfl (fun q D =>
                j_bp (pc := 36) D rfl fun D =>
                j_iret D rt_623) (fun q =>
                have D : fk_D 623 [(39, none, .aload_n 0, 1, 0, 0, 0), (40, none, .iload_n 1, 1, 0, 0, 0), (41, none, .iload_n 2, 1, 0, 0, 0), (42, none, .iload_n 3, 1, 0, 0, 0), (43, none, .invokevirtual 1017, 3, 3, 430, 1), (46, none, .istore 4, 2, 0, 0, 0), (48, none, .iload 4, 2, 0, 0, 0), (50, none, .iconst (-1), 1, 0, (-1), 0), (51, none, .if_icmp .ne 7, 3, 58, 0, 0), (54, none, .iconst (-1), 1, 0, (-1), 0), (55, none, .goto 9, 3, 64, 0, 0)] := fq_of2 cd_623 ow_623 cl_623 rfl (pc := 39) (by decide +kernel)
                j_aldn (pc := 39) D rfl rfl rfl fun D =>
                j_ildn (pc := 40) D rfl rfl rfl fun D =>
                j_ildn (pc := 41) D rfl rfl rfl fun D =>
                j_ildn (pc := 42) D rfl rfl rfl fun D =>
                j_iv (pc := 43) (m := 618) (dd := 430) (a := [(0, x1), (0, x2), (0, x3)]) (rest := []) D rfl rfl rfl rfl rfl (by decide) (s0_602 H) (by decide +kernel) (fun v11 h10 e1 D =>
                  have T := fj_run_ok _ _ _ _ _ _ H.1 e1
                  have H := shp_st H T
                  j_ist (pc := 46) (L' := [(4, (0, v11)), (0, (4, 602)), (1, (0, x1)), (2, (0, x2)), (3, (0, x3))]) D rfl nl_623 rfl rfl fun D =>
                  j_ild (pc := 48) D rfl rfl rfl fun D =>
                  j_ic (pc := 50) D rfl fun D =>
                  j_ine (pc := 51) D rfl (fun q D =>
                    j_ic (pc := 54) D rfl fun D =>
                    j_goto (pc := 55) D rfl <|
                    fk_jump cut_623_64 rfl rfl) (fun q =>
                    have D : fk_D 623 [(58, none, .aload_n 0, 1, 0, 0, 0), (59, none, .iload 4, 2, 0, 0, 0), (61, none, .invokevirtual 1042, 3, 1, 435, 1)] := fq_of2 cd_623 ow_623 cl_623 rfl (pc := 58) (by decide +kernel)
                    j_aldn (pc := 58) D rfl rfl rfl fun D =>
                    j_ild (pc := 59) D rfl rfl rfl fun D =>
                    j_iv (pc := 61) (m := 597) (dd := 435) (a := [(0, v11)]) (rest := []) D rfl rfl rfl rfl rfl (by decide) (s0_602 H) (by decide +kernel) (fun v14 h13 e1 D =>
                      have T := fj_run_ok _ _ _ _ _ _ H.1 e1
                      have H := shp_st H T
                      fk_jump cut_623_64 rfl rfl) (fun q15 h13 e1 =>
                      j_tx (hx_623 _)))) (fun q12 h10 e1 =>
                  j_tx (hx_623 _)))) (fun q9 h7 e1 =>
              j_tx (hx_623 _)))) (fun q6 h4 e1 =>
          j_tx (hx_623 _)))) (fun q3 h1 e1 =>
      j_tx (hx_623 _))
/-! 624 StatuteHouseModel.person()I -/
theorem cd_624 : fi_code 624 = prog_69_method_142_code := rfl
theorem hx_624 : ∀ pc, fi_hat 624 pc = none := fun pc => by unfold fi_hat; rw [show fi_hh 624 = [] from rfl]; rfl
theorem rt_624 : fi_ret 624 = some .int := rfl
theorem nl_624 : fi_nl 624 = 1 := rfl
theorem ow_624 : fi_ow 624 = 29 := rfl
theorem cl_624 : fj_cutT.getD 624 [] = [] := rfl
theorem m_624 (d : Nat) {h : fi_H} (H : Shp h) : fj_run (d + 1) 624 h [(4, 602)] =
  if h 459 602 0 = 30 then
    some (.inl (some (0, (-4))), h)
  else
    if 0 ≤ h 459 602 0 ∧ h 459 602 0 < 30 then
    lt_ (fi_upd h 6 650 (h 459 602 0).toNat 1065353216) fun h1 =>
    lt_ (fi_upd h1 459 602 0 (wI ((h1 459 602 0) + 1))) fun h3 =>
    some (.inl (some (0, wI ((h3 459 602 0) - 1))), h3)
    else none := by
  rw [fj_run_eq d (by decide) h [(4, 602)] (Nat.le_of_ble_eq_true (by rw [nl_624]; rfl))]
  show gG (fj_run d) 624 0 [(0, (4, 602))] [] h = _
  exact
    have D : fk_D 624 [(0, none, .aload_n 0, 1, 0, 0, 0), (1, none, .getfield 169, 3, 459, 129, 10), (4, none, .bipush 30, 2, 0, 30, 0), (6, none, .if_icmp .ne 6, 3, 12, 0, 0), (9, none, .bipush (-4), 2, 0, (-4), 0), (11, none, .ireturn, 1, 0, 0, 0)] := fq_of2 cd_624 ow_624 cl_624 rfl (pc := 0) (by decide +kernel)
    j_aldn (pc := 0) D rfl rfl rfl fun D =>
    j_gf (pc := 1) (a := 602) D rfl rfl (by decide) rfl (s0_602 H) rfl fun D =>
    j_bp (pc := 4) D rfl fun D =>
    j_ine (pc := 6) D rfl (fun q D =>
      j_bp (pc := 9) D rfl fun D =>
      j_iret D rt_624) (fun q =>
      have D : fk_D 624 [(12, none, .aload_n 0, 1, 0, 0, 0), (13, none, .getfield 165, 3, 458, 129, 12), (16, none, .aload_n 0, 1, 0, 0, 0), (17, none, .getfield 169, 3, 459, 129, 10), (20, none, .fconst 1, 1, 0, 0, 0), (21, none, .fastore, 1, 0, 0, 0), (22, none, .aload_n 0, 1, 0, 0, 0), (23, none, .dup, 1, 0, 0, 0), (24, none, .getfield 169, 3, 459, 129, 10), (27, none, .iconst 1, 1, 0, 1, 0), (28, none, .iadd, 1, 0, 0, 0), (29, none, .putfield 169, 3, 459, 129, 10), (32, none, .aload_n 0, 1, 0, 0, 0), (33, none, .getfield 169, 3, 459, 129, 10), (36, none, .iconst 1, 1, 0, 1, 0), (37, none, .isub, 1, 0, 0, 0), (38, none, .ireturn, 1, 0, 0, 0)] := fq_of2 cd_624 ow_624 cl_624 rfl (pc := 12) (by decide +kernel)
      j_aldn (pc := 12) D rfl rfl rfl fun D =>
      j_gfc (pc := 13) (a := 602) D rfl rfl (by decide) rfl (s0_602 H) rfl (sf_458_602 H) fun D =>
      j_aldn (pc := 16) D rfl rfl rfl fun D =>
      j_gf (pc := 17) (a := 602) D rfl rfl (by decide) rfl (s0_602 H) rfl fun D =>
      j_c0 (pc := 20) (v := (2, 1065353216)) D rfl rfl (by decide +kernel) fun D =>
      j_as (pc := 21) (a := 650) (e := 6) D rfl ⟨rfl, rfl⟩ rfl (by decide) (s0_650 H) (s1_650 H) ⟨rfl, rfl, rfl⟩ rfl gn (gy rfl) fun h1 eh1 S qb2 D =>
      have T := fj_hs_ok H.1 S
      have H := shp_st H T
      j_aldn (pc := 22) D rfl rfl rfl fun D =>
      j_sh (pc := 23) D rfl rfl rfl fun D =>
      j_gf (pc := 24) (a := 602) D rfl rfl (by decide) rfl (s0_602 H) rfl fun D =>
      j_ic (pc := 27) D rfl fun D =>
      j_iadd (pc := 28) D rfl fun D =>
      j_pf (pc := 29) (a := 602) D rfl rfl rfl (s0_602 H) rfl rfl (gy (by decide)) (gy rfl) fun h3 eh3 S D =>
      have T := fj_hs_ok H.1 S
      have H := shp_st H T
      j_aldn (pc := 32) D rfl rfl rfl fun D =>
      j_gf (pc := 33) (a := 602) D rfl rfl (by decide) rfl (s0_602 H) rfl fun D =>
      j_ic (pc := 36) D rfl fun D =>
      j_isub (pc := 37) D rfl fun D =>
      j_iret D rt_624)
/-! 625 StatuteHouseModel.weight(II)I -/
theorem cd_625 : fi_code 625 = prog_69_method_143_code := rfl
theorem hx_625 : ∀ pc, fi_hat 625 pc = none := fun pc => by unfold fi_hat; rw [show fi_hh 625 = [] from rfl]; rfl
theorem rt_625 : fi_ret 625 = some .int := rfl
theorem nl_625 : fi_nl 625 = 4 := rfl
theorem ow_625 : fi_ow 625 = 29 := rfl
theorem cl_625 : fj_cutT.getD 625 [] = [] := rfl
theorem m_625 (d : Nat) (x1 x2 : Int) {h : fi_H} (H : Shp h) : fj_run (d + 1) 625 h [(4, 602), (0, x1), (0, x2)] =
  ca_ (fj_run d 572 h [(4, 602), (0, x1)]) 0
    (fun v2 h1 =>
    if v2 = 0 then
      some (.inl (some (0, (-1))), h1)
    else
      if 2139095040 < ia_ x2 2147483647 then
        some (.inl (some (0, (-2))), h1)
      else
        ca_ (fj_run d 1003 h1 [(0, x2)]) 2
          (fun v5 h4 =>
          if 0 < fl_ v5 0 then
            if 0 < fg_ v5 1232348160 then
              some (.inl (some (0, (-2))), h4)
            else
              if 0 ≤ x1 ∧ x1 < 30 then
              lt_ (fi_upd h4 6 650 x1.toNat v5) fun h7 =>
              some (.inl (some (0, 1)), h7)
              else none
          else
            some (.inl (some (0, (-2))), h4))
          (fun q6 h4 => tx_ q6 h4))
    (fun q3 h1 => tx_ q3 h1) := by
  rw [fj_run_eq d (by decide) h [(4, 602), (0, x1), (0, x2)] (Nat.le_of_ble_eq_true (by rw [nl_625]; rfl))]
  show gG (fj_run d) 625 0 [(0, (4, 602)), (1, (0, x1)), (2, (0, x2))] [] h = _
  exact
    have D : fk_D 625 [(0, none, .aload_n 0, 1, 0, 0, 0), (1, none, .iload_n 1, 1, 0, 0, 0), (2, none, .invokevirtual 1076, 3, 1, 439, 1), (5, none, .ifCond .ne 5, 3, 10, 0, 0), (8, none, .iconst (-1), 1, 0, (-1), 0), (9, none, .ireturn, 1, 0, 0, 0)] := fq_of2 cd_625 ow_625 cl_625 rfl (pc := 0) (by decide +kernel)
    j_aldn (pc := 0) D rfl rfl rfl fun D =>
    j_ildn (pc := 1) D rfl rfl rfl fun D =>
    j_iv (pc := 2) (m := 572) (dd := 439) (a := [(0, x1)]) (rest := []) D rfl rfl rfl rfl rfl (by decide) (s0_602 H) (by decide +kernel) (fun v2 h1 e1 D =>
      have T := fj_run_ok _ _ _ _ _ _ H.1 e1
      have H := shp_st H T
      j_ifne (pc := 5) D rfl (fun q D =>
        j_ic (pc := 8) D rfl fun D =>
        j_iret D rt_625) (fun q =>
        have D : fk_D 625 [(10, none, .iload_n 2, 1, 0, 0, 0), (11, none, .ldc_w 1101, 3, 0, 2147483647, 0), (14, none, .iand, 1, 0, 0, 0), (15, none, .ldc_w 1102, 3, 0, 2139095040, 0), (18, none, .if_icmp .le 6, 3, 24, 0, 0), (21, none, .bipush (-2), 2, 0, (-2), 0), (23, none, .ireturn, 1, 0, 0, 0)] := fq_of2 cd_625 ow_625 cl_625 rfl (pc := 10) (by decide +kernel)
        j_ildn (pc := 10) D rfl rfl rfl fun D =>
        j_ldcw (pc := 11) D rfl fun D =>
        j_iand (pc := 14) D rfl fun D =>
        j_ldcw (pc := 15) D rfl fun D =>
        j_ile (pc := 18) D rfl (fun q D =>
          j_bp (pc := 21) D rfl fun D =>
          j_iret D rt_625) (fun q =>
          have D : fk_D 625 [(24, none, .iload_n 2, 1, 0, 0, 0), (25, none, .invokestatic 1103, 3, 1, 1003, 3), (28, none, .fstore_n 3, 1, 0, 0, 0), (29, none, .fload_n 3, 1, 0, 0, 0), (30, none, .fconst 0, 1, 0, 0, 0), (31, none, .fcmp .l, 1, 0, 0, 0), (32, none, .ifCond .le 11, 3, 43, 0, 0), (35, none, .fload_n 3, 1, 0, 0, 0), (36, none, .ldc_w 1109, 3, 2, 1232348160, 0), (39, none, .fcmp .g, 1, 0, 0, 0), (40, none, .ifCond .le 6, 3, 46, 0, 0), (43, none, .bipush (-2), 2, 0, (-2), 0), (45, none, .ireturn, 1, 0, 0, 0)] := fq_of2 cd_625 ow_625 cl_625 rfl (pc := 24) (by decide +kernel)
          j_ildn (pc := 24) D rfl rfl rfl fun D =>
          j_is (pc := 25) (m := 1003) (a := [(0, x2)]) (rest := []) D rfl rfl rfl rfl (fun v5 h4 e1 D =>
            have T := fj_run_ok _ _ _ _ _ _ H.1 e1
            have H := shp_st H T
            j_fstn (pc := 28) (L' := [(3, (2, v5)), (0, (4, 602)), (1, (0, x1)), (2, (0, x2))]) D rfl nl_625 rfl rfl fun D =>
            j_fldn (pc := 29) D rfl rfl rfl fun D =>
            j_c0 (pc := 30) (v := (2, 0)) D rfl rfl (by decide +kernel) fun D =>
            j_fcmpl (pc := 31) D rfl fun D =>
            j_ifle (pc := 32) D rfl (fun q D =>
              j_fldn (pc := 35) D rfl rfl rfl fun D =>
              j_ldcw (pc := 36) D rfl fun D =>
              j_fcmpg (pc := 39) D rfl fun D =>
              j_ifle (pc := 40) D rfl (fun q D =>
                j_bp (pc := 43) D rfl fun D =>
                j_iret D rt_625) (fun q =>
                have D : fk_D 625 [(46, none, .aload_n 0, 1, 0, 0, 0), (47, none, .getfield 165, 3, 458, 129, 12), (50, none, .iload_n 1, 1, 0, 0, 0), (51, none, .fload_n 3, 1, 0, 0, 0), (52, none, .fastore, 1, 0, 0, 0), (53, none, .iconst 1, 1, 0, 1, 0), (54, none, .ireturn, 1, 0, 0, 0)] := fq_of2 cd_625 ow_625 cl_625 rfl (pc := 46) (by decide +kernel)
                j_aldn (pc := 46) D rfl rfl rfl fun D =>
                j_gfc (pc := 47) (a := 602) D rfl rfl (by decide) rfl (s0_602 H) rfl (sf_458_602 H) fun D =>
                j_ildn (pc := 50) D rfl rfl rfl fun D =>
                j_fldn (pc := 51) D rfl rfl rfl fun D =>
                j_as (pc := 52) (a := 650) (e := 6) D rfl ⟨rfl, rfl⟩ rfl (by decide) (s0_650 H) (s1_650 H) ⟨rfl, rfl, rfl⟩ rfl gn (gy rfl) fun h7 eh7 S qb8 D =>
                have T := fj_hs_ok H.1 S
                have H := shp_st H T
                j_ic (pc := 53) D rfl fun D =>
                j_iret D rt_625)) (fun q =>
              have D : fk_D 625 [(43, none, .bipush (-2), 2, 0, (-2), 0), (45, none, .ireturn, 1, 0, 0, 0)] := fq_of2 cd_625 ow_625 cl_625 rfl (pc := 43) (by decide +kernel)
              j_bp (pc := 43) D rfl fun D =>
              j_iret D rt_625)) (fun q6 h4 e1 =>
            j_tx (hx_625 _))))) (fun q3 h1 e1 =>
      j_tx (hx_625 _))
/-! 626 StatuteHouseModel.fact(IIJJII)I -/
theorem cd_626 : fi_code 626 = prog_69_method_146_code := rfl
theorem hx_626 : ∀ pc, fi_hat 626 pc = none := fun pc => by unfold fi_hat; rw [show fi_hh 626 = [] from rfl]; rfl
theorem rt_626 : fi_ret 626 = some .int := rfl
theorem nl_626 : fi_nl 626 = 9 := rfl
theorem ow_626 : fi_ow 626 = 29 := rfl
theorem cl_626 : fj_cutT.getD 626 [] = [] := rfl
theorem m_626 (d : Nat) (x1 x2 x3 x5 x7 x8 : Int) {h : fi_H} (H : Shp h) : fj_run (d + 1) 626 h [(4, 602), (0, x1), (0, x2), (1, x3), (1, x5), (0, x7), (0, x8)] =
  ca_ (fj_run d 572 h [(4, 602), (0, x1)]) 0
    (fun v2 h1 =>
    if v2 = 0 then
      some (.inl (some (0, (-1))), h1)
    else
      ca_ (fj_run d 627 h1 [(4, 602), (0, x2)]) 0
        (fun v5 h4 =>
        if v5 = 0 then
          some (.inl (some (0, (-1))), h4)
        else
          if 0 ≤ x2 ∧ x2 < 41 then
          ca_ (fj_run d 628 h4 [(4, 602), (0, h4 10 611 x2.toNat), (1, x3), (1, x5)]) 0
            (fun v9 h8 =>
            if v9 = 0 then
              some (.inl (some (0, (-2))), h8)
            else
              ca_ (fj_run d 629 h8 [(4, 602), (0, x1), (0, x2), (0, x7), (0, x8), (0, 0)]) 0
                (fun v12 h11 =>
                some (.inl (some (0, v12)), h11))
                (fun q13 h11 => tx_ q13 h11))
            (fun q10 h8 => tx_ q10 h8)
          else none)
        (fun q6 h4 => tx_ q6 h4))
    (fun q3 h1 => tx_ q3 h1) := by
  rw [fj_run_eq d (by decide) h [(4, 602), (0, x1), (0, x2), (1, x3), (1, x5), (0, x7), (0, x8)] (Nat.le_of_ble_eq_true (by rw [nl_626]; rfl))]
  show gG (fj_run d) 626 0 [(0, (4, 602)), (1, (0, x1)), (2, (0, x2)), (3, (1, x3)), (5, (1, x5)), (7, (0, x7)), (8, (0, x8))] [] h = _
  exact
    have D : fk_D 626 [(0, none, .aload_n 0, 1, 0, 0, 0), (1, none, .iload_n 1, 1, 0, 0, 0), (2, none, .invokevirtual 1076, 3, 1, 439, 1), (5, none, .ifCond .eq 11, 3, 16, 0, 0), (8, none, .aload_n 0, 1, 0, 0, 0), (9, none, .iload_n 2, 1, 0, 0, 0), (10, none, .invokevirtual 1118, 3, 1, 443, 1), (13, none, .ifCond .ne 5, 3, 18, 0, 0), (16, none, .iconst (-1), 1, 0, (-1), 0), (17, none, .ireturn, 1, 0, 0, 0)] := fq_of2 cd_626 ow_626 cl_626 rfl (pc := 0) (by decide +kernel)
    j_aldn (pc := 0) D rfl rfl rfl fun D =>
    j_ildn (pc := 1) D rfl rfl rfl fun D =>
    j_iv (pc := 2) (m := 572) (dd := 439) (a := [(0, x1)]) (rest := []) D rfl rfl rfl rfl rfl (by decide) (s0_602 H) (by decide +kernel) (fun v2 h1 e1 D =>
      have T := fj_run_ok _ _ _ _ _ _ H.1 e1
      have H := shp_st H T
      j_ifeq (pc := 5) D rfl (fun q =>
        have D : fk_D 626 [(16, none, .iconst (-1), 1, 0, (-1), 0), (17, none, .ireturn, 1, 0, 0, 0)] := fq_of2 cd_626 ow_626 cl_626 rfl (pc := 16) (by decide +kernel)
        j_ic (pc := 16) D rfl fun D =>
        j_iret D rt_626) (fun q D =>
        j_aldn (pc := 8) D rfl rfl rfl fun D =>
        j_ildn (pc := 9) D rfl rfl rfl fun D =>
        j_iv (pc := 10) (m := 627) (dd := 443) (a := [(0, x2)]) (rest := []) D rfl rfl rfl rfl rfl (by decide) (s0_602 H) (by decide +kernel) (fun v5 h4 e1 D =>
          have T := fj_run_ok _ _ _ _ _ _ H.1 e1
          have H := shp_st H T
          j_ifne (pc := 13) D rfl (fun q D =>
            j_ic (pc := 16) D rfl fun D =>
            j_iret D rt_626) (fun q =>
            have D : fk_D 626 [(18, none, .aload_n 0, 1, 0, 0, 0), (19, none, .aload_n 0, 1, 0, 0, 0), (20, none, .getfield 43, 3, 407, 129, 12), (23, none, .iload_n 2, 1, 0, 0, 0), (24, none, .iaload, 1, 0, 0, 0), (25, none, .lload_n 3, 1, 0, 0, 0), (26, none, .lload 5, 2, 0, 0, 0), (28, none, .invokevirtual 1121, 3, 3, 444, 1), (31, none, .ifCond .ne 6, 3, 37, 0, 0), (34, none, .bipush (-2), 2, 0, (-2), 0), (36, none, .ireturn, 1, 0, 0, 0)] := fq_of2 cd_626 ow_626 cl_626 rfl (pc := 18) (by decide +kernel)
            j_aldn (pc := 18) D rfl rfl rfl fun D =>
            j_aldn (pc := 19) D rfl rfl rfl fun D =>
            j_gfc (pc := 20) (a := 602) D rfl rfl (by decide) rfl (s0_602 H) rfl (sf_407_602 H) fun D =>
            j_ildn (pc := 23) D rfl rfl rfl fun D =>
            j_al (pc := 24) (a := 611) (e := 10) D rfl rfl rfl (by decide) (s0_611 H) (s1_611 H) ⟨rfl, rfl, rfl⟩ rfl gn fun qb7 D =>
            j_lldn (pc := 25) D rfl rfl rfl fun D =>
            j_lld (pc := 26) D rfl rfl rfl fun D =>
            j_iv (pc := 28) (m := 628) (dd := 444) (a := [(0, h4 10 611 x2.toNat), (1, x3), (1, x5)]) (rest := []) D rfl rfl rfl rfl rfl (by decide) (s0_602 H) (by decide +kernel) (fun v9 h8 e1 D =>
              have T := fj_run_ok _ _ _ _ _ _ H.1 e1
              have H := shp_st H T
              j_ifne (pc := 31) D rfl (fun q D =>
                j_bp (pc := 34) D rfl fun D =>
                j_iret D rt_626) (fun q =>
                have D : fk_D 626 [(37, none, .aload_n 0, 1, 0, 0, 0), (38, none, .iload_n 1, 1, 0, 0, 0), (39, none, .iload_n 2, 1, 0, 0, 0), (40, none, .iload 7, 2, 0, 0, 0), (42, none, .iload 8, 2, 0, 0, 0), (44, none, .iconst 0, 1, 0, 0, 0), (45, none, .invokevirtual 1125, 3, 5, 445, 1), (48, none, .ireturn, 1, 0, 0, 0)] := fq_of2 cd_626 ow_626 cl_626 rfl (pc := 37) (by decide +kernel)
                j_aldn (pc := 37) D rfl rfl rfl fun D =>
                j_ildn (pc := 38) D rfl rfl rfl fun D =>
                j_ildn (pc := 39) D rfl rfl rfl fun D =>
                j_ild (pc := 40) D rfl rfl rfl fun D =>
                j_ild (pc := 42) D rfl rfl rfl fun D =>
                j_ic (pc := 44) D rfl fun D =>
                j_iv (pc := 45) (m := 629) (dd := 445) (a := [(0, x1), (0, x2), (0, x7), (0, x8), (0, 0)]) (rest := []) D rfl rfl rfl rfl rfl (by decide) (s0_602 H) (by decide +kernel) (fun v12 h11 e1 D =>
                  have T := fj_run_ok _ _ _ _ _ _ H.1 e1
                  have H := shp_st H T
                  j_iret D rt_626) (fun q13 h11 e1 =>
                  j_tx (hx_626 _)))) (fun q10 h8 e1 =>
              j_tx (hx_626 _)))) (fun q6 h4 e1 =>
          j_tx (hx_626 _)))) (fun q3 h1 e1 =>
      j_tx (hx_626 _))
/-! 627 StatuteHouseModel.isFact(I)Z -/
theorem cd_627 : fi_code 627 = prog_69_method_144_code := rfl
theorem hx_627 : ∀ pc, fi_hat 627 pc = none := fun pc => by unfold fi_hat; rw [show fi_hh 627 = [] from rfl]; rfl
theorem rt_627 : fi_ret 627 = some .boolean := rfl
theorem nl_627 : fi_nl 627 = 2 := rfl
theorem ow_627 : fi_ow 627 = 29 := rfl
theorem cl_627 : fj_cutT.getD 627 [] = [] := rfl
theorem m_627 (d : Nat) (x1 : Int) {h : fi_H} (H : Shp h) : fj_run (d + 1) 627 h [(4, 602), (0, x1)] =
  ca_ (fj_run d 508 h [(1, wI x1), (1, 0), (1, wI (wI ((h 413 602 0) - 1)))]) 0
    (fun v2 h1 =>
    if v2 = 0 then
      some (.inl (some (0, 0)), h1)
    else
      ca_ (fj_run d 552 h1 [(4, 602), (0, x1)]) 0
        (fun v5 h4 =>
        if v5 = 0 then
          some (.inl (some (0, 0)), h4)
        else
          some (.inl (some (0, 1)), h4))
        (fun q6 h4 => tx_ q6 h4))
    (fun q3 h1 => tx_ q3 h1) := by
  rw [fj_run_eq d (by decide) h [(4, 602), (0, x1)] (Nat.le_of_ble_eq_true (by rw [nl_627]; rfl))]
  show gG (fj_run d) 627 0 [(0, (4, 602)), (1, (0, x1))] [] h = _
  exact
    have D : fk_D 627 [(0, none, .iload_n 1, 1, 0, 0, 0), (1, none, .i2l, 1, 0, 0, 0), (2, none, .lconst 0, 1, 0, 0, 0), (3, none, .aload_n 0, 1, 0, 0, 0), (4, none, .getfield 579, 3, 413, 129, 10), (7, none, .iconst 1, 1, 0, 1, 0), (8, none, .isub, 1, 0, 0, 0), (9, none, .i2l, 1, 0, 0, 0), (10, none, .invokestatic 434, 3, 3, 508, 1), (13, none, .ifCond .eq 15, 3, 28, 0, 0), (16, none, .aload_n 0, 1, 0, 0, 0), (17, none, .iload_n 1, 1, 0, 0, 0), (18, none, .invokevirtual 767, 3, 1, 391, 1), (21, none, .ifCond .eq 7, 3, 28, 0, 0), (24, none, .iconst 1, 1, 0, 1, 0), (25, none, .goto 4, 3, 29, 0, 0)] := fq_of2 cd_627 ow_627 cl_627 rfl (pc := 0) (by decide +kernel)
    j_ildn (pc := 0) D rfl rfl rfl fun D =>
    j_i2l (pc := 1) D rfl fun D =>
    j_c0 (pc := 2) (v := (1, 0)) D rfl rfl (by decide +kernel) fun D =>
    j_aldn (pc := 3) D rfl rfl rfl fun D =>
    j_gf (pc := 4) (a := 602) D rfl rfl (by decide) rfl (s0_602 H) rfl fun D =>
    j_ic (pc := 7) D rfl fun D =>
    j_isub (pc := 8) D rfl fun D =>
    j_i2l (pc := 9) D rfl fun D =>
    j_is (pc := 10) (m := 508) (a := [(1, wI x1), (1, 0), (1, wI (wI ((h 413 602 0) - 1)))]) (rest := []) D rfl rfl rfl rfl (fun v2 h1 e1 D =>
      have T := fj_run_ok _ _ _ _ _ _ H.1 e1
      have H := shp_st H T
      j_ifeq (pc := 13) D rfl (fun q =>
        have D : fk_D 627 [(28, none, .iconst 0, 1, 0, 0, 0), (29, none, .ireturn, 1, 0, 0, 0)] := fq_of2 cd_627 ow_627 cl_627 rfl (pc := 28) (by decide +kernel)
        j_ic (pc := 28) D rfl fun D =>
        j_zret D rt_627 (gy (by decide))) (fun q D =>
        j_aldn (pc := 16) D rfl rfl rfl fun D =>
        j_ildn (pc := 17) D rfl rfl rfl fun D =>
        j_iv (pc := 18) (m := 552) (dd := 391) (a := [(0, x1)]) (rest := []) D rfl rfl rfl rfl rfl (by decide) (s0_602 H) (by decide +kernel) (fun v5 h4 e1 D =>
          have T := fj_run_ok _ _ _ _ _ _ H.1 e1
          have H := shp_st H T
          j_ifeq (pc := 21) D rfl (fun q =>
            have D : fk_D 627 [(28, none, .iconst 0, 1, 0, 0, 0), (29, none, .ireturn, 1, 0, 0, 0)] := fq_of2 cd_627 ow_627 cl_627 rfl (pc := 28) (by decide +kernel)
            j_ic (pc := 28) D rfl fun D =>
            j_zret D rt_627 (gy (by decide))) (fun q D =>
            j_ic (pc := 24) D rfl fun D =>
            j_goto (pc := 25) D rfl <|
            have D : fk_D 627 [(29, none, .ireturn, 1, 0, 0, 0)] := fq_of2 cd_627 ow_627 cl_627 rfl (pc := 29) (by decide +kernel)
            j_zret D rt_627 (gy (by decide)))) (fun q6 h4 e1 =>
          j_tx (hx_627 _)))) (fun q3 h1 e1 =>
      j_tx (hx_627 _))
/-! 628 StatuteHouseModel.isValue(IJJ)Z -/
theorem cd_628 : fi_code 628 = prog_69_method_145_code := rfl
theorem hx_628 : ∀ pc, fi_hat 628 pc = none := fun pc => by unfold fi_hat; rw [show fi_hh 628 = [] from rfl]; rfl
theorem rt_628 : fi_ret 628 = some .boolean := rfl
theorem nl_628 : fi_nl 628 = 8 := rfl
theorem ow_628 : fi_ow 628 = 29 := rfl
theorem cl_628 : fj_cutT.getD 628 [] = [] := rfl
theorem m_628 (d : Nat) (x1 x2 x4 : Int) {h : fi_H} (H : Shp h) : fj_run (d + 1) 628 h [(4, 602), (0, x1), (1, x2), (1, x4)] =
  lt_ (fi_upd h 509 602 0 x2) fun h1 =>
  lt_ (fi_upd h1 510 602 0 0) fun h2 =>
  if x1 = 0 then
    ca_ (fj_run d 508 h2 [(1, x2), (1, 0), (1, 1)]) 0
      (fun v4 h3 =>
      if v4 = 0 ∨ v4 = 1 then some (.inl (some (0, v4)), h3) else none)
      (fun q5 h3 => tx_ q5 h3)
  else if x1 = 1 then
    ca_ (fj_run d 508 h2 [(1, x2), (1, (-2147483648)), (1, 2147483647)]) 0
      (fun v7 h6 =>
      if v7 = 0 ∨ v7 = 1 then some (.inl (some (0, v7)), h6) else none)
      (fun q8 h6 => tx_ q8 h6)
  else if x1 = 2 then
    ca_ (fj_run d 508 h2 [(1, x2), (1, (-1000000000000)), (1, 1000000000000)]) 0
      (fun v10 h9 =>
      if v10 = 0 ∨ v10 = 1 then some (.inl (some (0, v10)), h9) else none)
      (fun q11 h9 => tx_ q11 h9)
  else if x1 = 3 then
    ca_ (fj_run d 508 h2 [(1, x2), (1, (-1000000000000)), (1, 1000000000000)]) 0
      (fun v13 h12 =>
      if v13 = 0 then
        some (.inl (some (0, 0)), h12)
      else
        ca_ (fj_run d 508 h12 [(1, x4), (1, 1), (1, 1000000000000)]) 0
          (fun v16 h15 =>
          if v16 = 0 then
            some (.inl (some (0, 0)), h15)
          else
            ca_ (fj_run d 514 h15 [(1, x2), (1, x4)]) 1
              (fun v19 h18 =>
              if v19 = 0 then none else
              lt_ (fi_upd h18 509 602 0 (lq_ x2 v19)) fun h21 =>
              if v19 = 0 then none else
              lt_ (fi_upd h21 510 602 0 (lq_ x4 v19)) fun h22 =>
              ca_ (fj_run d 508 h22 [(1, h22 509 602 0), (1, (-1000000)), (1, 1000000)]) 0
                (fun v24 h23 =>
                if v24 = 0 then
                  some (.inl (some (0, 0)), h23)
                else
                  if 0 < lc_ (h23 510 602 0) 1000000 then
                    some (.inl (some (0, 0)), h23)
                  else
                    some (.inl (some (0, 1)), h23))
                (fun q25 h23 => tx_ q25 h23))
              (fun q20 h18 => tx_ q20 h18))
          (fun q17 h15 => tx_ q17 h15))
      (fun q14 h12 => tx_ q14 h12)
  else if x1 = 4 then
    ca_ (fj_run d 520 h2 [(1, x2)]) 0
      (fun v27 h26 =>
      if v27 = 0 ∨ v27 = 1 then some (.inl (some (0, v27)), h26) else none)
      (fun q28 h26 => tx_ q28 h26)
  else if x1 = 5 then
    lt_ (fi_upd h2 510 602 0 x4) fun h29 =>
    ca_ (fj_run d 508 h29 [(1, x2), (1, (-2400)), (1, 2400)]) 0
      (fun v31 h30 =>
      if v31 = 0 then
        some (.inl (some (0, 0)), h30)
      else
        ca_ (fj_run d 508 h30 [(1, x4), (1, (-65535)), (1, 65535)]) 0
          (fun v34 h33 =>
          if v34 = 0 then
            some (.inl (some (0, 0)), h33)
          else
            some (.inl (some (0, 1)), h33))
          (fun q35 h33 => tx_ q35 h33))
      (fun q32 h30 => tx_ q32 h30)
  else if x1 = 6 then
    if lc_ (la_ (lsr_ x2 52) 2047) 2047 = 0 then
      some (.inl (some (0, 0)), h2)
    else
      some (.inl (some (0, 1)), h2)
  else 
    ca_ (fj_run d 508 h2 [(1, x2), (1, 0), (1, wI (wI ((h2 459 602 0) - 1)))]) 0
      (fun v37 h36 =>
      if v37 = 0 ∨ v37 = 1 then some (.inl (some (0, v37)), h36) else none)
      (fun q38 h36 => tx_ q38 h36) := by
  rw [fj_run_eq d (by decide) h [(4, 602), (0, x1), (1, x2), (1, x4)] (Nat.le_of_ble_eq_true (by rw [nl_628]; rfl))]
  show gG (fj_run d) 628 0 [(0, (4, 602)), (1, (0, x1)), (2, (1, x2)), (4, (1, x4))] [] h = _
  exact
    have D : fk_D 628 [(0, none, .aload_n 0, 1, 0, 0, 0), (1, none, .lload_n 2, 1, 0, 0, 0), (2, none, .putfield 1110, 3, 509, 129, 11), (5, none, .aload_n 0, 1, 0, 0, 0), (6, none, .lconst 0, 1, 0, 0, 0), (7, none, .putfield 1113, 3, 510, 129, 11), (10, none, .iload_n 1, 1, 0, 0, 0), (11, none, .tableswitch 220 0 6 #[41, 48, 59, 70, 155, 160, 199], 41, 0, 0, 0)] := fq_of3 cd_628 ow_628 cl_628 rfl (pc := 0) (by decide +kernel)
    j_aldn (pc := 0) D rfl rfl rfl fun D =>
    j_lldn (pc := 1) D rfl rfl rfl fun D =>
    j_pf (pc := 2) (a := 602) D rfl rfl rfl (s0_602 H) rfl rfl (gy (by decide)) (gy rfl) fun h1 eh1 S D =>
    have T := fj_hs_ok H.1 S
    have H := shp_st H T
    j_aldn (pc := 5) D rfl rfl rfl fun D =>
    j_c0 (pc := 6) (v := (1, 0)) D rfl rfl (by decide +kernel) fun D =>
    j_pf (pc := 7) (a := 602) D rfl rfl rfl (s0_602 H) rfl rfl (gy (by decide)) (gy rfl) fun h2 eh2 S D =>
    have T := fj_hs_ok H.1 S
    have H := shp_st H T
    j_ildn (pc := 10) D rfl rfl rfl fun D =>
    have N : fk_ni (x1) [] := trivial
    j_tc (pc := 11) 0 (t := 52) D N rfl (by decide +kernel) (fun q =>
      have D : fk_D 628 [(52, none, .lload_n 2, 1, 0, 0, 0), (53, none, .lconst 0, 1, 0, 0, 0), (54, none, .lconst 1, 1, 0, 0, 0), (55, none, .invokestatic 434, 3, 3, 508, 1), (58, none, .ireturn, 1, 0, 0, 0)] := fq_of2 cd_628 ow_628 cl_628 rfl (pc := 52) (by decide +kernel)
      j_lldn (pc := 52) D rfl rfl rfl fun D =>
      j_c0 (pc := 53) (v := (1, 0)) D rfl rfl (by decide +kernel) fun D =>
      j_c0 (pc := 54) (v := (1, 1)) D rfl rfl (by decide +kernel) fun D =>
      j_is (pc := 55) (m := 508) (a := [(1, x2), (1, 0), (1, 1)]) (rest := []) D rfl rfl rfl rfl (fun v4 h3 e1 D =>
        have T := fj_run_ok _ _ _ _ _ _ H.1 e1
        have H := shp_st H T
        j_zret D rt_628 gn) (fun q5 h3 e1 =>
        j_tx (hx_628 _))) (fun N =>
      j_tc 1 (t := 59) D N rfl (by decide +kernel) (fun q =>
        have D : fk_D 628 [(59, none, .lload_n 2, 1, 0, 0, 0), (60, none, .ldc2_w 924, 3, 1, (-2147483648), 0), (63, none, .ldc2_w 926, 3, 1, 2147483647, 0), (66, none, .invokestatic 434, 3, 3, 508, 1), (69, none, .ireturn, 1, 0, 0, 0)] := fq_of2 cd_628 ow_628 cl_628 rfl (pc := 59) (by decide +kernel)
        j_lldn (pc := 59) D rfl rfl rfl fun D =>
        j_ldc2 (pc := 60) D rfl fun D =>
        j_ldc2 (pc := 63) D rfl fun D =>
        j_is (pc := 66) (m := 508) (a := [(1, x2), (1, (-2147483648)), (1, 2147483647)]) (rest := []) D rfl rfl rfl rfl (fun v7 h6 e1 D =>
          have T := fj_run_ok _ _ _ _ _ _ H.1 e1
          have H := shp_st H T
          j_zret D rt_628 gn) (fun q8 h6 e1 =>
          j_tx (hx_628 _))) (fun N =>
        j_tc 2 (t := 70) D N rfl (by decide +kernel) (fun q =>
          have D : fk_D 628 [(70, none, .lload_n 2, 1, 0, 0, 0), (71, none, .ldc2_w 928, 3, 1, (-1000000000000), 0), (74, none, .ldc2_w 930, 3, 1, 1000000000000, 0), (77, none, .invokestatic 434, 3, 3, 508, 1), (80, none, .ireturn, 1, 0, 0, 0)] := fq_of2 cd_628 ow_628 cl_628 rfl (pc := 70) (by decide +kernel)
          j_lldn (pc := 70) D rfl rfl rfl fun D =>
          j_ldc2 (pc := 71) D rfl fun D =>
          j_ldc2 (pc := 74) D rfl fun D =>
          j_is (pc := 77) (m := 508) (a := [(1, x2), (1, (-1000000000000)), (1, 1000000000000)]) (rest := []) D rfl rfl rfl rfl (fun v10 h9 e1 D =>
            have T := fj_run_ok _ _ _ _ _ _ H.1 e1
            have H := shp_st H T
            j_zret D rt_628 gn) (fun q11 h9 e1 =>
            j_tx (hx_628 _))) (fun N =>
          j_tc 3 (t := 81) D N rfl (by decide +kernel) (fun q =>
            have D : fk_D 628 [(81, none, .lload_n 2, 1, 0, 0, 0), (82, none, .ldc2_w 928, 3, 1, (-1000000000000), 0), (85, none, .ldc2_w 930, 3, 1, 1000000000000, 0), (88, none, .invokestatic 434, 3, 3, 508, 1), (91, none, .ifCond .eq 15, 3, 106, 0, 0), (94, none, .lload 4, 2, 0, 0, 0), (96, none, .lconst 1, 1, 0, 0, 0), (97, none, .ldc2_w 930, 3, 1, 1000000000000, 0), (100, none, .invokestatic 434, 3, 3, 508, 1), (103, none, .ifCond .ne 5, 3, 108, 0, 0), (106, none, .iconst 0, 1, 0, 0, 0), (107, none, .ireturn, 1, 0, 0, 0)] := fq_of2 cd_628 ow_628 cl_628 rfl (pc := 81) (by decide +kernel)
            j_lldn (pc := 81) D rfl rfl rfl fun D =>
            j_ldc2 (pc := 82) D rfl fun D =>
            j_ldc2 (pc := 85) D rfl fun D =>
            j_is (pc := 88) (m := 508) (a := [(1, x2), (1, (-1000000000000)), (1, 1000000000000)]) (rest := []) D rfl rfl rfl rfl (fun v13 h12 e1 D =>
              have T := fj_run_ok _ _ _ _ _ _ H.1 e1
              have H := shp_st H T
              j_ifeq (pc := 91) D rfl (fun q =>
                have D : fk_D 628 [(106, none, .iconst 0, 1, 0, 0, 0), (107, none, .ireturn, 1, 0, 0, 0)] := fq_of2 cd_628 ow_628 cl_628 rfl (pc := 106) (by decide +kernel)
                j_ic (pc := 106) D rfl fun D =>
                j_zret D rt_628 (gy (by decide))) (fun q D =>
                j_lld (pc := 94) D rfl rfl rfl fun D =>
                j_c0 (pc := 96) (v := (1, 1)) D rfl rfl (by decide +kernel) fun D =>
                j_ldc2 (pc := 97) D rfl fun D =>
                j_is (pc := 100) (m := 508) (a := [(1, x4), (1, 1), (1, 1000000000000)]) (rest := []) D rfl rfl rfl rfl (fun v16 h15 e1 D =>
                  have T := fj_run_ok _ _ _ _ _ _ H.1 e1
                  have H := shp_st H T
                  j_ifne (pc := 103) D rfl (fun q D =>
                    j_ic (pc := 106) D rfl fun D =>
                    j_zret D rt_628 (gy (by decide))) (fun q =>
                    have D : fk_D 628 [(108, none, .lload_n 2, 1, 0, 0, 0), (109, none, .lload 4, 2, 0, 0, 0), (111, none, .invokestatic 604, 3, 2, 514, 2), (114, none, .lstore 6, 2, 0, 0, 0), (116, none, .aload_n 0, 1, 0, 0, 0), (117, none, .lload_n 2, 1, 0, 0, 0), (118, none, .lload 6, 2, 0, 0, 0), (120, none, .ldiv, 1, 0, 0, 0), (121, none, .putfield 1110, 3, 509, 129, 11), (124, none, .aload_n 0, 1, 0, 0, 0), (125, none, .lload 4, 2, 0, 0, 0), (127, none, .lload 6, 2, 0, 0, 0), (129, none, .ldiv, 1, 0, 0, 0), (130, none, .putfield 1113, 3, 510, 129, 11), (133, none, .aload_n 0, 1, 0, 0, 0), (134, none, .getfield 1110, 3, 509, 129, 11), (137, none, .ldc2_w 932, 3, 1, (-1000000), 0), (140, none, .ldc2_w 934, 3, 1, 1000000, 0), (143, none, .invokestatic 434, 3, 3, 508, 1), (146, none, .ifCond .eq 18, 3, 164, 0, 0)] := fq_of2 cd_628 ow_628 cl_628 rfl (pc := 108) (by decide +kernel)
                    j_lldn (pc := 108) D rfl rfl rfl fun D =>
                    j_lld (pc := 109) D rfl rfl rfl fun D =>
                    j_is (pc := 111) (m := 514) (a := [(1, x2), (1, x4)]) (rest := []) D rfl rfl rfl rfl (fun v19 h18 e1 D =>
                      have T := fj_run_ok _ _ _ _ _ _ H.1 e1
                      have H := shp_st H T
                      j_lst (pc := 114) (L' := [(6, (1, v19)), (0, (4, 602)), (1, (0, x1)), (2, (1, x2)), (4, (1, x4))]) D rfl nl_628 rfl rfl fun D =>
                      j_aldn (pc := 116) D rfl rfl rfl fun D =>
                      j_lldn (pc := 117) D rfl rfl rfl fun D =>
                      j_lld (pc := 118) D rfl rfl rfl fun D =>
                      j_ldiv (pc := 120) D rfl fun q D =>
                      j_pf (pc := 121) (a := 602) D rfl rfl rfl (s0_602 H) rfl rfl (gy (by decide)) (gy rfl) fun h21 eh21 S D =>
                      have T := fj_hs_ok H.1 S
                      have H := shp_st H T
                      j_aldn (pc := 124) D rfl rfl rfl fun D =>
                      j_lld (pc := 125) D rfl rfl rfl fun D =>
                      j_lld (pc := 127) D rfl rfl rfl fun D =>
                      j_ldiv (pc := 129) D rfl fun q D =>
                      j_pf (pc := 130) (a := 602) D rfl rfl rfl (s0_602 H) rfl rfl (gy (by decide)) (gy rfl) fun h22 eh22 S D =>
                      have T := fj_hs_ok H.1 S
                      have H := shp_st H T
                      j_aldn (pc := 133) D rfl rfl rfl fun D =>
                      j_gf (pc := 134) (a := 602) D rfl rfl (by decide) rfl (s0_602 H) rfl fun D =>
                      j_ldc2 (pc := 137) D rfl fun D =>
                      j_ldc2 (pc := 140) D rfl fun D =>
                      j_is (pc := 143) (m := 508) (a := [(1, h22 509 602 0), (1, (-1000000)), (1, 1000000)]) (rest := []) D rfl rfl rfl rfl (fun v24 h23 e1 D =>
                        have T := fj_run_ok _ _ _ _ _ _ H.1 e1
                        have H := shp_st H T
                        j_ifeq (pc := 146) D rfl (fun q =>
                          have D : fk_D 628 [(164, none, .iconst 0, 1, 0, 0, 0), (165, none, .ireturn, 1, 0, 0, 0)] := fq_of2 cd_628 ow_628 cl_628 rfl (pc := 164) (by decide +kernel)
                          j_ic (pc := 164) D rfl fun D =>
                          j_zret D rt_628 (gy (by decide))) (fun q D =>
                          have D : fk_D 628 [(149, none, .aload_n 0, 1, 0, 0, 0), (150, none, .getfield 1113, 3, 510, 129, 11), (153, none, .ldc2_w 934, 3, 1, 1000000, 0), (156, none, .lcmp, 1, 0, 0, 0), (157, none, .ifCond .gt 7, 3, 164, 0, 0), (160, none, .iconst 1, 1, 0, 1, 0), (161, none, .goto 4, 3, 165, 0, 0)] := fq_of2 cd_628 ow_628 cl_628 rfl (pc := 149) (by decide +kernel)
                          j_aldn (pc := 149) D rfl rfl rfl fun D =>
                          j_gf (pc := 150) (a := 602) D rfl rfl (by decide) rfl (s0_602 H) rfl fun D =>
                          j_ldc2 (pc := 153) D rfl fun D =>
                          j_lcmp (pc := 156) D rfl fun D =>
                          j_ifgt (pc := 157) D rfl (fun q =>
                            have D : fk_D 628 [(164, none, .iconst 0, 1, 0, 0, 0), (165, none, .ireturn, 1, 0, 0, 0)] := fq_of2 cd_628 ow_628 cl_628 rfl (pc := 164) (by decide +kernel)
                            j_ic (pc := 164) D rfl fun D =>
                            j_zret D rt_628 (gy (by decide))) (fun q D =>
                            j_ic (pc := 160) D rfl fun D =>
                            j_goto (pc := 161) D rfl <|
                            have D : fk_D 628 [(165, none, .ireturn, 1, 0, 0, 0)] := fq_of2 cd_628 ow_628 cl_628 rfl (pc := 165) (by decide +kernel)
                            j_zret D rt_628 (gy (by decide))))) (fun q25 h23 e1 =>
                        j_tx (hx_628 _))) (fun q20 h18 e1 =>
                      j_tx (hx_628 _)))) (fun q17 h15 e1 =>
                  j_tx (hx_628 _)))) (fun q14 h12 e1 =>
              j_tx (hx_628 _))) (fun N =>
            j_tc 4 (t := 166) D N rfl (by decide +kernel) (fun q =>
              have D : fk_D 628 [(166, none, .lload_n 2, 1, 0, 0, 0), (167, none, .invokestatic 456, 3, 1, 520, 1), (170, none, .ireturn, 1, 0, 0, 0)] := fq_of2 cd_628 ow_628 cl_628 rfl (pc := 166) (by decide +kernel)
              j_lldn (pc := 166) D rfl rfl rfl fun D =>
              j_is (pc := 167) (m := 520) (a := [(1, x2)]) (rest := []) D rfl rfl rfl rfl (fun v27 h26 e1 D =>
                have T := fj_run_ok _ _ _ _ _ _ H.1 e1
                have H := shp_st H T
                j_zret D rt_628 gn) (fun q28 h26 e1 =>
                j_tx (hx_628 _))) (fun N =>
              j_tc 5 (t := 171) D N rfl (by decide +kernel) (fun q =>
                have D : fk_D 628 [(171, none, .aload_n 0, 1, 0, 0, 0), (172, none, .lload 4, 2, 0, 0, 0), (174, none, .putfield 1113, 3, 510, 129, 11), (177, none, .lload_n 2, 1, 0, 0, 0), (178, none, .ldc2_w 946, 3, 1, (-2400), 0), (181, none, .ldc2_w 612, 3, 1, 2400, 0), (184, none, .invokestatic 434, 3, 3, 508, 1), (187, none, .ifCond .eq 21, 3, 208, 0, 0), (190, none, .lload 4, 2, 0, 0, 0), (192, none, .ldc2_w 948, 3, 1, (-65535), 0), (195, none, .ldc2_w 432, 3, 1, 65535, 0), (198, none, .invokestatic 434, 3, 3, 508, 1), (201, none, .ifCond .eq 7, 3, 208, 0, 0), (204, none, .iconst 1, 1, 0, 1, 0), (205, none, .goto 4, 3, 209, 0, 0)] := fq_of2 cd_628 ow_628 cl_628 rfl (pc := 171) (by decide +kernel)
                j_aldn (pc := 171) D rfl rfl rfl fun D =>
                j_lld (pc := 172) D rfl rfl rfl fun D =>
                j_pf (pc := 174) (a := 602) D rfl rfl rfl (s0_602 H) rfl rfl (gy (by decide)) (gy rfl) fun h29 eh29 S D =>
                have T := fj_hs_ok H.1 S
                have H := shp_st H T
                j_lldn (pc := 177) D rfl rfl rfl fun D =>
                j_ldc2 (pc := 178) D rfl fun D =>
                j_ldc2 (pc := 181) D rfl fun D =>
                j_is (pc := 184) (m := 508) (a := [(1, x2), (1, (-2400)), (1, 2400)]) (rest := []) D rfl rfl rfl rfl (fun v31 h30 e1 D =>
                  have T := fj_run_ok _ _ _ _ _ _ H.1 e1
                  have H := shp_st H T
                  j_ifeq (pc := 187) D rfl (fun q =>
                    have D : fk_D 628 [(208, none, .iconst 0, 1, 0, 0, 0), (209, none, .ireturn, 1, 0, 0, 0)] := fq_of2 cd_628 ow_628 cl_628 rfl (pc := 208) (by decide +kernel)
                    j_ic (pc := 208) D rfl fun D =>
                    j_zret D rt_628 (gy (by decide))) (fun q D =>
                    j_lld (pc := 190) D rfl rfl rfl fun D =>
                    j_ldc2 (pc := 192) D rfl fun D =>
                    j_ldc2 (pc := 195) D rfl fun D =>
                    j_is (pc := 198) (m := 508) (a := [(1, x4), (1, (-65535)), (1, 65535)]) (rest := []) D rfl rfl rfl rfl (fun v34 h33 e1 D =>
                      have T := fj_run_ok _ _ _ _ _ _ H.1 e1
                      have H := shp_st H T
                      j_ifeq (pc := 201) D rfl (fun q =>
                        have D : fk_D 628 [(208, none, .iconst 0, 1, 0, 0, 0), (209, none, .ireturn, 1, 0, 0, 0)] := fq_of2 cd_628 ow_628 cl_628 rfl (pc := 208) (by decide +kernel)
                        j_ic (pc := 208) D rfl fun D =>
                        j_zret D rt_628 (gy (by decide))) (fun q D =>
                        j_ic (pc := 204) D rfl fun D =>
                        j_goto (pc := 205) D rfl <|
                        have D : fk_D 628 [(209, none, .ireturn, 1, 0, 0, 0)] := fq_of2 cd_628 ow_628 cl_628 rfl (pc := 209) (by decide +kernel)
                        j_zret D rt_628 (gy (by decide)))) (fun q35 h33 e1 =>
                      j_tx (hx_628 _)))) (fun q32 h30 e1 =>
                  j_tx (hx_628 _))) (fun N =>
                j_tc 6 (t := 210) D N rfl (by decide +kernel) (fun q =>
                  have D : fk_D 628 [(210, none, .lload_n 2, 1, 0, 0, 0), (211, none, .bipush 52, 2, 0, 52, 0), (213, none, .lshr, 1, 0, 0, 0), (214, none, .ldc2_w 1116, 3, 1, 2047, 0), (217, none, .land, 1, 0, 0, 0), (218, none, .ldc2_w 1116, 3, 1, 2047, 0), (221, none, .lcmp, 1, 0, 0, 0), (222, none, .ifCond .eq 7, 3, 229, 0, 0), (225, none, .iconst 1, 1, 0, 1, 0), (226, none, .goto 4, 3, 230, 0, 0)] := fq_of2 cd_628 ow_628 cl_628 rfl (pc := 210) (by decide +kernel)
                  j_lldn (pc := 210) D rfl rfl rfl fun D =>
                  j_bp (pc := 211) D rfl fun D =>
                  j_lshr (pc := 213) D rfl fun D =>
                  j_ldc2 (pc := 214) D rfl fun D =>
                  j_land (pc := 217) D rfl fun D =>
                  j_ldc2 (pc := 218) D rfl fun D =>
                  j_lcmp (pc := 221) D rfl fun D =>
                  j_ifeq (pc := 222) D rfl (fun q =>
                    have D : fk_D 628 [(229, none, .iconst 0, 1, 0, 0, 0), (230, none, .ireturn, 1, 0, 0, 0)] := fq_of2 cd_628 ow_628 cl_628 rfl (pc := 229) (by decide +kernel)
                    j_ic (pc := 229) D rfl fun D =>
                    j_zret D rt_628 (gy (by decide))) (fun q D =>
                    j_ic (pc := 225) D rfl fun D =>
                    j_goto (pc := 226) D rfl <|
                    have D : fk_D 628 [(230, none, .ireturn, 1, 0, 0, 0)] := fq_of2 cd_628 ow_628 cl_628 rfl (pc := 230) (by decide +kernel)
                    j_zret D rt_628 (gy (by decide)))) (fun N =>
                  j_td (t := 231) D N rfl (by decide +kernel) (by decide +kernel) <|
                  have D : fk_D 628 [(231, none, .lload_n 2, 1, 0, 0, 0), (232, none, .lconst 0, 1, 0, 0, 0), (233, none, .aload_n 0, 1, 0, 0, 0), (234, none, .getfield 169, 3, 459, 129, 10), (237, none, .iconst 1, 1, 0, 1, 0), (238, none, .isub, 1, 0, 0, 0), (239, none, .i2l, 1, 0, 0, 0), (240, none, .invokestatic 434, 3, 3, 508, 1), (243, none, .ireturn, 1, 0, 0, 0)] := fq_of2 cd_628 ow_628 cl_628 rfl (pc := 231) (by decide +kernel)
                  j_lldn (pc := 231) D rfl rfl rfl fun D =>
                  j_c0 (pc := 232) (v := (1, 0)) D rfl rfl (by decide +kernel) fun D =>
                  j_aldn (pc := 233) D rfl rfl rfl fun D =>
                  j_gf (pc := 234) (a := 602) D rfl rfl (by decide) rfl (s0_602 H) rfl fun D =>
                  j_ic (pc := 237) D rfl fun D =>
                  j_isub (pc := 238) D rfl fun D =>
                  j_i2l (pc := 239) D rfl fun D =>
                  j_is (pc := 240) (m := 508) (a := [(1, x2), (1, 0), (1, wI (wI ((h2 459 602 0) - 1)))]) (rest := []) D rfl rfl rfl rfl (fun v37 h36 e1 D =>
                    have T := fj_run_ok _ _ _ _ _ _ H.1 e1
                    have H := shp_st H T
                    j_zret D rt_628 gn) (fun q38 h36 e1 =>
                    j_tx (hx_628 _)))))))))
/-! 629 StatuteHouseModel.record(IIIIZ)I -/
theorem cd_629 : fi_code 629 = prog_69_method_148_code := rfl
theorem hx_629 : ∀ pc, fi_hat 629 pc = none := fun pc => by unfold fi_hat; rw [show fi_hh 629 = [] from rfl]; rfl
theorem rt_629 : fi_ret 629 = some .int := rfl
theorem nl_629 : fi_nl 629 = 6 := rfl
theorem ow_629 : fi_ow 629 = 29 := rfl
theorem cl_629 : fj_cutT.getD 629 [] = [] := rfl
theorem m_629 (d : Nat) (x1 x2 x3 x4 x5 : Int) {h : fi_H} (H : Shp h) : fj_run (d + 1) 629 h [(4, 602), (0, x1), (0, x2), (0, x3), (0, x4), (0, x5)] =
  ca_ (fj_run d 520 h [(1, wI x3)]) 0
    (fun v2 h1 =>
    if v2 = 0 then
      some (.inl (some (0, (-2))), h1)
    else
      ca_ (fj_run d 520 h1 [(1, wI x4)]) 0
        (fun v5 h4 =>
        if v5 = 0 then
          some (.inl (some (0, (-2))), h4)
        else
          if x4 < x3 then
            some (.inl (some (0, (-2))), h4)
          else
            ca_ (fj_run d 630 h4 [(4, 602), (0, x1), (0, x2)]) 0
              (fun v8 h7 =>
              if v8 = 0 then
                some (.inl (some (0, (-4))), h7)
              else
                cv_ (fj_run d 631 h7 [(4, 602), (0, x1), (0, x2), (0, x3), (0, x4), (0, x5)])
                  (fun h10 =>
                  some (.inl (some (0, h10 468 602 0)), h10))
                  (fun q12 h10 => tx_ q12 h10))
              (fun q9 h7 => tx_ q9 h7))
        (fun q6 h4 => tx_ q6 h4))
    (fun q3 h1 => tx_ q3 h1) := by
  rw [fj_run_eq d (by decide) h [(4, 602), (0, x1), (0, x2), (0, x3), (0, x4), (0, x5)] (Nat.le_of_ble_eq_true (by rw [nl_629]; rfl))]
  show gG (fj_run d) 629 0 [(0, (4, 602)), (1, (0, x1)), (2, (0, x2)), (3, (0, x3)), (4, (0, x4)), (5, (0, x5))] [] h = _
  exact
    have D : fk_D 629 [(0, none, .iload_n 3, 1, 0, 0, 0), (1, none, .i2l, 1, 0, 0, 0), (2, none, .invokestatic 456, 3, 1, 520, 1), (5, none, .ifCond .eq 18, 3, 23, 0, 0), (8, none, .iload 4, 2, 0, 0, 0), (10, none, .i2l, 1, 0, 0, 0), (11, none, .invokestatic 456, 3, 1, 520, 1), (14, none, .ifCond .eq 9, 3, 23, 0, 0), (17, none, .iload_n 3, 1, 0, 0, 0), (18, none, .iload 4, 2, 0, 0, 0), (20, none, .if_icmp .le 6, 3, 26, 0, 0), (23, none, .bipush (-2), 2, 0, (-2), 0), (25, none, .ireturn, 1, 0, 0, 0)] := fq_of2 cd_629 ow_629 cl_629 rfl (pc := 0) (by decide +kernel)
    j_ildn (pc := 0) D rfl rfl rfl fun D =>
    j_i2l (pc := 1) D rfl fun D =>
    j_is (pc := 2) (m := 520) (a := [(1, wI x3)]) (rest := []) D rfl rfl rfl rfl (fun v2 h1 e1 D =>
      have T := fj_run_ok _ _ _ _ _ _ H.1 e1
      have H := shp_st H T
      j_ifeq (pc := 5) D rfl (fun q =>
        have D : fk_D 629 [(23, none, .bipush (-2), 2, 0, (-2), 0), (25, none, .ireturn, 1, 0, 0, 0)] := fq_of2 cd_629 ow_629 cl_629 rfl (pc := 23) (by decide +kernel)
        j_bp (pc := 23) D rfl fun D =>
        j_iret D rt_629) (fun q D =>
        j_ild (pc := 8) D rfl rfl rfl fun D =>
        j_i2l (pc := 10) D rfl fun D =>
        j_is (pc := 11) (m := 520) (a := [(1, wI x4)]) (rest := []) D rfl rfl rfl rfl (fun v5 h4 e1 D =>
          have T := fj_run_ok _ _ _ _ _ _ H.1 e1
          have H := shp_st H T
          j_ifeq (pc := 14) D rfl (fun q =>
            have D : fk_D 629 [(23, none, .bipush (-2), 2, 0, (-2), 0), (25, none, .ireturn, 1, 0, 0, 0)] := fq_of2 cd_629 ow_629 cl_629 rfl (pc := 23) (by decide +kernel)
            j_bp (pc := 23) D rfl fun D =>
            j_iret D rt_629) (fun q D =>
            j_ildn (pc := 17) D rfl rfl rfl fun D =>
            j_ild (pc := 18) D rfl rfl rfl fun D =>
            j_ile (pc := 20) D rfl (fun q D =>
              j_bp (pc := 23) D rfl fun D =>
              j_iret D rt_629) (fun q =>
              have D : fk_D 629 [(26, none, .aload_n 0, 1, 0, 0, 0), (27, none, .iload_n 1, 1, 0, 0, 0), (28, none, .iload_n 2, 1, 0, 0, 0), (29, none, .invokevirtual 1129, 3, 2, 446, 1), (32, none, .ifCond .ne 6, 3, 38, 0, 0), (35, none, .bipush (-4), 2, 0, (-4), 0), (37, none, .ireturn, 1, 0, 0, 0)] := fq_of2 cd_629 ow_629 cl_629 rfl (pc := 26) (by decide +kernel)
              j_aldn (pc := 26) D rfl rfl rfl fun D =>
              j_ildn (pc := 27) D rfl rfl rfl fun D =>
              j_ildn (pc := 28) D rfl rfl rfl fun D =>
              j_iv (pc := 29) (m := 630) (dd := 446) (a := [(0, x1), (0, x2)]) (rest := []) D rfl rfl rfl rfl rfl (by decide) (s0_602 H) (by decide +kernel) (fun v8 h7 e1 D =>
                have T := fj_run_ok _ _ _ _ _ _ H.1 e1
                have H := shp_st H T
                j_ifne (pc := 32) D rfl (fun q D =>
                  j_bp (pc := 35) D rfl fun D =>
                  j_iret D rt_629) (fun q =>
                  have D : fk_D 629 [(38, none, .aload_n 0, 1, 0, 0, 0), (39, none, .iload_n 1, 1, 0, 0, 0), (40, none, .iload_n 2, 1, 0, 0, 0), (41, none, .iload_n 3, 1, 0, 0, 0), (42, none, .iload 4, 2, 0, 0, 0), (44, none, .iload 5, 2, 0, 0, 0), (46, none, .invokevirtual 1132, 3, 5, 447, 0), (49, none, .aload_n 0, 1, 0, 0, 0), (50, none, .getfield 878, 3, 468, 129, 10), (53, none, .ireturn, 1, 0, 0, 0)] := fq_of2 cd_629 ow_629 cl_629 rfl (pc := 38) (by decide +kernel)
                  j_aldn (pc := 38) D rfl rfl rfl fun D =>
                  j_ildn (pc := 39) D rfl rfl rfl fun D =>
                  j_ildn (pc := 40) D rfl rfl rfl fun D =>
                  j_ildn (pc := 41) D rfl rfl rfl fun D =>
                  j_ild (pc := 42) D rfl rfl rfl fun D =>
                  j_ild (pc := 44) D rfl rfl rfl fun D =>
                  j_ivv (pc := 46) (m := 631) (dd := 447) (a := [(0, x1), (0, x2), (0, x3), (0, x4), (0, x5)]) (rest := []) D rfl rfl rfl rfl rfl (by decide) (s0_602 H) (by decide +kernel) (fun h10 e1 D =>
                    have T := fj_run_ok _ _ _ _ _ _ H.1 e1
                    have H := shp_st H T
                    j_aldn (pc := 49) D rfl rfl rfl fun D =>
                    j_gf (pc := 50) (a := 602) D rfl rfl (by decide) rfl (s0_602 H) rfl fun D =>
                    j_iret D rt_629) (fun q12 h10 e1 =>
                    j_tx (hx_629 _)))) (fun q9 h7 e1 =>
                j_tx (hx_629 _))))) (fun q6 h4 e1 =>
          j_tx (hx_629 _)))) (fun q3 h1 e1 =>
      j_tx (hx_629 _))
/-! 630 StatuteHouseModel.hasRoom(II)Z -/
theorem cd_630 : fi_code 630 = prog_69_method_149_code := rfl
theorem hx_630 : ∀ pc, fi_hat 630 pc = none := fun pc => by unfold fi_hat; rw [show fi_hh 630 = [] from rfl]; rfl
theorem rt_630 : fi_ret 630 = some .boolean := rfl
theorem nl_630 : fi_nl 630 = 5 := rfl
theorem ow_630 : fi_ow 630 = 29 := rfl
theorem cl_630 : fj_cutT.getD 630 [] = [(5, [0, 1, 2, 3, 4]), (41, [0, 1, 2, 4]), (42, [0, 1, 2, 4])] := rfl
theorem cut_630_5 : fj_cut 630 5 = some [0, 1, 2, 3, 4] := by decide +kernel
noncomputable def c_630_5 (d : Nat) (x1 x2 x3 x4 : Int) (h : fi_H) : fk_R := gG (fj_run d) 630 5 [(0, (4, 602)), (1, (0, x1)), (2, (0, x2)), (3, (0, x3)), (4, (0, x4))] [] h
theorem cut_630_41 : fj_cut 630 41 = some [0, 1, 2, 4] := by decide +kernel
noncomputable def c_630_41 (d : Nat) (x1 x2 x4 s0 : Int) (h : fi_H) : fk_R := gG (fj_run d) 630 41 [(0, (4, 602)), (1, (0, x1)), (2, (0, x2)), (4, (0, x4))] [(0, s0)] h
theorem cut_630_42 : fj_cut 630 42 = some [0, 1, 2, 4] := by decide +kernel
noncomputable def c_630_42 (d : Nat) (x1 x2 x4 s0 s1 : Int) (h : fi_H) : fk_R := gG (fj_run d) 630 42 [(0, (4, 602)), (1, (0, x1)), (2, (0, x2)), (4, (0, x4))] [(0, s1), (0, s0)] h
theorem e_630_5 (d : Nat) (x1 x2 x3 x4 : Int) {h : fi_H} (H : Shp h) : c_630_5 d x1 x2 x3 x4 h =
  if x4 < h 468 602 0 then
    if 0 ≤ x4 ∧ x4 < 500 then
    if h 10 651 x4.toNat = x1 then
      if h 10 652 x4.toNat = x2 then
        c_630_42 d x1 x2 x4 x3 1 h
      else
        c_630_41 d x1 x2 x4 x3 h
    else
      c_630_41 d x1 x2 x4 x3 h
    else none
  else
    if h 468 602 0 < 500 then
      if x3 < 16 then
        some (.inl (some (0, 1)), h)
      else
        some (.inl (some (0, 0)), h)
    else
      some (.inl (some (0, 0)), h) := by
  unfold c_630_5
  exact
    have D : fk_D 630 [(5, some [0, 1, 2, 3, 4], .iload 4, 2, 0, 0, 0), (7, none, .aload_n 0, 1, 0, 0, 0), (8, none, .getfield 878, 3, 468, 129, 10), (11, none, .if_icmp .ge 39, 3, 50, 0, 0), (14, none, .iload_n 3, 1, 0, 0, 0), (15, none, .aload_n 0, 1, 0, 0, 0), (16, none, .getfield 172, 3, 460, 129, 12), (19, none, .iload 4, 2, 0, 0, 0), (21, none, .iaload, 1, 0, 0, 0), (22, none, .iload_n 1, 1, 0, 0, 0), (23, none, .if_icmp .ne 18, 3, 41, 0, 0), (26, none, .aload_n 0, 1, 0, 0, 0), (27, none, .getfield 175, 3, 461, 129, 12), (30, none, .iload 4, 2, 0, 0, 0), (32, none, .iaload, 1, 0, 0, 0), (33, none, .iload_n 2, 1, 0, 0, 0), (34, none, .if_icmp .ne 7, 3, 41, 0, 0), (37, none, .iconst 1, 1, 0, 1, 0), (38, none, .goto 4, 3, 42, 0, 0)] := fq_of2 cd_630 ow_630 cl_630 rfl (pc := 5) (by decide +kernel)
    j_ild (pc := 5) D rfl rfl rfl fun D =>
    j_aldn (pc := 7) D rfl rfl rfl fun D =>
    j_gf (pc := 8) (a := 602) D rfl rfl (by decide) rfl (s0_602 H) rfl fun D =>
    j_ige (pc := 11) D rfl (fun q D =>
      j_ildn (pc := 14) D rfl rfl rfl fun D =>
      j_aldn (pc := 15) D rfl rfl rfl fun D =>
      j_gfc (pc := 16) (a := 602) D rfl rfl (by decide) rfl (s0_602 H) rfl (sf_460_602 H) fun D =>
      j_ild (pc := 19) D rfl rfl rfl fun D =>
      j_al (pc := 21) (a := 651) (e := 10) D rfl rfl rfl (by decide) (s0_651 H) (s1_651 H) ⟨rfl, rfl, rfl⟩ rfl gn fun qb1 D =>
      j_ildn (pc := 22) D rfl rfl rfl fun D =>
      j_ine (pc := 23) D rfl (fun q D =>
        j_aldn (pc := 26) D rfl rfl rfl fun D =>
        j_gfc (pc := 27) (a := 602) D rfl rfl (by decide) rfl (s0_602 H) rfl (sf_461_602 H) fun D =>
        j_ild (pc := 30) D rfl rfl rfl fun D =>
        j_al (pc := 32) (a := 652) (e := 10) D rfl rfl rfl (by decide) (s0_652 H) (s1_652 H) ⟨rfl, rfl, rfl⟩ rfl (gy qb1) fun q D =>
        j_ildn (pc := 33) D rfl rfl rfl fun D =>
        j_ine (pc := 34) D rfl (fun q D =>
          j_ic (pc := 37) D rfl fun D =>
          j_goto (pc := 38) D rfl <|
          fk_jump cut_630_42 rfl rfl) (fun q =>
          fk_jump cut_630_41 rfl rfl)) (fun q =>
        fk_jump cut_630_41 rfl rfl)) (fun q =>
      have D : fk_D 630 [(50, none, .aload_n 0, 1, 0, 0, 0), (51, none, .getfield 878, 3, 468, 129, 10), (54, none, .sipush 500, 3, 0, 500, 0), (57, none, .if_icmp .ge 13, 3, 70, 0, 0), (60, none, .iload_n 3, 1, 0, 0, 0), (61, none, .bipush 16, 2, 0, 16, 0), (63, none, .if_icmp .ge 7, 3, 70, 0, 0), (66, none, .iconst 1, 1, 0, 1, 0), (67, none, .goto 4, 3, 71, 0, 0)] := fq_of2 cd_630 ow_630 cl_630 rfl (pc := 50) (by decide +kernel)
      j_aldn (pc := 50) D rfl rfl rfl fun D =>
      j_gf (pc := 51) (a := 602) D rfl rfl (by decide) rfl (s0_602 H) rfl fun D =>
      j_sp (pc := 54) D rfl fun D =>
      j_ige (pc := 57) D rfl (fun q D =>
        j_ildn (pc := 60) D rfl rfl rfl fun D =>
        j_bp (pc := 61) D rfl fun D =>
        j_ige (pc := 63) D rfl (fun q D =>
          j_ic (pc := 66) D rfl fun D =>
          j_goto (pc := 67) D rfl <|
          have D : fk_D 630 [(71, none, .ireturn, 1, 0, 0, 0)] := fq_of2 cd_630 ow_630 cl_630 rfl (pc := 71) (by decide +kernel)
          j_zret D rt_630 (gy (by decide))) (fun q =>
          have D : fk_D 630 [(70, none, .iconst 0, 1, 0, 0, 0), (71, none, .ireturn, 1, 0, 0, 0)] := fq_of2 cd_630 ow_630 cl_630 rfl (pc := 70) (by decide +kernel)
          j_ic (pc := 70) D rfl fun D =>
          j_zret D rt_630 (gy (by decide)))) (fun q =>
        have D : fk_D 630 [(70, none, .iconst 0, 1, 0, 0, 0), (71, none, .ireturn, 1, 0, 0, 0)] := fq_of2 cd_630 ow_630 cl_630 rfl (pc := 70) (by decide +kernel)
        j_ic (pc := 70) D rfl fun D =>
        j_zret D rt_630 (gy (by decide))))
theorem e_630_41 (d : Nat) (x1 x2 x4 s0 : Int) {h : fi_H} (H : Shp h) : c_630_41 d x1 x2 x4 s0 h =
  c_630_42 d x1 x2 x4 s0 0 h := by
  unfold c_630_41
  exact
    have D : fk_D 630 [(41, some [0, 1, 2, 4], .iconst 0, 1, 0, 0, 0)] := fq_of2 cd_630 ow_630 cl_630 rfl (pc := 41) (by decide +kernel)
    j_ic (pc := 41) D rfl fun D =>
    fk_jump cut_630_42 rfl rfl
theorem e_630_42 (d : Nat) (x1 x2 x4 s0 s1 : Int) {h : fi_H} (H : Shp h) : c_630_42 d x1 x2 x4 s0 s1 h =
  c_630_5 d x1 x2 (wI (s0 + s1)) (wI (x4 + 1)) h := by
  unfold c_630_42
  exact
    have D : fk_D 630 [(42, some [0, 1, 2, 4], .iadd, 1, 0, 0, 0), (43, none, .istore_n 3, 1, 0, 0, 0), (44, none, .iinc 4 1, 3, 0, 1, 0), (47, none, .goto (-42), 3, 5, 0, 0)] := fq_of2 cd_630 ow_630 cl_630 rfl (pc := 42) (by decide +kernel)
    j_iadd (pc := 42) D rfl fun D =>
    j_istn (pc := 43) (L' := [(3, (0, wI (s0 + s1))), (0, (4, 602)), (1, (0, x1)), (2, (0, x2)), (4, (0, x4))]) D rfl nl_630 rfl rfl fun D =>
    j_inc (pc := 44) (L' := [(4, (0, wI (x4 + 1))), (3, (0, wI (s0 + s1))), (0, (4, 602)), (1, (0, x1)), (2, (0, x2))]) D rfl rfl rfl (by decide +kernel) rfl fun D =>
    j_goto (pc := 47) D rfl <|
    fk_jump cut_630_5 rfl rfl
theorem m_630 (d : Nat) (x1 x2 : Int) {h : fi_H} (H : Shp h) : fj_run (d + 1) 630 h [(4, 602), (0, x1), (0, x2)] =
  c_630_5 d x1 x2 0 0 h := by
  rw [fj_run_eq d (by decide) h [(4, 602), (0, x1), (0, x2)] (Nat.le_of_ble_eq_true (by rw [nl_630]; rfl))]
  show gG (fj_run d) 630 0 [(0, (4, 602)), (1, (0, x1)), (2, (0, x2))] [] h = _
  exact
    have D : fk_D 630 [(0, none, .iconst 0, 1, 0, 0, 0), (1, none, .istore_n 3, 1, 0, 0, 0), (2, none, .iconst 0, 1, 0, 0, 0), (3, none, .istore 4, 2, 0, 0, 0)] := fq_of2 cd_630 ow_630 cl_630 rfl (pc := 0) (by decide +kernel)
    j_ic (pc := 0) D rfl fun D =>
    j_istn (pc := 1) (L' := [(3, (0, 0)), (0, (4, 602)), (1, (0, x1)), (2, (0, x2))]) D rfl nl_630 rfl rfl fun D =>
    j_ic (pc := 2) D rfl fun D =>
    j_ist (pc := 3) (L' := [(4, (0, 0)), (3, (0, 0)), (0, (4, 602)), (1, (0, x1)), (2, (0, x2))]) D rfl nl_630 rfl rfl fun D =>
    fk_jump cut_630_5 rfl rfl
/-! 631 StatuteHouseModel.addRecord(IIIIZ)V -/
theorem cd_631 : fi_code 631 = prog_69_method_150_code := rfl
theorem hx_631 : ∀ pc, fi_hat 631 pc = none := fun pc => by unfold fi_hat; rw [show fi_hh 631 = [] from rfl]; rfl
theorem rt_631 : fi_ret 631 = none := rfl
theorem nl_631 : fi_nl 631 = 7 := rfl
theorem ow_631 : fi_ow 631 = 29 := rfl
theorem cl_631 : fj_cutT.getD 631 [] = [(61, [0, 5, 6])] := rfl
theorem cut_631_61 : fj_cut 631 61 = some [0, 5, 6] := by decide +kernel
noncomputable def c_631_61 (d : Nat) (x5 x6 : Int) (h : fi_H) : fk_R := gG (fj_run d) 631 61 [(0, (4, 602)), (5, (0, x5)), (6, (0, x6))] [] h
theorem e_631_61 (d : Nat) (x5 x6 : Int) {h : fi_H} (H : Shp h) : c_631_61 d x5 x6 h =
  if 0 ≤ x6 ∧ x6 < 500 then
  lt_ (fi_upd h 10 657 x6.toNat (h 449 602 0)) fun h1 =>
  if fi_rg 4 x5 = true then
  lt_ (fi_upd h1 4 658 x6.toNat x5) fun h3 =>
  lt_ (fi_upd h3 468 602 0 (wI ((h3 468 602 0) + 1))) fun h4 =>
  some (.inl none, h4)
  else none
  else none := by
  unfold c_631_61
  exact
    have D : fk_D 631 [(61, some [0, 5, 6], .aload_n 0, 1, 0, 0, 0), (62, none, .getfield 190, 3, 466, 129, 12), (65, none, .iload 6, 2, 0, 0, 0), (67, none, .aload_n 0, 1, 0, 0, 0), (68, none, .getfield 141, 3, 449, 129, 10), (71, none, .iastore, 1, 0, 0, 0), (72, none, .aload_n 0, 1, 0, 0, 0), (73, none, .getfield 193, 3, 467, 129, 12), (76, none, .iload 6, 2, 0, 0, 0), (78, none, .iload 5, 2, 0, 0, 0), (80, none, .bastore, 1, 0, 0, 0), (81, none, .aload_n 0, 1, 0, 0, 0), (82, none, .dup, 1, 0, 0, 0), (83, none, .getfield 878, 3, 468, 129, 10), (86, none, .iconst 1, 1, 0, 1, 0), (87, none, .iadd, 1, 0, 0, 0), (88, none, .putfield 878, 3, 468, 129, 10), (91, none, .return_, 1, 0, 0, 0)] := fq_of2 cd_631 ow_631 cl_631 rfl (pc := 61) (by decide +kernel)
    j_aldn (pc := 61) D rfl rfl rfl fun D =>
    j_gfc (pc := 62) (a := 602) D rfl rfl (by decide) rfl (s0_602 H) rfl (sf_466_602 H) fun D =>
    j_ild (pc := 65) D rfl rfl rfl fun D =>
    j_aldn (pc := 67) D rfl rfl rfl fun D =>
    j_gf (pc := 68) (a := 602) D rfl rfl (by decide) rfl (s0_602 H) rfl fun D =>
    j_as (pc := 71) (a := 657) (e := 10) D rfl ⟨rfl, rfl⟩ rfl (by decide) (s0_657 H) (s1_657 H) ⟨rfl, rfl, rfl⟩ rfl gn (gy rfl) fun h1 eh1 S qb2 D =>
    have T := fj_hs_ok H.1 S
    have H := shp_st H T
    j_aldn (pc := 72) D rfl rfl rfl fun D =>
    j_gfc (pc := 73) (a := 602) D rfl rfl (by decide) rfl (s0_602 H) rfl (sf_467_602 H) fun D =>
    j_ild (pc := 76) D rfl rfl rfl fun D =>
    j_ild (pc := 78) D rfl rfl rfl fun D =>
    j_as (pc := 80) (a := 658) (e := 4) D rfl ⟨rfl, rfl⟩ rfl (by decide) (s0_658 H) (s1_658 H) ⟨rfl, rfl, rfl⟩ rfl (gy qb2) gn fun h3 eh3 S q D =>
    have T := fj_hs_ok H.1 S
    have H := shp_st H T
    j_aldn (pc := 81) D rfl rfl rfl fun D =>
    j_sh (pc := 82) D rfl rfl rfl fun D =>
    j_gf (pc := 83) (a := 602) D rfl rfl (by decide) rfl (s0_602 H) rfl fun D =>
    j_ic (pc := 86) D rfl fun D =>
    j_iadd (pc := 87) D rfl fun D =>
    j_pf (pc := 88) (a := 602) D rfl rfl rfl (s0_602 H) rfl rfl (gy (by decide)) (gy rfl) fun h4 eh4 S D =>
    have T := fj_hs_ok H.1 S
    have H := shp_st H T
    j_vret D rt_631
theorem m_631 (d : Nat) (x1 x2 x3 x4 x5 : Int) {h : fi_H} (H : Shp h) : fj_run (d + 1) 631 h [(4, 602), (0, x1), (0, x2), (0, x3), (0, x4), (0, x5)] =
  if 0 ≤ h 468 602 0 ∧ h 468 602 0 < 500 then
  lt_ (fi_upd h 10 651 (h 468 602 0).toNat x1) fun h1 =>
  lt_ (fi_upd h1 10 652 (h 468 602 0).toNat x2) fun h3 =>
  lt_ (fi_upd h3 11 653 (h 468 602 0).toNat (h3 509 602 0)) fun h4 =>
  lt_ (fi_upd h4 11 654 (h 468 602 0).toNat (h4 510 602 0)) fun h5 =>
  lt_ (fi_upd h5 10 655 (h 468 602 0).toNat x3) fun h6 =>
  lt_ (fi_upd h6 10 656 (h 468 602 0).toNat x4) fun h7 =>
  c_631_61 d x5 (h 468 602 0) h7
  else none := by
  rw [fj_run_eq d (by decide) h [(4, 602), (0, x1), (0, x2), (0, x3), (0, x4), (0, x5)] (Nat.le_of_ble_eq_true (by rw [nl_631]; rfl))]
  show gG (fj_run d) 631 0 [(0, (4, 602)), (1, (0, x1)), (2, (0, x2)), (3, (0, x3)), (4, (0, x4)), (5, (0, x5))] [] h = _
  exact
    have D : fk_D 631 [(0, none, .aload_n 0, 1, 0, 0, 0), (1, none, .getfield 878, 3, 468, 129, 10), (4, none, .istore 6, 2, 0, 0, 0), (6, none, .aload_n 0, 1, 0, 0, 0), (7, none, .getfield 172, 3, 460, 129, 12), (10, none, .iload 6, 2, 0, 0, 0), (12, none, .iload_n 1, 1, 0, 0, 0), (13, none, .iastore, 1, 0, 0, 0), (14, none, .aload_n 0, 1, 0, 0, 0), (15, none, .getfield 175, 3, 461, 129, 12), (18, none, .iload 6, 2, 0, 0, 0), (20, none, .iload_n 2, 1, 0, 0, 0), (21, none, .iastore, 1, 0, 0, 0), (22, none, .aload_n 0, 1, 0, 0, 0), (23, none, .getfield 178, 3, 462, 129, 12), (26, none, .iload 6, 2, 0, 0, 0), (28, none, .aload_n 0, 1, 0, 0, 0), (29, none, .getfield 1110, 3, 509, 129, 11), (32, none, .lastore, 1, 0, 0, 0), (33, none, .aload_n 0, 1, 0, 0, 0)] := fq_of2 cd_631 ow_631 cl_631 rfl (pc := 0) (by decide +kernel)
    j_aldn (pc := 0) D rfl rfl rfl fun D =>
    j_gf (pc := 1) (a := 602) D rfl rfl (by decide) rfl (s0_602 H) rfl fun D =>
    j_ist (pc := 4) (L' := [(6, (0, h 468 602 0)), (0, (4, 602)), (1, (0, x1)), (2, (0, x2)), (3, (0, x3)), (4, (0, x4)), (5, (0, x5))]) D rfl nl_631 rfl rfl fun D =>
    j_aldn (pc := 6) D rfl rfl rfl fun D =>
    j_gfc (pc := 7) (a := 602) D rfl rfl (by decide) rfl (s0_602 H) rfl (sf_460_602 H) fun D =>
    j_ild (pc := 10) D rfl rfl rfl fun D =>
    j_ildn (pc := 12) D rfl rfl rfl fun D =>
    j_as (pc := 13) (a := 651) (e := 10) D rfl ⟨rfl, rfl⟩ rfl (by decide) (s0_651 H) (s1_651 H) ⟨rfl, rfl, rfl⟩ rfl gn (gy rfl) fun h1 eh1 S qb2 D =>
    have T := fj_hs_ok H.1 S
    have H := shp_st H T
    j_aldn (pc := 14) D rfl rfl rfl fun D =>
    j_gfc (pc := 15) (a := 602) D rfl rfl (by decide) rfl (s0_602 H) rfl (sf_461_602 H) fun D =>
    j_ild (pc := 18) D rfl rfl rfl fun D =>
    j_ildn (pc := 20) D rfl rfl rfl fun D =>
    j_as (pc := 21) (a := 652) (e := 10) D rfl ⟨rfl, rfl⟩ rfl (by decide) (s0_652 H) (s1_652 H) ⟨rfl, rfl, rfl⟩ rfl (gy qb2) (gy rfl) fun h3 eh3 S q D =>
    have T := fj_hs_ok H.1 S
    have H := shp_st H T
    j_aldn (pc := 22) D rfl rfl rfl fun D =>
    j_gfc (pc := 23) (a := 602) D rfl rfl (by decide) rfl (s0_602 H) rfl (sf_462_602 H) fun D =>
    j_ild (pc := 26) D rfl rfl rfl fun D =>
    j_aldn (pc := 28) D rfl rfl rfl fun D =>
    j_gf (pc := 29) (a := 602) D rfl rfl (by decide) rfl (s0_602 H) rfl fun D =>
    j_as (pc := 32) (a := 653) (e := 11) D rfl ⟨rfl, rfl⟩ rfl (by decide) (s0_653 H) (s1_653 H) ⟨rfl, rfl, rfl⟩ rfl (gy qb2) (gy rfl) fun h4 eh4 S q D =>
    have T := fj_hs_ok H.1 S
    have H := shp_st H T
    j_aldn (pc := 33) D rfl rfl rfl fun D =>
    have D : fk_D 631 [(34, none, .getfield 181, 3, 463, 129, 12), (37, none, .iload 6, 2, 0, 0, 0), (39, none, .aload_n 0, 1, 0, 0, 0), (40, none, .getfield 1113, 3, 510, 129, 11), (43, none, .lastore, 1, 0, 0, 0), (44, none, .aload_n 0, 1, 0, 0, 0), (45, none, .getfield 184, 3, 464, 129, 12), (48, none, .iload 6, 2, 0, 0, 0), (50, none, .iload_n 3, 1, 0, 0, 0), (51, none, .iastore, 1, 0, 0, 0), (52, none, .aload_n 0, 1, 0, 0, 0), (53, none, .getfield 187, 3, 465, 129, 12), (56, none, .iload 6, 2, 0, 0, 0), (58, none, .iload 4, 2, 0, 0, 0), (60, none, .iastore, 1, 0, 0, 0)] := fq_of2 cd_631 ow_631 cl_631 rfl (pc := 34) (by decide +kernel)
    j_gfc (pc := 34) (a := 602) D rfl rfl (by decide) rfl (s0_602 H) rfl (sf_463_602 H) fun D =>
    j_ild (pc := 37) D rfl rfl rfl fun D =>
    j_aldn (pc := 39) D rfl rfl rfl fun D =>
    j_gf (pc := 40) (a := 602) D rfl rfl (by decide) rfl (s0_602 H) rfl fun D =>
    j_as (pc := 43) (a := 654) (e := 11) D rfl ⟨rfl, rfl⟩ rfl (by decide) (s0_654 H) (s1_654 H) ⟨rfl, rfl, rfl⟩ rfl (gy qb2) (gy rfl) fun h5 eh5 S q D =>
    have T := fj_hs_ok H.1 S
    have H := shp_st H T
    j_aldn (pc := 44) D rfl rfl rfl fun D =>
    j_gfc (pc := 45) (a := 602) D rfl rfl (by decide) rfl (s0_602 H) rfl (sf_464_602 H) fun D =>
    j_ild (pc := 48) D rfl rfl rfl fun D =>
    j_ildn (pc := 50) D rfl rfl rfl fun D =>
    j_as (pc := 51) (a := 655) (e := 10) D rfl ⟨rfl, rfl⟩ rfl (by decide) (s0_655 H) (s1_655 H) ⟨rfl, rfl, rfl⟩ rfl (gy qb2) (gy rfl) fun h6 eh6 S q D =>
    have T := fj_hs_ok H.1 S
    have H := shp_st H T
    j_aldn (pc := 52) D rfl rfl rfl fun D =>
    j_gfc (pc := 53) (a := 602) D rfl rfl (by decide) rfl (s0_602 H) rfl (sf_465_602 H) fun D =>
    j_ild (pc := 56) D rfl rfl rfl fun D =>
    j_ild (pc := 58) D rfl rfl rfl fun D =>
    j_as (pc := 60) (a := 656) (e := 10) D rfl ⟨rfl, rfl⟩ rfl (by decide) (s0_656 H) (s1_656 H) ⟨rfl, rfl, rfl⟩ rfl (gy qb2) (gy rfl) fun h7 eh7 S q D =>
    have T := fj_hs_ok H.1 S
    have H := shp_st H T
    fk_jump cut_631_61 rfl rfl
/-! 632 StatuteHouseModel.withdraw(IIII)I -/
theorem cd_632 : fi_code 632 = prog_69_method_147_code := rfl
theorem hx_632 : ∀ pc, fi_hat 632 pc = none := fun pc => by unfold fi_hat; rw [show fi_hh 632 = [] from rfl]; rfl
theorem rt_632 : fi_ret 632 = some .int := rfl
theorem nl_632 : fi_nl 632 = 5 := rfl
theorem ow_632 : fi_ow 632 = 29 := rfl
theorem cl_632 : fj_cutT.getD 632 [] = [] := rfl
theorem m_632 (d : Nat) (x1 x2 x3 x4 : Int) {h : fi_H} (H : Shp h) : fj_run (d + 1) 632 h [(4, 602), (0, x1), (0, x2), (0, x3), (0, x4)] =
  ca_ (fj_run d 572 h [(4, 602), (0, x1)]) 0
    (fun v2 h1 =>
    if v2 = 0 then
      some (.inl (some (0, (-1))), h1)
    else
      ca_ (fj_run d 627 h1 [(4, 602), (0, x2)]) 0
        (fun v5 h4 =>
        if v5 = 0 then
          some (.inl (some (0, (-1))), h4)
        else
          lt_ (fi_upd h4 509 602 0 0) fun h7 =>
          lt_ (fi_upd h7 510 602 0 0) fun h8 =>
          ca_ (fj_run d 629 h8 [(4, 602), (0, x1), (0, x2), (0, x3), (0, x4), (0, 1)]) 0
            (fun v10 h9 =>
            some (.inl (some (0, v10)), h9))
            (fun q11 h9 => tx_ q11 h9))
        (fun q6 h4 => tx_ q6 h4))
    (fun q3 h1 => tx_ q3 h1) := by
  rw [fj_run_eq d (by decide) h [(4, 602), (0, x1), (0, x2), (0, x3), (0, x4)] (Nat.le_of_ble_eq_true (by rw [nl_632]; rfl))]
  show gG (fj_run d) 632 0 [(0, (4, 602)), (1, (0, x1)), (2, (0, x2)), (3, (0, x3)), (4, (0, x4))] [] h = _
  exact
    have D : fk_D 632 [(0, none, .aload_n 0, 1, 0, 0, 0), (1, none, .iload_n 1, 1, 0, 0, 0), (2, none, .invokevirtual 1076, 3, 1, 439, 1), (5, none, .ifCond .eq 11, 3, 16, 0, 0), (8, none, .aload_n 0, 1, 0, 0, 0), (9, none, .iload_n 2, 1, 0, 0, 0), (10, none, .invokevirtual 1118, 3, 1, 443, 1), (13, none, .ifCond .ne 5, 3, 18, 0, 0), (16, none, .iconst (-1), 1, 0, (-1), 0), (17, none, .ireturn, 1, 0, 0, 0)] := fq_of2 cd_632 ow_632 cl_632 rfl (pc := 0) (by decide +kernel)
    j_aldn (pc := 0) D rfl rfl rfl fun D =>
    j_ildn (pc := 1) D rfl rfl rfl fun D =>
    j_iv (pc := 2) (m := 572) (dd := 439) (a := [(0, x1)]) (rest := []) D rfl rfl rfl rfl rfl (by decide) (s0_602 H) (by decide +kernel) (fun v2 h1 e1 D =>
      have T := fj_run_ok _ _ _ _ _ _ H.1 e1
      have H := shp_st H T
      j_ifeq (pc := 5) D rfl (fun q =>
        have D : fk_D 632 [(16, none, .iconst (-1), 1, 0, (-1), 0), (17, none, .ireturn, 1, 0, 0, 0)] := fq_of2 cd_632 ow_632 cl_632 rfl (pc := 16) (by decide +kernel)
        j_ic (pc := 16) D rfl fun D =>
        j_iret D rt_632) (fun q D =>
        j_aldn (pc := 8) D rfl rfl rfl fun D =>
        j_ildn (pc := 9) D rfl rfl rfl fun D =>
        j_iv (pc := 10) (m := 627) (dd := 443) (a := [(0, x2)]) (rest := []) D rfl rfl rfl rfl rfl (by decide) (s0_602 H) (by decide +kernel) (fun v5 h4 e1 D =>
          have T := fj_run_ok _ _ _ _ _ _ H.1 e1
          have H := shp_st H T
          j_ifne (pc := 13) D rfl (fun q D =>
            j_ic (pc := 16) D rfl fun D =>
            j_iret D rt_632) (fun q =>
            have D : fk_D 632 [(18, none, .aload_n 0, 1, 0, 0, 0), (19, none, .lconst 0, 1, 0, 0, 0), (20, none, .putfield 1110, 3, 509, 129, 11), (23, none, .aload_n 0, 1, 0, 0, 0), (24, none, .lconst 0, 1, 0, 0, 0), (25, none, .putfield 1113, 3, 510, 129, 11), (28, none, .aload_n 0, 1, 0, 0, 0), (29, none, .iload_n 1, 1, 0, 0, 0), (30, none, .iload_n 2, 1, 0, 0, 0), (31, none, .iload_n 3, 1, 0, 0, 0), (32, none, .iload 4, 2, 0, 0, 0), (34, none, .iconst 1, 1, 0, 1, 0), (35, none, .invokevirtual 1125, 3, 5, 445, 1), (38, none, .ireturn, 1, 0, 0, 0)] := fq_of2 cd_632 ow_632 cl_632 rfl (pc := 18) (by decide +kernel)
            j_aldn (pc := 18) D rfl rfl rfl fun D =>
            j_c0 (pc := 19) (v := (1, 0)) D rfl rfl (by decide +kernel) fun D =>
            j_pf (pc := 20) (a := 602) D rfl rfl rfl (s0_602 H) rfl rfl (gy (by decide)) (gy rfl) fun h7 eh7 S D =>
            have T := fj_hs_ok H.1 S
            have H := shp_st H T
            j_aldn (pc := 23) D rfl rfl rfl fun D =>
            j_c0 (pc := 24) (v := (1, 0)) D rfl rfl (by decide +kernel) fun D =>
            j_pf (pc := 25) (a := 602) D rfl rfl rfl (s0_602 H) rfl rfl (gy (by decide)) (gy rfl) fun h8 eh8 S D =>
            have T := fj_hs_ok H.1 S
            have H := shp_st H T
            j_aldn (pc := 28) D rfl rfl rfl fun D =>
            j_ildn (pc := 29) D rfl rfl rfl fun D =>
            j_ildn (pc := 30) D rfl rfl rfl fun D =>
            j_ildn (pc := 31) D rfl rfl rfl fun D =>
            j_ild (pc := 32) D rfl rfl rfl fun D =>
            j_ic (pc := 34) D rfl fun D =>
            j_iv (pc := 35) (m := 629) (dd := 445) (a := [(0, x1), (0, x2), (0, x3), (0, x4), (0, 1)]) (rest := []) D rfl rfl rfl rfl rfl (by decide) (s0_602 H) (by decide +kernel) (fun v10 h9 e1 D =>
              have T := fj_run_ok _ _ _ _ _ _ H.1 e1
              have H := shp_st H T
              j_iret D rt_632) (fun q11 h9 e1 =>
              j_tx (hx_632 _)))) (fun q6 h4 e1 =>
          j_tx (hx_632 _)))) (fun q3 h1 e1 =>
      j_tx (hx_632 _))
/-! 633 StatuteHouseModel.facts()I -/
theorem cd_633 : fi_code 633 = prog_69_method_155_code := rfl
theorem rt_633 : fi_ret 633 = some .int := rfl
theorem nl_633 : fi_nl 633 = 3 := rfl
theorem ow_633 : fi_ow 633 = 29 := rfl
theorem cl_633 : fj_cutT.getD 633 [] = [(16, [0, 1])] := rfl
theorem cut_633_16 : fj_cut 633 16 = some [0, 1] := by decide +kernel
noncomputable def c_633_16 (d : Nat) (x1 s0 : Int) (h : fi_H) : fk_R := gG (fj_run d) 633 16 [(0, (4, 602)), (1, (0, x1))] [(4, s0)] h
theorem e_633_16 (d : Nat) (x1 s0 : Int) {h : fi_H} (H : Shp h) : c_633_16 d x1 s0 h =
  lt_ (fi_upd h 468 602 0 x1) fun h1 =>
  some (.inl (some (0, (-1))), h1) := by
  unfold c_633_16
  exact
    have D : fk_D 633 [(16, some [0, 1], .astore_n 2, 1, 0, 0, 0), (17, none, .aload_n 0, 1, 0, 0, 0), (18, none, .iload_n 1, 1, 0, 0, 0), (19, none, .putfield 878, 3, 468, 129, 10), (22, none, .iconst (-1), 1, 0, (-1), 0), (23, none, .ireturn, 1, 0, 0, 0)] := fq_of2 cd_633 ow_633 cl_633 rfl (pc := 16) (by decide +kernel)
    j_astn (pc := 16) (L' := [(2, (4, s0)), (0, (4, 602)), (1, (0, x1))]) D rfl nl_633 rfl rfl fun D =>
    j_aldn (pc := 17) D rfl rfl rfl fun D =>
    j_ildn (pc := 18) D rfl rfl rfl fun D =>
    j_pf (pc := 19) (a := 602) D rfl rfl rfl (s0_602 H) rfl rfl (gy (by decide)) (gy rfl) fun h1 eh1 S D =>
    have T := fj_hs_ok H.1 S
    have H := shp_st H T
    j_ic (pc := 22) D rfl fun D =>
    j_iret D rt_633
theorem m_633 (d : Nat) {h : fi_H} (H : Shp h) : fj_run (d + 1) 633 h [(4, 602)] =
  cv_ (fj_run d 486 h [(4, 602)])
    (fun h1 =>
    cv_ (fj_run d 634 h1 [(4, 602)])
      (fun h4 =>
      some (.inl (some (0, wI ((h4 468 602 0) - (h1 468 602 0)))), h4))
      (fun q6 h4 => tc_ 130 q6 h4 (c_633_16 d (h1 468 602 0) (q6 : Int) h4)))
    (fun q3 h1 => tx_ q3 h1) := by
  rw [fj_run_eq d (by decide) h [(4, 602)] (Nat.le_of_ble_eq_true (by rw [nl_633]; rfl))]
  show gG (fj_run d) 633 0 [(0, (4, 602))] [] h = _
  exact
    have D : fk_D 633 [(0, none, .aload_n 0, 1, 0, 0, 0), (1, none, .invokevirtual 649, 3, 0, 363, 0), (4, none, .aload_n 0, 1, 0, 0, 0), (5, none, .getfield 878, 3, 468, 129, 10), (8, none, .istore_n 1, 1, 0, 0, 0), (9, none, .aload_n 0, 1, 0, 0, 0), (10, none, .invokevirtual 1145, 3, 0, 451, 0), (13, none, .goto 11, 3, 24, 0, 0)] := fq_of2 cd_633 ow_633 cl_633 rfl (pc := 0) (by decide +kernel)
    j_aldn (pc := 0) D rfl rfl rfl fun D =>
    j_ivv (pc := 1) (m := 486) (dd := 363) (a := []) (rest := []) D rfl rfl rfl rfl rfl (by decide) (s0_602 H) (by decide +kernel) (fun h1 e1 D =>
      have T := fj_run_ok _ _ _ _ _ _ H.1 e1
      have H := shp_st H T
      j_aldn (pc := 4) D rfl rfl rfl fun D =>
      j_gf (pc := 5) (a := 602) D rfl rfl (by decide) rfl (s0_602 H) rfl fun D =>
      j_istn (pc := 8) (L' := [(1, (0, h1 468 602 0)), (0, (4, 602))]) D rfl nl_633 rfl rfl fun D =>
      j_aldn (pc := 9) D rfl rfl rfl fun D =>
      j_ivv (pc := 10) (m := 634) (dd := 451) (a := []) (rest := []) D rfl rfl rfl rfl rfl (by decide) (s0_602 H) (by decide +kernel) (fun h4 e1 D =>
        have T := fj_run_ok _ _ _ _ _ _ H.1 e1
        have H := shp_st H T
        j_goto (pc := 13) D rfl <|
        have D : fk_D 633 [(24, none, .aload_n 0, 1, 0, 0, 0), (25, none, .getfield 878, 3, 468, 129, 10), (28, none, .iload_n 1, 1, 0, 0, 0), (29, none, .isub, 1, 0, 0, 0), (30, none, .ireturn, 1, 0, 0, 0)] := fq_of2 cd_633 ow_633 cl_633 rfl (pc := 24) (by decide +kernel)
        j_aldn (pc := 24) D rfl rfl rfl fun D =>
        j_gf (pc := 25) (a := 602) D rfl rfl (by decide) rfl (s0_602 H) rfl fun D =>
        j_ildn (pc := 28) D rfl rfl rfl fun D =>
        j_isub (pc := 29) D rfl fun D =>
        j_iret D rt_633) (fun q6 h4 e1 =>
        j_tc_ (n := 130) (fk_at (cu := none) (by decide +kernel) rfl) (s := 9) (e := 13) (hp := 16) (ct := 9) (by decide +kernel) rfl (by decide +kernel) <|
        fk_jump cut_633_16 rfl rfl)) (fun q3 h1 e1 =>
      j_tx (by decide +kernel))
/-! 634 StatuteHouseModel.readFacts()V -/
theorem cd_634 : fi_code 634 = prog_69_method_151_code := rfl
theorem hx_634 : ∀ pc, fi_hat 634 pc = none := fun pc => by unfold fi_hat; rw [show fi_hh 634 = [] from rfl]; rfl
theorem rt_634 : fi_ret 634 = none := rfl
theorem nl_634 : fi_nl 634 = 11 := rfl
theorem ow_634 : fi_ow 634 = 29 := rfl
theorem cl_634 : fj_cutT.getD 634 [] = [(0, [0]), (64, [0, 2, 3]), (114, [0, 2, 3, 4]), (157, [0, 2, 3, 4, 5, 7, 10]), (172, [0, 2, 3, 4, 5, 7, 9, 10]), (195, [0, 2, 3, 4, 5, 7, 9]), (211, [0, 2, 3, 4, 5, 7, 9, 10])] := rfl
theorem cut_634_0 : fj_cut 634 0 = some [0] := by decide +kernel
noncomputable def c_634_0 (d : Nat) (h : fi_H) : fk_R := gG (fj_run d) 634 0 [(0, (4, 602))] [] h
theorem cut_634_64 : fj_cut 634 64 = some [0, 2, 3] := by decide +kernel
noncomputable def c_634_64 (d : Nat) (x2 x3 : Int) (h : fi_H) : fk_R := gG (fj_run d) 634 64 [(0, (4, 602)), (2, (0, x2)), (3, (0, x3))] [] h
theorem cut_634_114 : fj_cut 634 114 = some [0, 2, 3, 4] := by decide +kernel
noncomputable def c_634_114 (d : Nat) (x2 x3 x4 : Int) (h : fi_H) : fk_R := gG (fj_run d) 634 114 [(0, (4, 602)), (2, (0, x2)), (3, (0, x3)), (4, (0, x4))] [] h
theorem cut_634_157 : fj_cut 634 157 = some [0, 2, 3, 4, 5, 7, 10] := by decide +kernel
noncomputable def c_634_157 (d : Nat) (x2 x3 x4 x5 x7 x10 s0 s1 : Int) (h : fi_H) : fk_R := gG (fj_run d) 634 157 [(0, (4, 602)), (2, (0, x2)), (3, (0, x3)), (4, (0, x4)), (5, (1, x5)), (7, (1, x7)), (10, (0, x10))] [(0, s1), (4, s0)] h
theorem cut_634_172 : fj_cut 634 172 = some [0, 2, 3, 4, 5, 7, 9, 10] := by decide +kernel
noncomputable def c_634_172 (d : Nat) (x2 x3 x4 x5 x7 x9 x10 : Int) (h : fi_H) : fk_R := gG (fj_run d) 634 172 [(0, (4, 602)), (2, (0, x2)), (3, (0, x3)), (4, (0, x4)), (5, (1, x5)), (7, (1, x7)), (9, (0, x9)), (10, (0, x10))] [] h
theorem cut_634_195 : fj_cut 634 195 = some [0, 2, 3, 4, 5, 7, 9] := by decide +kernel
noncomputable def c_634_195 (d : Nat) (x2 x3 x4 x5 x7 x9 s0 s1 : Int) (h : fi_H) : fk_R := gG (fj_run d) 634 195 [(0, (4, 602)), (2, (0, x2)), (3, (0, x3)), (4, (0, x4)), (5, (1, x5)), (7, (1, x7)), (9, (0, x9))] [(0, s1), (4, s0)] h
theorem cut_634_211 : fj_cut 634 211 = some [0, 2, 3, 4, 5, 7, 9, 10] := by decide +kernel
noncomputable def c_634_211 (d : Nat) (x2 x3 x4 x5 x7 x9 x10 : Int) (h : fi_H) : fk_R := gG (fj_run d) 634 211 [(0, (4, 602)), (2, (0, x2)), (3, (0, x3)), (4, (0, x4)), (5, (1, x5)), (7, (1, x7)), (9, (0, x9)), (10, (0, x10))] [] h
theorem e_634_0 (d : Nat) {h : fi_H} (H : Shp h) : c_634_0 d h =
  if h 394 602 0 = 7 then
    some (.inl none, h)
  else
    ca_ (fj_run d 499 h [(4, 602), (0, 9)]) 0
      (fun v2 h1 =>
      cv_ (fj_run d 500 h1 [(4, 602), (0, v2), (0, 1), (0, h1 396 602 0)])
        (fun h4 =>
        cv_ (fj_run d 502 h4 [(4, 602)])
          (fun h7 =>
          ca_ (fj_run d 510 h7 [(4, 602), (1, 0), (1, wI (wI ((h7 459 602 0) - 1)))]) 1
            (fun v11 h10 =>
            ca_ (fj_run d 635 h10 [(4, 602)]) 0
              (fun v14 h13 =>
              ca_ (fj_run d 630 h13 [(4, 602), (0, wI v11), (0, v14)]) 0
                (fun v17 h16 =>
                cv_ (fj_run d 500 h16 [(4, 602), (0, v17), (0, 4), (0, h4 396 602 0)])
                  (fun h19 =>
                  c_634_64 d (wI v11) v14 h19)
                  (fun q21 h19 => tx_ q21 h19))
                (fun q18 h16 => tx_ q18 h16))
              (fun q15 h13 => tx_ q15 h13))
            (fun q12 h10 => tx_ q12 h10))
          (fun q9 h7 => tx_ q9 h7))
        (fun q6 h4 => tx_ q6 h4))
      (fun q3 h1 => tx_ q3 h1) := by
  unfold c_634_0
  exact
    have D : fk_D 634 [(0, some [0], .aload_n 0, 1, 0, 0, 0), (1, none, .getfield 513, 3, 394, 129, 10), (4, none, .bipush 7, 2, 0, 7, 0), (6, none, .if_icmp .eq 238, 3, 244, 0, 0), (9, none, .aload_n 0, 1, 0, 0, 0), (10, none, .aload_n 0, 1, 0, 0, 0), (11, none, .bipush 9, 2, 0, 9, 0), (13, none, .invokevirtual 570, 3, 1, 352, 1), (16, none, .iconst 1, 1, 0, 1, 0), (17, none, .aload_n 0, 1, 0, 0, 0), (18, none, .getfield 507, 3, 396, 129, 10), (21, none, .invokevirtual 557, 3, 3, 348, 0), (24, none, .aload_n 0, 1, 0, 0, 0), (25, none, .getfield 507, 3, 396, 129, 10), (28, none, .istore_n 1, 1, 0, 0, 0), (29, none, .aload_n 0, 1, 0, 0, 0), (30, none, .invokevirtual 567, 3, 0, 351, 0), (33, none, .aload_n 0, 1, 0, 0, 0), (34, none, .lconst 0, 1, 0, 0, 0), (35, none, .aload_n 0, 1, 0, 0, 0)] := fq_of2 cd_634 ow_634 cl_634 rfl (pc := 0) (by decide +kernel)
    j_aldn (pc := 0) D rfl rfl rfl fun D =>
    j_gf (pc := 1) (a := 602) D rfl rfl (by decide) rfl (s0_602 H) rfl fun D =>
    j_bp (pc := 4) D rfl fun D =>
    j_ieq (pc := 6) D rfl (fun q =>
      have D : fk_D 634 [(244, none, .return_, 1, 0, 0, 0)] := fq_of2 cd_634 ow_634 cl_634 rfl (pc := 244) (by decide +kernel)
      j_vret D rt_634) (fun q D =>
      j_aldn (pc := 9) D rfl rfl rfl fun D =>
      j_aldn (pc := 10) D rfl rfl rfl fun D =>
      j_bp (pc := 11) D rfl fun D =>
      j_iv (pc := 13) (m := 499) (dd := 352) (a := [(0, 9)]) (rest := [(4, 602)]) D rfl rfl rfl rfl rfl (by decide) (s0_602 H) (by decide +kernel) (fun v2 h1 e1 D =>
        have T := fj_run_ok _ _ _ _ _ _ H.1 e1
        have H := shp_st H T
        j_ic (pc := 16) D rfl fun D =>
        j_aldn (pc := 17) D rfl rfl rfl fun D =>
        j_gf (pc := 18) (a := 602) D rfl rfl (by decide) rfl (s0_602 H) rfl fun D =>
        j_ivv (pc := 21) (m := 500) (dd := 348) (a := [(0, v2), (0, 1), (0, h1 396 602 0)]) (rest := []) D rfl rfl rfl rfl rfl (by decide) (s0_602 H) (by decide +kernel) (fun h4 e1 D =>
          have T := fj_run_ok _ _ _ _ _ _ H.1 e1
          have H := shp_st H T
          j_aldn (pc := 24) D rfl rfl rfl fun D =>
          j_gf (pc := 25) (a := 602) D rfl rfl (by decide) rfl (s0_602 H) rfl fun D =>
          j_istn (pc := 28) (L' := [(1, (0, h4 396 602 0)), (0, (4, 602))]) D rfl nl_634 rfl rfl fun D =>
          j_aldn (pc := 29) D rfl rfl rfl fun D =>
          j_ivv (pc := 30) (m := 502) (dd := 351) (a := []) (rest := []) D rfl rfl rfl rfl rfl (by decide) (s0_602 H) (by decide +kernel) (fun h7 e1 D =>
            have T := fj_run_ok _ _ _ _ _ _ H.1 e1
            have H := shp_st H T
            j_aldn (pc := 33) D rfl rfl rfl fun D =>
            j_c0 (pc := 34) (v := (1, 0)) D rfl rfl (by decide +kernel) fun D =>
            j_aldn (pc := 35) D rfl rfl rfl fun D =>
            have D : fk_D 634 [(36, none, .getfield 169, 3, 459, 129, 10), (39, none, .iconst 1, 1, 0, 1, 0), (40, none, .isub, 1, 0, 0, 0), (41, none, .i2l, 1, 0, 0, 0), (42, none, .invokevirtual 640, 3, 2, 360, 2), (45, none, .l2i, 1, 0, 0, 0), (46, none, .istore_n 2, 1, 0, 0, 0), (47, none, .aload_n 0, 1, 0, 0, 0), (48, none, .invokevirtual 1136, 3, 0, 448, 1), (51, none, .istore_n 3, 1, 0, 0, 0), (52, none, .aload_n 0, 1, 0, 0, 0), (53, none, .aload_n 0, 1, 0, 0, 0), (54, none, .iload_n 2, 1, 0, 0, 0), (55, none, .iload_n 3, 1, 0, 0, 0), (56, none, .invokevirtual 1129, 3, 2, 446, 1), (59, none, .iconst 4, 1, 0, 4, 0), (60, none, .iload_n 1, 1, 0, 0, 0), (61, none, .invokevirtual 557, 3, 3, 348, 0)] := fq_of2 cd_634 ow_634 cl_634 rfl (pc := 36) (by decide +kernel)
            j_gf (pc := 36) (a := 602) D rfl rfl (by decide) rfl (s0_602 H) rfl fun D =>
            j_ic (pc := 39) D rfl fun D =>
            j_isub (pc := 40) D rfl fun D =>
            j_i2l (pc := 41) D rfl fun D =>
            j_iv (pc := 42) (m := 510) (dd := 360) (a := [(1, 0), (1, wI (wI ((h7 459 602 0) - 1)))]) (rest := []) D rfl rfl rfl rfl rfl (by decide) (s0_602 H) (by decide +kernel) (fun v11 h10 e1 D =>
              have T := fj_run_ok _ _ _ _ _ _ H.1 e1
              have H := shp_st H T
              j_l2i (pc := 45) D rfl fun D =>
              j_istn (pc := 46) (L' := [(2, (0, wI v11)), (1, (0, h4 396 602 0)), (0, (4, 602))]) D rfl nl_634 rfl rfl fun D =>
              j_aldn (pc := 47) D rfl rfl rfl fun D =>
              j_iv (pc := 48) (m := 635) (dd := 448) (a := []) (rest := []) D rfl rfl rfl rfl rfl (by decide) (s0_602 H) (by decide +kernel) (fun v14 h13 e1 D =>
                have T := fj_run_ok _ _ _ _ _ _ H.1 e1
                have H := shp_st H T
                j_istn (pc := 51) (L' := [(3, (0, v14)), (2, (0, wI v11)), (1, (0, h4 396 602 0)), (0, (4, 602))]) D rfl nl_634 rfl rfl fun D =>
                j_aldn (pc := 52) D rfl rfl rfl fun D =>
                j_aldn (pc := 53) D rfl rfl rfl fun D =>
                j_ildn (pc := 54) D rfl rfl rfl fun D =>
                j_ildn (pc := 55) D rfl rfl rfl fun D =>
                j_iv (pc := 56) (m := 630) (dd := 446) (a := [(0, wI v11), (0, v14)]) (rest := [(4, 602)]) D rfl rfl rfl rfl rfl (by decide) (s0_602 H) (by decide +kernel) (fun v17 h16 e1 D =>
                  have T := fj_run_ok _ _ _ _ _ _ H.1 e1
                  have H := shp_st H T
                  j_ic (pc := 59) D rfl fun D =>
                  j_ildn (pc := 60) D rfl rfl rfl fun D =>
                  j_ivv (pc := 61) (m := 500) (dd := 348) (a := [(0, v17), (0, 4), (0, h4 396 602 0)]) (rest := []) D rfl rfl rfl rfl rfl (by decide) (s0_602 H) (by decide +kernel) (fun h19 e1 D =>
                    have T := fj_run_ok _ _ _ _ _ _ H.1 e1
                    have H := shp_st H T
                    fk_jump cut_634_64 rfl rfl) (fun q21 h19 e1 =>
                    j_tx (hx_634 _))) (fun q18 h16 e1 =>
                  j_tx (hx_634 _))) (fun q15 h13 e1 =>
                j_tx (hx_634 _))) (fun q12 h10 e1 =>
              j_tx (hx_634 _))) (fun q9 h7 e1 =>
            j_tx (hx_634 _))) (fun q6 h4 e1 =>
          j_tx (hx_634 _))) (fun q3 h1 e1 =>
        j_tx (hx_634 _)))
theorem e_634_64 (d : Nat) (x2 x3 : Int) {h : fi_H} (H : Shp h) : c_634_64 d x2 x3 h =
  cv_ (fj_run d 502 h [(4, 602)])
    (fun h1 =>
    ca_ (fj_run d 499 h1 [(4, 602), (0, 80)]) 0
      (fun v5 h4 =>
      lt_ (fi_upd h4 509 602 0 0) fun h7 =>
      lt_ (fi_upd h7 510 602 0 0) fun h8 =>
      if v5 = 0 then
        cv_ (fj_run d 523 h8 [(4, 602), (0, 23)])
          (fun h9 =>
          if 0 ≤ x3 ∧ x3 < 41 then
          cv_ (fj_run d 636 h9 [(4, 602), (0, h9 10 611 x3.toNat)])
            (fun h13 =>
            c_634_114 d x2 x3 v5 h13)
            (fun q15 h13 => tx_ q15 h13)
          else none)
          (fun q11 h9 => tx_ q11 h9)
      else
        cv_ (fj_run d 502 h8 [(4, 602)])
          (fun h16 =>
          c_634_114 d x2 x3 v5 h16)
          (fun q18 h16 => tx_ q18 h16))
      (fun q6 h4 => tx_ q6 h4))
    (fun q3 h1 => tx_ q3 h1) := by
  unfold c_634_64
  exact
    have D : fk_D 634 [(64, some [0, 2, 3], .aload_n 0, 1, 0, 0, 0), (65, none, .invokevirtual 567, 3, 0, 351, 0), (68, none, .aload_n 0, 1, 0, 0, 0), (69, none, .bipush 80, 2, 0, 80, 0), (71, none, .invokevirtual 570, 3, 1, 352, 1), (74, none, .istore 4, 2, 0, 0, 0), (76, none, .aload_n 0, 1, 0, 0, 0), (77, none, .lconst 0, 1, 0, 0, 0), (78, none, .putfield 1110, 3, 509, 129, 11), (81, none, .aload_n 0, 1, 0, 0, 0), (82, none, .lconst 0, 1, 0, 0, 0), (83, none, .putfield 1113, 3, 510, 129, 11), (86, none, .iload 4, 2, 0, 0, 0), (88, none, .ifCond .eq 10, 3, 98, 0, 0), (91, none, .aload_n 0, 1, 0, 0, 0), (92, none, .invokevirtual 567, 3, 0, 351, 0), (95, none, .goto 19, 3, 114, 0, 0)] := fq_of2 cd_634 ow_634 cl_634 rfl (pc := 64) (by decide +kernel)
    j_aldn (pc := 64) D rfl rfl rfl fun D =>
    j_ivv (pc := 65) (m := 502) (dd := 351) (a := []) (rest := []) D rfl rfl rfl rfl rfl (by decide) (s0_602 H) (by decide +kernel) (fun h1 e1 D =>
      have T := fj_run_ok _ _ _ _ _ _ H.1 e1
      have H := shp_st H T
      j_aldn (pc := 68) D rfl rfl rfl fun D =>
      j_bp (pc := 69) D rfl fun D =>
      j_iv (pc := 71) (m := 499) (dd := 352) (a := [(0, 80)]) (rest := []) D rfl rfl rfl rfl rfl (by decide) (s0_602 H) (by decide +kernel) (fun v5 h4 e1 D =>
        have T := fj_run_ok _ _ _ _ _ _ H.1 e1
        have H := shp_st H T
        j_ist (pc := 74) (L' := [(4, (0, v5)), (0, (4, 602)), (2, (0, x2)), (3, (0, x3))]) D rfl nl_634 rfl rfl fun D =>
        j_aldn (pc := 76) D rfl rfl rfl fun D =>
        j_c0 (pc := 77) (v := (1, 0)) D rfl rfl (by decide +kernel) fun D =>
        j_pf (pc := 78) (a := 602) D rfl rfl rfl (s0_602 H) rfl rfl (gy (by decide)) (gy rfl) fun h7 eh7 S D =>
        have T := fj_hs_ok H.1 S
        have H := shp_st H T
        j_aldn (pc := 81) D rfl rfl rfl fun D =>
        j_c0 (pc := 82) (v := (1, 0)) D rfl rfl (by decide +kernel) fun D =>
        j_pf (pc := 83) (a := 602) D rfl rfl rfl (s0_602 H) rfl rfl (gy (by decide)) (gy rfl) fun h8 eh8 S D =>
        have T := fj_hs_ok H.1 S
        have H := shp_st H T
        j_ild (pc := 86) D rfl rfl rfl fun D =>
        j_ifeq (pc := 88) D rfl (fun q =>
          have D : fk_D 634 [(98, none, .aload_n 0, 1, 0, 0, 0), (99, none, .bipush 23, 2, 0, 23, 0), (101, none, .invokevirtual 661, 3, 1, 365, 0), (104, none, .aload_n 0, 1, 0, 0, 0), (105, none, .aload_n 0, 1, 0, 0, 0), (106, none, .getfield 43, 3, 407, 129, 12), (109, none, .iload_n 3, 1, 0, 0, 0), (110, none, .iaload, 1, 0, 0, 0), (111, none, .invokevirtual 1139, 3, 1, 449, 0)] := fq_of2 cd_634 ow_634 cl_634 rfl (pc := 98) (by decide +kernel)
          j_aldn (pc := 98) D rfl rfl rfl fun D =>
          j_bp (pc := 99) D rfl fun D =>
          j_ivv (pc := 101) (m := 523) (dd := 365) (a := [(0, 23)]) (rest := []) D rfl rfl rfl rfl rfl (by decide) (s0_602 H) (by decide +kernel) (fun h9 e1 D =>
            have T := fj_run_ok _ _ _ _ _ _ H.1 e1
            have H := shp_st H T
            j_aldn (pc := 104) D rfl rfl rfl fun D =>
            j_aldn (pc := 105) D rfl rfl rfl fun D =>
            j_gfc (pc := 106) (a := 602) D rfl rfl (by decide) rfl (s0_602 H) rfl (sf_407_602 H) fun D =>
            j_ildn (pc := 109) D rfl rfl rfl fun D =>
            j_al (pc := 110) (a := 611) (e := 10) D rfl rfl rfl (by decide) (s0_611 H) (s1_611 H) ⟨rfl, rfl, rfl⟩ rfl gn fun qb12 D =>
            j_ivv (pc := 111) (m := 636) (dd := 449) (a := [(0, h9 10 611 x3.toNat)]) (rest := []) D rfl rfl rfl rfl rfl (by decide) (s0_602 H) (by decide +kernel) (fun h13 e1 D =>
              have T := fj_run_ok _ _ _ _ _ _ H.1 e1
              have H := shp_st H T
              fk_jump cut_634_114 rfl rfl) (fun q15 h13 e1 =>
              j_tx (hx_634 _))) (fun q11 h9 e1 =>
            j_tx (hx_634 _))) (fun q D =>
          j_aldn (pc := 91) D rfl rfl rfl fun D =>
          j_ivv (pc := 92) (m := 502) (dd := 351) (a := []) (rest := []) D rfl rfl rfl rfl rfl (by decide) (s0_602 H) (by decide +kernel) (fun h16 e1 D =>
            have T := fj_run_ok _ _ _ _ _ _ H.1 e1
            have H := shp_st H T
            j_goto (pc := 95) D rfl <|
            fk_jump cut_634_114 rfl rfl) (fun q18 h16 e1 =>
            j_tx (hx_634 _)))) (fun q6 h4 e1 =>
        j_tx (hx_634 _))) (fun q3 h1 e1 =>
      j_tx (hx_634 _))
theorem e_634_114 (d : Nat) (x2 x3 x4 : Int) {h : fi_H} (H : Shp h) : c_634_114 d x2 x3 x4 h =
  ca_ (fj_run d 511 h [(4, 602), (0, 21)]) 0
    (fun v2 h1 =>
    if v2 = 0 then
      c_634_172 d x2 x3 x4 (h 509 602 0) (h 510 602 0) 0 65535 h1
    else
      if h1 394 602 0 = 5 then
        c_634_157 d x2 x3 x4 (h 509 602 0) (h 510 602 0) 65535 602 1 h1
      else
        c_634_157 d x2 x3 x4 (h 509 602 0) (h 510 602 0) 65535 602 0 h1)
    (fun q3 h1 => tx_ q3 h1) := by
  unfold c_634_114
  exact
    have D : fk_D 634 [(114, some [0, 2, 3, 4], .aload_n 0, 1, 0, 0, 0), (115, none, .getfield 1110, 3, 509, 129, 11), (118, none, .lstore 5, 2, 0, 0, 0), (120, none, .aload_n 0, 1, 0, 0, 0), (121, none, .getfield 1113, 3, 510, 129, 11), (124, none, .lstore 7, 2, 0, 0, 0), (126, none, .iconst 0, 1, 0, 0, 0), (127, none, .istore 9, 2, 0, 0, 0), (129, none, .ldc_w 469, 3, 0, 65535, 0), (132, none, .istore 10, 2, 0, 0, 0), (134, none, .aload_n 0, 1, 0, 0, 0), (135, none, .bipush 21, 2, 0, 21, 0), (137, none, .invokevirtual 643, 3, 1, 361, 1), (140, none, .ifCond .eq 32, 3, 172, 0, 0), (143, none, .aload_n 0, 1, 0, 0, 0), (144, none, .aload_n 0, 1, 0, 0, 0), (145, none, .getfield 513, 3, 394, 129, 10), (148, none, .iconst 5, 1, 0, 5, 0), (149, none, .if_icmp .ne 7, 3, 156, 0, 0), (152, none, .iconst 1, 1, 0, 1, 0)] := fq_of2 cd_634 ow_634 cl_634 rfl (pc := 114) (by decide +kernel)
    j_aldn (pc := 114) D rfl rfl rfl fun D =>
    j_gf (pc := 115) (a := 602) D rfl rfl (by decide) rfl (s0_602 H) rfl fun D =>
    j_lst (pc := 118) (L' := [(5, (1, h 509 602 0)), (0, (4, 602)), (2, (0, x2)), (3, (0, x3)), (4, (0, x4))]) D rfl nl_634 rfl rfl fun D =>
    j_aldn (pc := 120) D rfl rfl rfl fun D =>
    j_gf (pc := 121) (a := 602) D rfl rfl (by decide) rfl (s0_602 H) rfl fun D =>
    j_lst (pc := 124) (L' := [(7, (1, h 510 602 0)), (5, (1, h 509 602 0)), (0, (4, 602)), (2, (0, x2)), (3, (0, x3)), (4, (0, x4))]) D rfl nl_634 rfl rfl fun D =>
    j_ic (pc := 126) D rfl fun D =>
    j_ist (pc := 127) (L' := [(9, (0, 0)), (7, (1, h 510 602 0)), (5, (1, h 509 602 0)), (0, (4, 602)), (2, (0, x2)), (3, (0, x3)), (4, (0, x4))]) D rfl nl_634 rfl rfl fun D =>
    j_ldcw (pc := 129) D rfl fun D =>
    j_ist (pc := 132) (L' := [(10, (0, 65535)), (9, (0, 0)), (7, (1, h 510 602 0)), (5, (1, h 509 602 0)), (0, (4, 602)), (2, (0, x2)), (3, (0, x3)), (4, (0, x4))]) D rfl nl_634 rfl rfl fun D =>
    j_aldn (pc := 134) D rfl rfl rfl fun D =>
    j_bp (pc := 135) D rfl fun D =>
    j_iv (pc := 137) (m := 511) (dd := 361) (a := [(0, 21)]) (rest := []) D rfl rfl rfl rfl rfl (by decide) (s0_602 H) (by decide +kernel) (fun v2 h1 e1 D =>
      have T := fj_run_ok _ _ _ _ _ _ H.1 e1
      have H := shp_st H T
      j_ifeq (pc := 140) D rfl (fun q =>
        fk_jump cut_634_172 rfl rfl) (fun q D =>
        j_aldn (pc := 143) D rfl rfl rfl fun D =>
        j_aldn (pc := 144) D rfl rfl rfl fun D =>
        j_gf (pc := 145) (a := 602) D rfl rfl (by decide) rfl (s0_602 H) rfl fun D =>
        j_ic (pc := 148) D rfl fun D =>
        j_ine (pc := 149) D rfl (fun q D =>
          j_ic (pc := 152) D rfl fun D =>
          have D : fk_D 634 [(153, none, .goto 4, 3, 157, 0, 0)] := fq_of2 cd_634 ow_634 cl_634 rfl (pc := 153) (by decide +kernel)
          j_goto (pc := 153) D rfl <|
          fk_jump cut_634_157 rfl rfl) (fun q =>
          have D : fk_D 634 [(156, none, .iconst 0, 1, 0, 0, 0)] := fq_of2 cd_634 ow_634 cl_634 rfl (pc := 156) (by decide +kernel)
          j_ic (pc := 156) D rfl fun D =>
          fk_jump cut_634_157 rfl rfl))) (fun q3 h1 e1 =>
      j_tx (hx_634 _))
theorem e_634_157 (d : Nat) (x2 x3 x4 x5 x7 x10 s0 s1 : Int) {h : fi_H} (H : Shp h) : c_634_157 d x2 x3 x4 x5 x7 x10 s0 s1 h =
  dv_ (fi_vt 348 (h 0 s0.toNat 0)) fun m4 => cv_ (fj_run d m4 h [(4, s0), (0, s1), (0, 1), (0, h 396 602 0)])
    (fun h1 =>
    ca_ (fj_run d 515 h1 [(4, 602)]) 1
      (fun v6 h5 =>
      c_634_172 d x2 x3 x4 x5 x7 (wI v6) x10 h5)
      (fun q7 h5 => tx_ q7 h5))
    (fun q3 h1 => tx_ q3 h1) := by
  unfold c_634_157
  exact
    have D : fk_D 634 [(157, some [0, 2, 3, 4, 5, 7, 10], .iconst 1, 1, 0, 1, 0), (158, none, .aload_n 0, 1, 0, 0, 0), (159, none, .getfield 507, 3, 396, 129, 10), (162, none, .invokevirtual 557, 3, 3, 348, 0), (165, none, .aload_n 0, 1, 0, 0, 0), (166, none, .invokevirtual 617, 3, 0, 354, 2), (169, none, .l2i, 1, 0, 0, 0), (170, none, .istore 9, 2, 0, 0, 0)] := fq_of2 cd_634 ow_634 cl_634 rfl (pc := 157) (by decide +kernel)
    j_ic (pc := 157) D rfl fun D =>
    j_aldn (pc := 158) D rfl rfl rfl fun D =>
    j_gf (pc := 159) (a := 602) D rfl rfl (by decide) rfl (s0_602 H) rfl fun D =>
    j_ivuv (pc := 162) (dd := 348) (a := [(0, s1), (0, 1), (0, h 396 602 0)]) (rest := []) H.2.1 D rfl rfl rfl rfl rfl (fun m4 h1 e1 D =>
      have T := fj_run_ok _ _ _ _ _ _ H.1 e1
      have H := shp_st H T
      j_aldn (pc := 165) D rfl rfl rfl fun D =>
      j_iv (pc := 166) (m := 515) (dd := 354) (a := []) (rest := []) D rfl rfl rfl rfl rfl (by decide) (s0_602 H) (by decide +kernel) (fun v6 h5 e1 D =>
        have T := fj_run_ok _ _ _ _ _ _ H.1 e1
        have H := shp_st H T
        j_l2i (pc := 169) D rfl fun D =>
        j_ist (pc := 170) (L' := [(9, (0, wI v6)), (0, (4, 602)), (2, (0, x2)), (3, (0, x3)), (4, (0, x4)), (5, (1, x5)), (7, (1, x7)), (10, (0, x10))]) D rfl nl_634 rfl rfl fun D =>
        fk_jump cut_634_172 rfl rfl) (fun q7 h5 e1 =>
        j_tx (hx_634 _))) (fun m4 q3 h1 e1 =>
      j_tx (hx_634 _))
theorem e_634_172 (d : Nat) (x2 x3 x4 x5 x7 x9 x10 : Int) {h : fi_H} (H : Shp h) : c_634_172 d x2 x3 x4 x5 x7 x9 x10 h =
  ca_ (fj_run d 511 h [(4, 602), (0, 81)]) 0
    (fun v2 h1 =>
    if v2 = 0 then
      c_634_211 d x2 x3 x4 x5 x7 x9 x10 h1
    else
      if h1 394 602 0 = 5 then
        c_634_195 d x2 x3 x4 x5 x7 x9 602 1 h1
      else
        c_634_195 d x2 x3 x4 x5 x7 x9 602 0 h1)
    (fun q3 h1 => tx_ q3 h1) := by
  unfold c_634_172
  exact
    have D : fk_D 634 [(172, some [0, 2, 3, 4, 5, 7, 9, 10], .aload_n 0, 1, 0, 0, 0), (173, none, .bipush 81, 2, 0, 81, 0), (175, none, .invokevirtual 643, 3, 1, 361, 1), (178, none, .ifCond .eq 33, 3, 211, 0, 0), (181, none, .aload_n 0, 1, 0, 0, 0), (182, none, .aload_n 0, 1, 0, 0, 0), (183, none, .getfield 513, 3, 394, 129, 10), (186, none, .iconst 5, 1, 0, 5, 0), (187, none, .if_icmp .ne 7, 3, 194, 0, 0), (190, none, .iconst 1, 1, 0, 1, 0), (191, none, .goto 4, 3, 195, 0, 0)] := fq_of2 cd_634 ow_634 cl_634 rfl (pc := 172) (by decide +kernel)
    j_aldn (pc := 172) D rfl rfl rfl fun D =>
    j_bp (pc := 173) D rfl fun D =>
    j_iv (pc := 175) (m := 511) (dd := 361) (a := [(0, 81)]) (rest := []) D rfl rfl rfl rfl rfl (by decide) (s0_602 H) (by decide +kernel) (fun v2 h1 e1 D =>
      have T := fj_run_ok _ _ _ _ _ _ H.1 e1
      have H := shp_st H T
      j_ifeq (pc := 178) D rfl (fun q =>
        fk_jump cut_634_211 rfl rfl) (fun q D =>
        j_aldn (pc := 181) D rfl rfl rfl fun D =>
        j_aldn (pc := 182) D rfl rfl rfl fun D =>
        j_gf (pc := 183) (a := 602) D rfl rfl (by decide) rfl (s0_602 H) rfl fun D =>
        j_ic (pc := 186) D rfl fun D =>
        j_ine (pc := 187) D rfl (fun q D =>
          j_ic (pc := 190) D rfl fun D =>
          j_goto (pc := 191) D rfl <|
          fk_jump cut_634_195 rfl rfl) (fun q =>
          have D : fk_D 634 [(194, none, .iconst 0, 1, 0, 0, 0)] := fq_of2 cd_634 ow_634 cl_634 rfl (pc := 194) (by decide +kernel)
          j_ic (pc := 194) D rfl fun D =>
          fk_jump cut_634_195 rfl rfl))) (fun q3 h1 e1 =>
      j_tx (hx_634 _))
theorem e_634_195 (d : Nat) (x2 x3 x4 x5 x7 x9 s0 s1 : Int) {h : fi_H} (H : Shp h) : c_634_195 d x2 x3 x4 x5 x7 x9 s0 s1 h =
  dv_ (fi_vt 348 (h 0 s0.toNat 0)) fun m4 => cv_ (fj_run d m4 h [(4, s0), (0, s1), (0, 1), (0, h 396 602 0)])
    (fun h1 =>
    ca_ (fj_run d 637 h1 [(4, 602), (0, x9)]) 0
      (fun v6 h5 =>
      c_634_211 d x2 x3 x4 x5 x7 x9 v6 h5)
      (fun q7 h5 => tx_ q7 h5))
    (fun q3 h1 => tx_ q3 h1) := by
  unfold c_634_195
  exact
    have D : fk_D 634 [(195, some [0, 2, 3, 4, 5, 7, 9], .iconst 1, 1, 0, 1, 0), (196, none, .aload_n 0, 1, 0, 0, 0), (197, none, .getfield 507, 3, 396, 129, 10), (200, none, .invokevirtual 557, 3, 3, 348, 0), (203, none, .aload_n 0, 1, 0, 0, 0), (204, none, .iload 9, 2, 0, 0, 0), (206, none, .invokevirtual 1142, 3, 1, 450, 1), (209, none, .istore 10, 2, 0, 0, 0)] := fq_of2 cd_634 ow_634 cl_634 rfl (pc := 195) (by decide +kernel)
    j_ic (pc := 195) D rfl fun D =>
    j_aldn (pc := 196) D rfl rfl rfl fun D =>
    j_gf (pc := 197) (a := 602) D rfl rfl (by decide) rfl (s0_602 H) rfl fun D =>
    j_ivuv (pc := 200) (dd := 348) (a := [(0, s1), (0, 1), (0, h 396 602 0)]) (rest := []) H.2.1 D rfl rfl rfl rfl rfl (fun m4 h1 e1 D =>
      have T := fj_run_ok _ _ _ _ _ _ H.1 e1
      have H := shp_st H T
      j_aldn (pc := 203) D rfl rfl rfl fun D =>
      j_ild (pc := 204) D rfl rfl rfl fun D =>
      j_iv (pc := 206) (m := 637) (dd := 450) (a := [(0, x9)]) (rest := []) D rfl rfl rfl rfl rfl (by decide) (s0_602 H) (by decide +kernel) (fun v6 h5 e1 D =>
        have T := fj_run_ok _ _ _ _ _ _ H.1 e1
        have H := shp_st H T
        j_ist (pc := 209) (L' := [(10, (0, v6)), (0, (4, 602)), (2, (0, x2)), (3, (0, x3)), (4, (0, x4)), (5, (1, x5)), (7, (1, x7)), (9, (0, x9))]) D rfl nl_634 rfl rfl fun D =>
        fk_jump cut_634_211 rfl rfl) (fun q7 h5 e1 =>
        j_tx (hx_634 _))) (fun m4 q3 h1 e1 =>
      j_tx (hx_634 _))
theorem e_634_211 (d : Nat) (x2 x3 x4 x5 x7 x9 x10 : Int) {h : fi_H} (H : Shp h) : c_634_211 d x2 x3 x4 x5 x7 x9 x10 h =
  cv_ (fj_run d 505 h [(4, 602), (0, 59)])
    (fun h1 =>
    lt_ (fi_upd h1 509 602 0 x5) fun h4 =>
    lt_ (fi_upd h4 510 602 0 x7) fun h5 =>
    cv_ (fj_run d 631 h5 [(4, 602), (0, x2), (0, x3), (0, x9), (0, x10), (0, x4)])
      (fun h6 =>
      c_634_0 d h6)
      (fun q8 h6 => tx_ q8 h6))
    (fun q3 h1 => tx_ q3 h1) := by
  unfold c_634_211
  exact
    have D : fk_D 634 [(211, some [0, 2, 3, 4, 5, 7, 9, 10], .aload_n 0, 1, 0, 0, 0), (212, none, .bipush 59, 2, 0, 59, 0), (214, none, .invokevirtual 624, 3, 1, 356, 0), (217, none, .aload_n 0, 1, 0, 0, 0), (218, none, .lload 5, 2, 0, 0, 0), (220, none, .putfield 1110, 3, 509, 129, 11), (223, none, .aload_n 0, 1, 0, 0, 0), (224, none, .lload 7, 2, 0, 0, 0), (226, none, .putfield 1113, 3, 510, 129, 11), (229, none, .aload_n 0, 1, 0, 0, 0), (230, none, .iload_n 2, 1, 0, 0, 0), (231, none, .iload_n 3, 1, 0, 0, 0), (232, none, .iload 9, 2, 0, 0, 0), (234, none, .iload 10, 2, 0, 0, 0), (236, none, .iload 4, 2, 0, 0, 0), (238, none, .invokevirtual 1132, 3, 5, 447, 0), (241, none, .goto (-241), 3, 0, 0, 0)] := fq_of2 cd_634 ow_634 cl_634 rfl (pc := 211) (by decide +kernel)
    j_aldn (pc := 211) D rfl rfl rfl fun D =>
    j_bp (pc := 212) D rfl fun D =>
    j_ivv (pc := 214) (m := 505) (dd := 356) (a := [(0, 59)]) (rest := []) D rfl rfl rfl rfl rfl (by decide) (s0_602 H) (by decide +kernel) (fun h1 e1 D =>
      have T := fj_run_ok _ _ _ _ _ _ H.1 e1
      have H := shp_st H T
      j_aldn (pc := 217) D rfl rfl rfl fun D =>
      j_lld (pc := 218) D rfl rfl rfl fun D =>
      j_pf (pc := 220) (a := 602) D rfl rfl rfl (s0_602 H) rfl rfl (gy (by decide)) (gy rfl) fun h4 eh4 S D =>
      have T := fj_hs_ok H.1 S
      have H := shp_st H T
      j_aldn (pc := 223) D rfl rfl rfl fun D =>
      j_lld (pc := 224) D rfl rfl rfl fun D =>
      j_pf (pc := 226) (a := 602) D rfl rfl rfl (s0_602 H) rfl rfl (gy (by decide)) (gy rfl) fun h5 eh5 S D =>
      have T := fj_hs_ok H.1 S
      have H := shp_st H T
      j_aldn (pc := 229) D rfl rfl rfl fun D =>
      j_ildn (pc := 230) D rfl rfl rfl fun D =>
      j_ildn (pc := 231) D rfl rfl rfl fun D =>
      j_ild (pc := 232) D rfl rfl rfl fun D =>
      j_ild (pc := 234) D rfl rfl rfl fun D =>
      j_ild (pc := 236) D rfl rfl rfl fun D =>
      j_ivv (pc := 238) (m := 631) (dd := 447) (a := [(0, x2), (0, x3), (0, x9), (0, x10), (0, x4)]) (rest := []) D rfl rfl rfl rfl rfl (by decide) (s0_602 H) (by decide +kernel) (fun h6 e1 D =>
        have T := fj_run_ok _ _ _ _ _ _ H.1 e1
        have H := shp_st H T
        j_goto (pc := 241) D rfl <|
        fk_jump cut_634_0 rfl rfl) (fun q8 h6 e1 =>
        j_tx (hx_634 _))) (fun q3 h1 e1 =>
      j_tx (hx_634 _))
theorem m_634 (d : Nat) {h : fi_H} (H : Shp h) : fj_run (d + 1) 634 h [(4, 602)] =
  c_634_0 d h := by
  rw [fj_run_eq d (by decide) h [(4, 602)] (Nat.le_of_ble_eq_true (by rw [nl_634]; rfl))]
  show gG (fj_run d) 634 0 [(0, (4, 602))] [] h = _
  exact
    fk_jump cut_634_0 rfl rfl
/-! 635 StatuteHouseModel.factHere0()I -/
theorem cd_635 : fi_code 635 = prog_69_method_152_code := rfl
theorem hx_635 : ∀ pc, fi_hat 635 pc = none := fun pc => by unfold fi_hat; rw [show fi_hh 635 = [] from rfl]; rfl
theorem rt_635 : fi_ret 635 = some .int := rfl
theorem nl_635 : fi_nl 635 = 2 := rfl
theorem ow_635 : fi_ow 635 = 29 := rfl
theorem cl_635 : fj_cutT.getD 635 [] = [(14, [0]), (45, [0, 1]), (46, [0, 1])] := rfl
theorem cut_635_14 : fj_cut 635 14 = some [0] := by decide +kernel
noncomputable def c_635_14 (d : Nat) (s0 s1 : Int) (h : fi_H) : fk_R := gG (fj_run d) 635 14 [(0, (4, 602))] [(0, s1), (4, s0)] h
theorem cut_635_45 : fj_cut 635 45 = some [0, 1] := by decide +kernel
noncomputable def c_635_45 (d : Nat) (x1 s0 : Int) (h : fi_H) : fk_R := gG (fj_run d) 635 45 [(0, (4, 602)), (1, (0, x1))] [(4, s0)] h
theorem cut_635_46 : fj_cut 635 46 = some [0, 1] := by decide +kernel
noncomputable def c_635_46 (d : Nat) (x1 s0 s1 : Int) (h : fi_H) : fk_R := gG (fj_run d) 635 46 [(0, (4, 602)), (1, (0, x1))] [(0, s1), (4, s0)] h
theorem e_635_14 (d : Nat) (s0 s1 : Int) {h : fi_H} (H : Shp h) : c_635_14 d s0 s1 h =
  dv_ (fi_vt 348 (h 0 s0.toNat 0)) fun m4 => cv_ (fj_run d m4 h [(4, s0), (0, s1), (0, 1), (0, h 396 602 0)])
    (fun h1 =>
    ca_ (fj_run d 504 h1 [(4, 602)]) 0
      (fun v6 h5 =>
      if v6 = (-1) then
        c_635_45 d v6 602 h5
      else
        ca_ (fj_run d 552 h5 [(4, 602), (0, v6)]) 0
          (fun v9 h8 =>
          if v9 = 0 then
            c_635_45 d v6 602 h8
          else
            c_635_46 d v6 602 1 h8)
          (fun q10 h8 => tx_ q10 h8))
      (fun q7 h5 => tx_ q7 h5))
    (fun q3 h1 => tx_ q3 h1) := by
  unfold c_635_14
  exact
    have D : fk_D 635 [(14, some [0], .iconst 1, 1, 0, 1, 0), (15, none, .aload_n 0, 1, 0, 0, 0), (16, none, .getfield 507, 3, 396, 129, 10), (19, none, .invokevirtual 557, 3, 3, 348, 0), (22, none, .aload_n 0, 1, 0, 0, 0), (23, none, .invokevirtual 621, 3, 0, 355, 1), (26, none, .istore_n 1, 1, 0, 0, 0), (27, none, .aload_n 0, 1, 0, 0, 0), (28, none, .iload_n 1, 1, 0, 0, 0), (29, none, .iconst (-1), 1, 0, (-1), 0), (30, none, .if_icmp .eq 15, 3, 45, 0, 0), (33, none, .aload_n 0, 1, 0, 0, 0), (34, none, .iload_n 1, 1, 0, 0, 0), (35, none, .invokevirtual 767, 3, 1, 391, 1), (38, none, .ifCond .eq 7, 3, 45, 0, 0), (41, none, .iconst 1, 1, 0, 1, 0), (42, none, .goto 4, 3, 46, 0, 0)] := fq_of2 cd_635 ow_635 cl_635 rfl (pc := 14) (by decide +kernel)
    j_ic (pc := 14) D rfl fun D =>
    j_aldn (pc := 15) D rfl rfl rfl fun D =>
    j_gf (pc := 16) (a := 602) D rfl rfl (by decide) rfl (s0_602 H) rfl fun D =>
    j_ivuv (pc := 19) (dd := 348) (a := [(0, s1), (0, 1), (0, h 396 602 0)]) (rest := []) H.2.1 D rfl rfl rfl rfl rfl (fun m4 h1 e1 D =>
      have T := fj_run_ok _ _ _ _ _ _ H.1 e1
      have H := shp_st H T
      j_aldn (pc := 22) D rfl rfl rfl fun D =>
      j_iv (pc := 23) (m := 504) (dd := 355) (a := []) (rest := []) D rfl rfl rfl rfl rfl (by decide) (s0_602 H) (by decide +kernel) (fun v6 h5 e1 D =>
        have T := fj_run_ok _ _ _ _ _ _ H.1 e1
        have H := shp_st H T
        j_istn (pc := 26) (L' := [(1, (0, v6)), (0, (4, 602))]) D rfl nl_635 rfl rfl fun D =>
        j_aldn (pc := 27) D rfl rfl rfl fun D =>
        j_ildn (pc := 28) D rfl rfl rfl fun D =>
        j_ic (pc := 29) D rfl fun D =>
        j_ieq (pc := 30) D rfl (fun q =>
          fk_jump cut_635_45 rfl rfl) (fun q D =>
          j_aldn (pc := 33) D rfl rfl rfl fun D =>
          j_ildn (pc := 34) D rfl rfl rfl fun D =>
          j_iv (pc := 35) (m := 552) (dd := 391) (a := [(0, v6)]) (rest := [(4, 602)]) D rfl rfl rfl rfl rfl (by decide) (s0_602 H) (by decide +kernel) (fun v9 h8 e1 D =>
            have T := fj_run_ok _ _ _ _ _ _ H.1 e1
            have H := shp_st H T
            j_ifeq (pc := 38) D rfl (fun q =>
              fk_jump cut_635_45 rfl rfl) (fun q D =>
              j_ic (pc := 41) D rfl fun D =>
              j_goto (pc := 42) D rfl <|
              fk_jump cut_635_46 rfl rfl)) (fun q10 h8 e1 =>
            j_tx (hx_635 _)))) (fun q7 h5 e1 =>
        j_tx (hx_635 _))) (fun m4 q3 h1 e1 =>
      j_tx (hx_635 _))
theorem e_635_45 (d : Nat) (x1 s0 : Int) {h : fi_H} (H : Shp h) : c_635_45 d x1 s0 h =
  c_635_46 d x1 s0 0 h := by
  unfold c_635_45
  exact
    have D : fk_D 635 [(45, some [0, 1], .iconst 0, 1, 0, 0, 0)] := fq_of2 cd_635 ow_635 cl_635 rfl (pc := 45) (by decide +kernel)
    j_ic (pc := 45) D rfl fun D =>
    fk_jump cut_635_46 rfl rfl
theorem e_635_46 (d : Nat) (x1 s0 s1 : Int) {h : fi_H} (H : Shp h) : c_635_46 d x1 s0 s1 h =
  dv_ (fi_vt 348 (h 0 s0.toNat 0)) fun m4 => cv_ (fj_run d m4 h [(4, s0), (0, s1), (0, 2), (0, h 396 602 0)])
    (fun h1 =>
    some (.inl (some (0, x1)), h1))
    (fun q3 h1 => tx_ q3 h1) := by
  unfold c_635_46
  exact
    have D : fk_D 635 [(46, some [0, 1], .iconst 2, 1, 0, 2, 0), (47, none, .aload_n 0, 1, 0, 0, 0), (48, none, .getfield 507, 3, 396, 129, 10), (51, none, .invokevirtual 557, 3, 3, 348, 0), (54, none, .iload_n 1, 1, 0, 0, 0), (55, none, .ireturn, 1, 0, 0, 0)] := fq_of2 cd_635 ow_635 cl_635 rfl (pc := 46) (by decide +kernel)
    j_ic (pc := 46) D rfl fun D =>
    j_aldn (pc := 47) D rfl rfl rfl fun D =>
    j_gf (pc := 48) (a := 602) D rfl rfl (by decide) rfl (s0_602 H) rfl fun D =>
    j_ivuv (pc := 51) (dd := 348) (a := [(0, s1), (0, 2), (0, h 396 602 0)]) (rest := []) H.2.1 D rfl rfl rfl rfl rfl (fun m4 h1 e1 D =>
      have T := fj_run_ok _ _ _ _ _ _ H.1 e1
      have H := shp_st H T
      j_ildn (pc := 54) D rfl rfl rfl fun D =>
      j_iret D rt_635) (fun m4 q3 h1 e1 =>
      j_tx (hx_635 _))
theorem m_635 (d : Nat) {h : fi_H} (H : Shp h) : fj_run (d + 1) 635 h [(4, 602)] =
  if h 394 602 0 = 1 then
    c_635_14 d 602 1 h
  else
    c_635_14 d 602 0 h := by
  rw [fj_run_eq d (by decide) h [(4, 602)] (Nat.le_of_ble_eq_true (by rw [nl_635]; rfl))]
  show gG (fj_run d) 635 0 [(0, (4, 602))] [] h = _
  exact
    have D : fk_D 635 [(0, none, .aload_n 0, 1, 0, 0, 0), (1, none, .aload_n 0, 1, 0, 0, 0), (2, none, .getfield 513, 3, 394, 129, 10), (5, none, .iconst 1, 1, 0, 1, 0), (6, none, .if_icmp .ne 7, 3, 13, 0, 0), (9, none, .iconst 1, 1, 0, 1, 0), (10, none, .goto 4, 3, 14, 0, 0)] := fq_of2 cd_635 ow_635 cl_635 rfl (pc := 0) (by decide +kernel)
    j_aldn (pc := 0) D rfl rfl rfl fun D =>
    j_aldn (pc := 1) D rfl rfl rfl fun D =>
    j_gf (pc := 2) (a := 602) D rfl rfl (by decide) rfl (s0_602 H) rfl fun D =>
    j_ic (pc := 5) D rfl fun D =>
    j_ine (pc := 6) D rfl (fun q D =>
      j_ic (pc := 9) D rfl fun D =>
      j_goto (pc := 10) D rfl <|
      fk_jump cut_635_14 rfl rfl) (fun q =>
      have D : fk_D 635 [(13, none, .iconst 0, 1, 0, 0, 0)] := fq_of2 cd_635 ow_635 cl_635 rfl (pc := 13) (by decide +kernel)
      j_ic (pc := 13) D rfl fun D =>
      fk_jump cut_635_14 rfl rfl)
/-! 636 StatuteHouseModel.readGiven(I)V -/
theorem cd_636 : fi_code 636 = prog_69_method_154_code := rfl
theorem hx_636 : ∀ pc, fi_hat 636 pc = none := fun pc => by unfold fi_hat; rw [show fi_hh 636 = [] from rfl]; rfl
theorem rt_636 : fi_ret 636 = none := rfl
theorem nl_636 : fi_nl 636 = 4 := rfl
theorem ow_636 : fi_ow 636 = 29 := rfl
theorem cl_636 : fj_cutT.getD 636 [] = [(18, [0, 1, 2]), (76, [2]), (82, [0, 1, 2]), (96, [2])] := rfl
theorem cut_636_18 : fj_cut 636 18 = some [0, 1, 2] := by decide +kernel
noncomputable def c_636_18 (d : Nat) (x1 x2 s0 : Int) (h : fi_H) : fk_R := gG (fj_run d) 636 18 [(0, (4, 602)), (1, (0, x1)), (2, (0, x2))] [(0, s0)] h
theorem cut_636_76 : fj_cut 636 76 = some [2] := by decide +kernel
noncomputable def c_636_76 (d : Nat) (x2 s0 s1 : Int) (h : fi_H) : fk_R := gG (fj_run d) 636 76 [(2, (0, x2))] [(0, s1), (4, s0)] h
theorem cut_636_82 : fj_cut 636 82 = some [0, 1, 2] := by decide +kernel
noncomputable def c_636_82 (d : Nat) (x1 x2 : Int) (h : fi_H) : fk_R := gG (fj_run d) 636 82 [(0, (4, 602)), (1, (0, x1)), (2, (0, x2))] [] h
theorem cut_636_96 : fj_cut 636 96 = some [2] := by decide +kernel
noncomputable def c_636_96 (d : Nat) (x2 s0 s1 : Int) (h : fi_H) : fk_R := gG (fj_run d) 636 96 [(2, (0, x2))] [(0, s1), (4, s0)] h
theorem e_636_18 (d : Nat) (x1 x2 s0 : Int) {h : fi_H} (H : Shp h) : c_636_18 d x1 x2 s0 h =
  cv_ (fj_run d 512 h [(4, 602)])
    (fun h1 =>
    lt_ (fi_upd h1 509 602 0 (h1 415 602 0)) fun h4 =>
    lt_ (fi_upd h4 510 602 0 (h4 416 602 0)) fun h5 =>
    if x1 = 7 then
      if s0 = 0 then
        c_636_82 d x1 x2 h5
      else
        if h5 414 602 0 = 1 then
          if lc_ (h5 415 602 0) (wI (h5 459 602 0)) < 0 then
            c_636_76 d x2 602 1 h5
          else
            c_636_76 d x2 602 0 h5
        else
          c_636_82 d x1 x2 h5
    else
      c_636_82 d x1 x2 h5)
    (fun q3 h1 => tx_ q3 h1) := by
  unfold c_636_18
  exact
    have D : fk_D 636 [(18, some [0, 1, 2], .istore_n 3, 1, 0, 0, 0), (19, none, .aload_n 0, 1, 0, 0, 0), (20, none, .invokevirtual 646, 3, 0, 362, 0), (23, none, .aload_n 0, 1, 0, 0, 0), (24, none, .aload_n 0, 1, 0, 0, 0), (25, none, .getfield 595, 3, 415, 129, 11), (28, none, .putfield 1110, 3, 509, 129, 11), (31, none, .aload_n 0, 1, 0, 0, 0), (32, none, .aload_n 0, 1, 0, 0, 0), (33, none, .getfield 598, 3, 416, 129, 11), (36, none, .putfield 1113, 3, 510, 129, 11), (39, none, .iload_n 1, 1, 0, 0, 0), (40, none, .bipush 7, 2, 0, 7, 0), (42, none, .if_icmp .ne 40, 3, 82, 0, 0), (45, none, .iload_n 3, 1, 0, 0, 0), (46, none, .ifCond .eq 36, 3, 82, 0, 0), (49, none, .aload_n 0, 1, 0, 0, 0), (50, none, .getfield 592, 3, 414, 129, 10), (53, none, .iconst 1, 1, 0, 1, 0), (54, none, .if_icmp .ne 28, 3, 82, 0, 0)] := fq_of2 cd_636 ow_636 cl_636 rfl (pc := 18) (by decide +kernel)
    j_istn (pc := 18) (L' := [(3, (0, s0)), (0, (4, 602)), (1, (0, x1)), (2, (0, x2))]) D rfl nl_636 rfl rfl fun D =>
    j_aldn (pc := 19) D rfl rfl rfl fun D =>
    j_ivv (pc := 20) (m := 512) (dd := 362) (a := []) (rest := []) D rfl rfl rfl rfl rfl (by decide) (s0_602 H) (by decide +kernel) (fun h1 e1 D =>
      have T := fj_run_ok _ _ _ _ _ _ H.1 e1
      have H := shp_st H T
      j_aldn (pc := 23) D rfl rfl rfl fun D =>
      j_aldn (pc := 24) D rfl rfl rfl fun D =>
      j_gf (pc := 25) (a := 602) D rfl rfl (by decide) rfl (s0_602 H) rfl fun D =>
      j_pf (pc := 28) (a := 602) D rfl rfl rfl (s0_602 H) rfl rfl (gy (by decide)) (gy rfl) fun h4 eh4 S D =>
      have T := fj_hs_ok H.1 S
      have H := shp_st H T
      j_aldn (pc := 31) D rfl rfl rfl fun D =>
      j_aldn (pc := 32) D rfl rfl rfl fun D =>
      j_gf (pc := 33) (a := 602) D rfl rfl (by decide) rfl (s0_602 H) rfl fun D =>
      j_pf (pc := 36) (a := 602) D rfl rfl rfl (s0_602 H) rfl rfl (gy (by decide)) (gy rfl) fun h5 eh5 S D =>
      have T := fj_hs_ok H.1 S
      have H := shp_st H T
      j_ildn (pc := 39) D rfl rfl rfl fun D =>
      j_bp (pc := 40) D rfl fun D =>
      j_ine (pc := 42) D rfl (fun q D =>
        j_ildn (pc := 45) D rfl rfl rfl fun D =>
        j_ifeq (pc := 46) D rfl (fun q =>
          fk_jump cut_636_82 rfl rfl) (fun q D =>
          j_aldn (pc := 49) D rfl rfl rfl fun D =>
          j_gf (pc := 50) (a := 602) D rfl rfl (by decide) rfl (s0_602 H) rfl fun D =>
          j_ic (pc := 53) D rfl fun D =>
          j_ine (pc := 54) D rfl (fun q D =>
            have D : fk_D 636 [(57, none, .aload_n 0, 1, 0, 0, 0), (58, none, .aload_n 0, 1, 0, 0, 0), (59, none, .getfield 595, 3, 415, 129, 11), (62, none, .aload_n 0, 1, 0, 0, 0), (63, none, .getfield 169, 3, 459, 129, 10), (66, none, .i2l, 1, 0, 0, 0), (67, none, .lcmp, 1, 0, 0, 0), (68, none, .ifCond .ge 7, 3, 75, 0, 0), (71, none, .iconst 1, 1, 0, 1, 0), (72, none, .goto 4, 3, 76, 0, 0)] := fq_of2 cd_636 ow_636 cl_636 rfl (pc := 57) (by decide +kernel)
            j_aldn (pc := 57) D rfl rfl rfl fun D =>
            j_aldn (pc := 58) D rfl rfl rfl fun D =>
            j_gf (pc := 59) (a := 602) D rfl rfl (by decide) rfl (s0_602 H) rfl fun D =>
            j_aldn (pc := 62) D rfl rfl rfl fun D =>
            j_gf (pc := 63) (a := 602) D rfl rfl (by decide) rfl (s0_602 H) rfl fun D =>
            j_i2l (pc := 66) D rfl fun D =>
            j_lcmp (pc := 67) D rfl fun D =>
            j_ifge (pc := 68) D rfl (fun q D =>
              j_ic (pc := 71) D rfl fun D =>
              j_goto (pc := 72) D rfl <|
              fk_jump cut_636_76 rfl rfl) (fun q =>
              have D : fk_D 636 [(75, none, .iconst 0, 1, 0, 0, 0)] := fq_of2 cd_636 ow_636 cl_636 rfl (pc := 75) (by decide +kernel)
              j_ic (pc := 75) D rfl fun D =>
              fk_jump cut_636_76 rfl rfl)) (fun q =>
            fk_jump cut_636_82 rfl rfl))) (fun q =>
        fk_jump cut_636_82 rfl rfl)) (fun q3 h1 e1 =>
      j_tx (hx_636 _))
theorem e_636_76 (d : Nat) (x2 s0 s1 : Int) {h : fi_H} (H : Shp h) : c_636_76 d x2 s0 s1 h =
  dv_ (fi_vt 348 (h 0 s0.toNat 0)) fun m4 => cv_ (fj_run d m4 h [(4, s0), (0, s1), (0, 3), (0, x2)])
    (fun h1 =>
    some (.inl none, h1))
    (fun q3 h1 => tx_ q3 h1) := by
  unfold c_636_76
  exact
    have D : fk_D 636 [(76, some [2], .iconst 3, 1, 0, 3, 0), (77, none, .iload_n 2, 1, 0, 0, 0), (78, none, .invokevirtual 557, 3, 3, 348, 0), (81, none, .return_, 1, 0, 0, 0)] := fq_of2 cd_636 ow_636 cl_636 rfl (pc := 76) (by decide +kernel)
    j_ic (pc := 76) D rfl fun D =>
    j_ildn (pc := 77) D rfl rfl rfl fun D =>
    j_ivuv (pc := 78) (dd := 348) (a := [(0, s1), (0, 3), (0, x2)]) (rest := []) H.2.1 D rfl rfl rfl rfl rfl (fun m4 h1 e1 D =>
      have T := fj_run_ok _ _ _ _ _ _ H.1 e1
      have H := shp_st H T
      j_vret D rt_636) (fun m4 q3 h1 e1 =>
      j_tx (hx_636 _))
theorem e_636_82 (d : Nat) (x1 x2 : Int) {h : fi_H} (H : Shp h) : c_636_82 d x1 x2 h =
  if h 414 602 0 = x1 then
    c_636_96 d x2 602 1 h
  else
    c_636_96 d x2 602 0 h := by
  unfold c_636_82
  exact
    have D : fk_D 636 [(82, some [0, 1, 2], .aload_n 0, 1, 0, 0, 0), (83, none, .aload_n 0, 1, 0, 0, 0), (84, none, .getfield 592, 3, 414, 129, 10), (87, none, .iload_n 1, 1, 0, 0, 0), (88, none, .if_icmp .ne 7, 3, 95, 0, 0), (91, none, .iconst 1, 1, 0, 1, 0), (92, none, .goto 4, 3, 96, 0, 0)] := fq_of2 cd_636 ow_636 cl_636 rfl (pc := 82) (by decide +kernel)
    j_aldn (pc := 82) D rfl rfl rfl fun D =>
    j_aldn (pc := 83) D rfl rfl rfl fun D =>
    j_gf (pc := 84) (a := 602) D rfl rfl (by decide) rfl (s0_602 H) rfl fun D =>
    j_ildn (pc := 87) D rfl rfl rfl fun D =>
    j_ine (pc := 88) D rfl (fun q D =>
      j_ic (pc := 91) D rfl fun D =>
      j_goto (pc := 92) D rfl <|
      fk_jump cut_636_96 rfl rfl) (fun q =>
      have D : fk_D 636 [(95, none, .iconst 0, 1, 0, 0, 0)] := fq_of2 cd_636 ow_636 cl_636 rfl (pc := 95) (by decide +kernel)
      j_ic (pc := 95) D rfl fun D =>
      fk_jump cut_636_96 rfl rfl)
theorem e_636_96 (d : Nat) (x2 s0 s1 : Int) {h : fi_H} (H : Shp h) : c_636_96 d x2 s0 s1 h =
  dv_ (fi_vt 348 (h 0 s0.toNat 0)) fun m4 => cv_ (fj_run d m4 h [(4, s0), (0, s1), (0, 5), (0, x2)])
    (fun h1 =>
    some (.inl none, h1))
    (fun q3 h1 => tx_ q3 h1) := by
  unfold c_636_96
  exact
    have D : fk_D 636 [(96, some [2], .iconst 5, 1, 0, 5, 0), (97, none, .iload_n 2, 1, 0, 0, 0), (98, none, .invokevirtual 557, 3, 3, 348, 0), (101, none, .return_, 1, 0, 0, 0)] := fq_of2 cd_636 ow_636 cl_636 rfl (pc := 96) (by decide +kernel)
    j_ic (pc := 96) D rfl fun D =>
    j_ildn (pc := 97) D rfl rfl rfl fun D =>
    j_ivuv (pc := 98) (dd := 348) (a := [(0, s1), (0, 5), (0, x2)]) (rest := []) H.2.1 D rfl rfl rfl rfl rfl (fun m4 h1 e1 D =>
      have T := fj_run_ok _ _ _ _ _ _ H.1 e1
      have H := shp_st H T
      j_vret D rt_636) (fun m4 q3 h1 e1 =>
      j_tx (hx_636 _))
theorem m_636 (d : Nat) (x1 : Int) {h : fi_H} (H : Shp h) : fj_run (d + 1) 636 h [(4, 602), (0, x1)] =
  if h 394 602 0 = 3 then
    c_636_18 d x1 (h 396 602 0) 1 h
  else
    c_636_18 d x1 (h 396 602 0) 0 h := by
  rw [fj_run_eq d (by decide) h [(4, 602), (0, x1)] (Nat.le_of_ble_eq_true (by rw [nl_636]; rfl))]
  show gG (fj_run d) 636 0 [(0, (4, 602)), (1, (0, x1))] [] h = _
  exact
    have D : fk_D 636 [(0, none, .aload_n 0, 1, 0, 0, 0), (1, none, .getfield 507, 3, 396, 129, 10), (4, none, .istore_n 2, 1, 0, 0, 0), (5, none, .aload_n 0, 1, 0, 0, 0), (6, none, .getfield 513, 3, 394, 129, 10), (9, none, .iconst 3, 1, 0, 3, 0), (10, none, .if_icmp .ne 7, 3, 17, 0, 0), (13, none, .iconst 1, 1, 0, 1, 0), (14, none, .goto 4, 3, 18, 0, 0)] := fq_of2 cd_636 ow_636 cl_636 rfl (pc := 0) (by decide +kernel)
    j_aldn (pc := 0) D rfl rfl rfl fun D =>
    j_gf (pc := 1) (a := 602) D rfl rfl (by decide) rfl (s0_602 H) rfl fun D =>
    j_istn (pc := 4) (L' := [(2, (0, h 396 602 0)), (0, (4, 602)), (1, (0, x1))]) D rfl nl_636 rfl rfl fun D =>
    j_aldn (pc := 5) D rfl rfl rfl fun D =>
    j_gf (pc := 6) (a := 602) D rfl rfl (by decide) rfl (s0_602 H) rfl fun D =>
    j_ic (pc := 9) D rfl fun D =>
    j_ine (pc := 10) D rfl (fun q D =>
      j_ic (pc := 13) D rfl fun D =>
      j_goto (pc := 14) D rfl <|
      fk_jump cut_636_18 rfl rfl) (fun q =>
      have D : fk_D 636 [(17, none, .iconst 0, 1, 0, 0, 0)] := fq_of2 cd_636 ow_636 cl_636 rfl (pc := 17) (by decide +kernel)
      j_ic (pc := 17) D rfl fun D =>
      fk_jump cut_636_18 rfl rfl)
