/-! forms of methods 602..615, printed by gen/forms.py -/
set_option maxRecDepth 100000
/-! 602 StatuteHouseModel.rounded(IJJ)J -/
theorem cd_602 : fi_code 602 = prog_69_method_113_code := rfl
theorem hx_602 : ∀ pc, fi_hat 602 pc = none := fun pc => by unfold fi_hat; rw [show fi_hh 602 = [] from rfl]; rfl
theorem rt_602 : fi_ret 602 = some .long := rfl
theorem nl_602 : fi_nl 602 = 13 := rfl
theorem ow_602 : fi_ow 602 = 29 := rfl
theorem cl_602 : fj_cutT.getD 602 [] = [(13, [1, 2, 4]), (145, [2, 4, 6]), (149, [2, 4, 6]), (150, [2, 4, 6])] := rfl
theorem cut_602_13 : fj_cut 602 13 = some [1, 2, 4] := by decide +kernel
noncomputable def c_602_13 (d : Nat) (x1 x2 x4 : Int) (h : fi_H) : fk_R := gG (fj_run d) 602 13 [(1, (0, x1)), (2, (1, x2)), (4, (1, x4))] [] h
theorem cut_602_145 : fj_cut 602 145 = some [2, 4, 6] := by decide +kernel
noncomputable def c_602_145 (d : Nat) (x2 x4 x6 : Int) (h : fi_H) : fk_R := gG (fj_run d) 602 145 [(2, (1, x2)), (4, (1, x4)), (6, (1, x6))] [] h
theorem cut_602_149 : fj_cut 602 149 = some [2, 4, 6] := by decide +kernel
noncomputable def c_602_149 (d : Nat) (x2 x4 x6 : Int) (h : fi_H) : fk_R := gG (fj_run d) 602 149 [(2, (1, x2)), (4, (1, x4)), (6, (1, x6))] [] h
theorem cut_602_150 : fj_cut 602 150 = some [2, 4, 6] := by decide +kernel
noncomputable def c_602_150 (d : Nat) (x2 x4 x6 s0 : Int) (h : fi_H) : fk_R := gG (fj_run d) 602 150 [(2, (1, x2)), (4, (1, x4)), (6, (1, x6))] [(0, s0)] h
theorem e_602_13 (d : Nat) (x1 x2 x4 : Int) {h : fi_H} (H : Shp h) : c_602_13 d x1 x2 x4 h =
  if x4 = 0 then none else
  if x4 = 0 then none else
  if x1 = 48 then
    if 0 < lc_ (lr_ x2 x4) 0 then
      some (.inl (some (1, wJ ((wJ ((lq_ x2 x4) + 1)) * x4))), h)
    else
      some (.inl (some (1, wJ ((lq_ x2 x4) * x4))), h)
  else if x1 = 49 then
    if lc_ (lr_ x2 x4) 0 < 0 then
      some (.inl (some (1, wJ ((wJ ((lq_ x2 x4) - 1)) * x4))), h)
    else
      some (.inl (some (1, wJ ((lq_ x2 x4) * x4))), h)
  else if x1 = 50 then
    ca_ (fj_run d 603 h [(1, x2), (1, x4)]) 1
      (fun v2 h1 =>
      some (.inl (some (1, wJ (v2 * x4))), h1))
      (fun q3 h1 => tx_ q3 h1)
  else 
    ca_ (fj_run d 598 h [(1, lr_ x2 x4)]) 1
      (fun v5 h4 =>
      if 0 < lc_ v5 (wJ (x4 - v5)) then
        c_602_145 d x2 x4 (lq_ x2 x4) h4
      else
        if lc_ v5 (wJ (x4 - v5)) = 0 then
          ca_ (fj_run d 598 h4 [(1, lq_ x2 x4)]) 1
            (fun v8 h7 =>
            if lc_ (lr_ v8 2) 1 = 0 then
              c_602_145 d x2 x4 (lq_ x2 x4) h7
            else
              c_602_149 d x2 x4 (lq_ x2 x4) h7)
            (fun q9 h7 => tx_ q9 h7)
        else
          c_602_149 d x2 x4 (lq_ x2 x4) h4)
      (fun q6 h4 => tx_ q6 h4) := by
  unfold c_602_13
  exact
    have D : fk_D 602 [(13, some [1, 2, 4], .lload_n 2, 1, 0, 0, 0), (14, none, .lload 4, 2, 0, 0, 0), (16, none, .ldiv, 1, 0, 0, 0), (17, none, .lstore 6, 2, 0, 0, 0), (19, none, .lload_n 2, 1, 0, 0, 0), (20, none, .lload 4, 2, 0, 0, 0), (22, none, .lrem, 1, 0, 0, 0), (23, none, .lstore 8, 2, 0, 0, 0), (25, none, .iload_n 1, 1, 0, 0, 0), (26, none, .tableswitch 76 48 50 #[26, 46, 66], 26, 0, 0, 0)] := fq_of3 cd_602 ow_602 cl_602 rfl (pc := 13) (by decide +kernel)
    j_lldn (pc := 13) D rfl rfl rfl fun D =>
    j_lld (pc := 14) D rfl rfl rfl fun D =>
    j_ldiv (pc := 16) D rfl fun q D =>
    j_lst (pc := 17) (L' := [(6, (1, lq_ x2 x4)), (1, (0, x1)), (2, (1, x2)), (4, (1, x4))]) D rfl nl_602 rfl rfl fun D =>
    j_lldn (pc := 19) D rfl rfl rfl fun D =>
    j_lld (pc := 20) D rfl rfl rfl fun D =>
    j_lrem (pc := 22) D rfl fun q D =>
    j_lst (pc := 23) (L' := [(8, (1, lr_ x2 x4)), (6, (1, lq_ x2 x4)), (1, (0, x1)), (2, (1, x2)), (4, (1, x4))]) D rfl nl_602 rfl rfl fun D =>
    j_ildn (pc := 25) D rfl rfl rfl fun D =>
    have N : fk_ni (x1) [] := trivial
    j_tc (pc := 26) 48 (t := 52) D N rfl (by decide +kernel) (fun q =>
      have D : fk_D 602 [(52, none, .lload 8, 2, 0, 0, 0), (54, none, .lconst 0, 1, 0, 0, 0), (55, none, .lcmp, 1, 0, 0, 0), (56, none, .ifCond .le 10, 3, 66, 0, 0), (59, none, .lload 6, 2, 0, 0, 0), (61, none, .lconst 1, 1, 0, 0, 0), (62, none, .ladd, 1, 0, 0, 0), (63, none, .goto 5, 3, 68, 0, 0)] := fq_of2 cd_602 ow_602 cl_602 rfl (pc := 52) (by decide +kernel)
      j_lld (pc := 52) D rfl rfl rfl fun D =>
      j_c0 (pc := 54) (v := (1, 0)) D rfl rfl (by decide +kernel) fun D =>
      j_lcmp (pc := 55) D rfl fun D =>
      j_ifle (pc := 56) D rfl (fun q D =>
        j_lld (pc := 59) D rfl rfl rfl fun D =>
        j_c0 (pc := 61) (v := (1, 1)) D rfl rfl (by decide +kernel) fun D =>
        j_ladd (pc := 62) D rfl fun D =>
        j_goto (pc := 63) D rfl <|
        have D : fk_D 602 [(68, none, .lload 4, 2, 0, 0, 0), (70, none, .lmul, 1, 0, 0, 0), (71, none, .lreturn, 1, 0, 0, 0)] := fq_of2 cd_602 ow_602 cl_602 rfl (pc := 68) (by decide +kernel)
        j_lld (pc := 68) D rfl rfl rfl fun D =>
        j_lmul (pc := 70) D rfl fun D =>
        j_lret D rt_602) (fun q =>
        have D : fk_D 602 [(66, none, .lload 6, 2, 0, 0, 0), (68, none, .lload 4, 2, 0, 0, 0), (70, none, .lmul, 1, 0, 0, 0), (71, none, .lreturn, 1, 0, 0, 0)] := fq_of2 cd_602 ow_602 cl_602 rfl (pc := 66) (by decide +kernel)
        j_lld (pc := 66) D rfl rfl rfl fun D =>
        j_lld (pc := 68) D rfl rfl rfl fun D =>
        j_lmul (pc := 70) D rfl fun D =>
        j_lret D rt_602)) (fun N =>
      j_tc 49 (t := 72) D N rfl (by decide +kernel) (fun q =>
        have D : fk_D 602 [(72, none, .lload 8, 2, 0, 0, 0), (74, none, .lconst 0, 1, 0, 0, 0), (75, none, .lcmp, 1, 0, 0, 0), (76, none, .ifCond .ge 10, 3, 86, 0, 0), (79, none, .lload 6, 2, 0, 0, 0), (81, none, .lconst 1, 1, 0, 0, 0), (82, none, .lsub, 1, 0, 0, 0), (83, none, .goto 5, 3, 88, 0, 0)] := fq_of2 cd_602 ow_602 cl_602 rfl (pc := 72) (by decide +kernel)
        j_lld (pc := 72) D rfl rfl rfl fun D =>
        j_c0 (pc := 74) (v := (1, 0)) D rfl rfl (by decide +kernel) fun D =>
        j_lcmp (pc := 75) D rfl fun D =>
        j_ifge (pc := 76) D rfl (fun q D =>
          j_lld (pc := 79) D rfl rfl rfl fun D =>
          j_c0 (pc := 81) (v := (1, 1)) D rfl rfl (by decide +kernel) fun D =>
          j_lsub (pc := 82) D rfl fun D =>
          j_goto (pc := 83) D rfl <|
          have D : fk_D 602 [(88, none, .lload 4, 2, 0, 0, 0), (90, none, .lmul, 1, 0, 0, 0), (91, none, .lreturn, 1, 0, 0, 0)] := fq_of2 cd_602 ow_602 cl_602 rfl (pc := 88) (by decide +kernel)
          j_lld (pc := 88) D rfl rfl rfl fun D =>
          j_lmul (pc := 90) D rfl fun D =>
          j_lret D rt_602) (fun q =>
          have D : fk_D 602 [(86, none, .lload 6, 2, 0, 0, 0), (88, none, .lload 4, 2, 0, 0, 0), (90, none, .lmul, 1, 0, 0, 0), (91, none, .lreturn, 1, 0, 0, 0)] := fq_of2 cd_602 ow_602 cl_602 rfl (pc := 86) (by decide +kernel)
          j_lld (pc := 86) D rfl rfl rfl fun D =>
          j_lld (pc := 88) D rfl rfl rfl fun D =>
          j_lmul (pc := 90) D rfl fun D =>
          j_lret D rt_602)) (fun N =>
        j_tc 50 (t := 92) D N rfl (by decide +kernel) (fun q =>
          have D : fk_D 602 [(92, none, .lload_n 2, 1, 0, 0, 0), (93, none, .lload 4, 2, 0, 0, 0), (95, none, .invokestatic 957, 3, 2, 603, 2), (98, none, .lload 4, 2, 0, 0, 0), (100, none, .lmul, 1, 0, 0, 0), (101, none, .lreturn, 1, 0, 0, 0)] := fq_of2 cd_602 ow_602 cl_602 rfl (pc := 92) (by decide +kernel)
          j_lldn (pc := 92) D rfl rfl rfl fun D =>
          j_lld (pc := 93) D rfl rfl rfl fun D =>
          j_is (pc := 95) (m := 603) (a := [(1, x2), (1, x4)]) (rest := []) D rfl rfl rfl rfl (fun v2 h1 e1 D =>
            have T := fj_run_ok _ _ _ _ _ _ H.1 e1
            have H := shp_st H T
            j_lld (pc := 98) D rfl rfl rfl fun D =>
            j_lmul (pc := 100) D rfl fun D =>
            j_lret D rt_602) (fun q3 h1 e1 =>
            j_tx (hx_602 _))) (fun N =>
          j_td (t := 102) D N rfl (by decide +kernel) (by decide +kernel) <|
          have D : fk_D 602 [(102, none, .lload 8, 2, 0, 0, 0), (104, none, .invokestatic 954, 3, 1, 598, 2), (107, none, .lstore 10, 2, 0, 0, 0), (109, none, .lload 10, 2, 0, 0, 0), (111, none, .lload 4, 2, 0, 0, 0), (113, none, .lload 10, 2, 0, 0, 0), (115, none, .lsub, 1, 0, 0, 0), (116, none, .lcmp, 1, 0, 0, 0), (117, none, .ifCond .gt 28, 3, 145, 0, 0), (120, none, .lload 10, 2, 0, 0, 0), (122, none, .lload 4, 2, 0, 0, 0), (124, none, .lload 10, 2, 0, 0, 0), (126, none, .lsub, 1, 0, 0, 0), (127, none, .lcmp, 1, 0, 0, 0), (128, none, .ifCond .ne 21, 3, 149, 0, 0), (131, none, .lload 6, 2, 0, 0, 0), (133, none, .invokestatic 954, 3, 1, 598, 2), (136, none, .ldc2_w 582, 3, 1, 2, 0), (139, none, .lrem, 1, 0, 0, 0), (140, none, .lconst 1, 1, 0, 0, 0)] := fq_of2 cd_602 ow_602 cl_602 rfl (pc := 102) (by decide +kernel)
          j_lld (pc := 102) D rfl rfl rfl fun D =>
          j_is (pc := 104) (m := 598) (a := [(1, lr_ x2 x4)]) (rest := []) D rfl rfl rfl rfl (fun v5 h4 e1 D =>
            have T := fj_run_ok _ _ _ _ _ _ H.1 e1
            have H := shp_st H T
            j_lst (pc := 107) (L' := [(10, (1, v5)), (8, (1, lr_ x2 x4)), (6, (1, lq_ x2 x4)), (1, (0, x1)), (2, (1, x2)), (4, (1, x4))]) D rfl nl_602 rfl rfl fun D =>
            j_lld (pc := 109) D rfl rfl rfl fun D =>
            j_lld (pc := 111) D rfl rfl rfl fun D =>
            j_lld (pc := 113) D rfl rfl rfl fun D =>
            j_lsub (pc := 115) D rfl fun D =>
            j_lcmp (pc := 116) D rfl fun D =>
            j_ifgt (pc := 117) D rfl (fun q =>
              fk_jump cut_602_145 rfl rfl) (fun q D =>
              j_lld (pc := 120) D rfl rfl rfl fun D =>
              j_lld (pc := 122) D rfl rfl rfl fun D =>
              j_lld (pc := 124) D rfl rfl rfl fun D =>
              j_lsub (pc := 126) D rfl fun D =>
              j_lcmp (pc := 127) D rfl fun D =>
              j_ifne (pc := 128) D rfl (fun q D =>
                j_lld (pc := 131) D rfl rfl rfl fun D =>
                j_is (pc := 133) (m := 598) (a := [(1, lq_ x2 x4)]) (rest := []) D rfl rfl rfl rfl (fun v8 h7 e1 D =>
                  have T := fj_run_ok _ _ _ _ _ _ H.1 e1
                  have H := shp_st H T
                  j_ldc2 (pc := 136) D rfl fun D =>
                  j_lremk (pc := 139) D rfl (by decide) fun D =>
                  j_c0 (pc := 140) (v := (1, 1)) D rfl rfl (by decide +kernel) fun D =>
                  have D : fk_D 602 [(141, none, .lcmp, 1, 0, 0, 0), (142, none, .ifCond .ne 7, 3, 149, 0, 0)] := fq_of2 cd_602 ow_602 cl_602 rfl (pc := 141) (by decide +kernel)
                  j_lcmp (pc := 141) D rfl fun D =>
                  j_ifne (pc := 142) D rfl (fun q D =>
                    fk_jump cut_602_145 rfl rfl) (fun q =>
                    fk_jump cut_602_149 rfl rfl)) (fun q9 h7 e1 =>
                  j_tx (hx_602 _))) (fun q =>
                fk_jump cut_602_149 rfl rfl))) (fun q6 h4 e1 =>
            j_tx (hx_602 _)))))
theorem e_602_145 (d : Nat) (x2 x4 x6 : Int) {h : fi_H} (H : Shp h) : c_602_145 d x2 x4 x6 h =
  c_602_150 d x2 x4 x6 1 h := by
  unfold c_602_145
  exact
    have D : fk_D 602 [(145, some [2, 4, 6], .iconst 1, 1, 0, 1, 0), (146, none, .goto 4, 3, 150, 0, 0)] := fq_of2 cd_602 ow_602 cl_602 rfl (pc := 145) (by decide +kernel)
    j_ic (pc := 145) D rfl fun D =>
    j_goto (pc := 146) D rfl <|
    fk_jump cut_602_150 rfl rfl
theorem e_602_149 (d : Nat) (x2 x4 x6 : Int) {h : fi_H} (H : Shp h) : c_602_149 d x2 x4 x6 h =
  c_602_150 d x2 x4 x6 0 h := by
  unfold c_602_149
  exact
    have D : fk_D 602 [(149, some [2, 4, 6], .iconst 0, 1, 0, 0, 0)] := fq_of2 cd_602 ow_602 cl_602 rfl (pc := 149) (by decide +kernel)
    j_ic (pc := 149) D rfl fun D =>
    fk_jump cut_602_150 rfl rfl
theorem e_602_150 (d : Nat) (x2 x4 x6 s0 : Int) {h : fi_H} (H : Shp h) : c_602_150 d x2 x4 x6 s0 h =
  if s0 = 0 then
    some (.inl (some (1, wJ (x6 * x4))), h)
  else
    if lc_ x2 0 < 0 then
      some (.inl (some (1, wJ ((wJ (x6 - 1)) * x4))), h)
    else
      some (.inl (some (1, wJ ((wJ (x6 + 1)) * x4))), h) := by
  unfold c_602_150
  exact
    have D : fk_D 602 [(150, some [2, 4, 6], .istore 12, 2, 0, 0, 0), (152, none, .iload 12, 2, 0, 0, 0), (154, none, .ifCond .eq 23, 3, 177, 0, 0), (157, none, .lload_n 2, 1, 0, 0, 0), (158, none, .lconst 0, 1, 0, 0, 0), (159, none, .lcmp, 1, 0, 0, 0), (160, none, .ifCond .ge 10, 3, 170, 0, 0), (163, none, .lload 6, 2, 0, 0, 0), (165, none, .lconst 1, 1, 0, 0, 0), (166, none, .lsub, 1, 0, 0, 0), (167, none, .goto 12, 3, 179, 0, 0)] := fq_of2 cd_602 ow_602 cl_602 rfl (pc := 150) (by decide +kernel)
    j_ist (pc := 150) (L' := [(12, (0, s0)), (2, (1, x2)), (4, (1, x4)), (6, (1, x6))]) D rfl nl_602 rfl rfl fun D =>
    j_ild (pc := 152) D rfl rfl rfl fun D =>
    j_ifeq (pc := 154) D rfl (fun q =>
      have D : fk_D 602 [(177, none, .lload 6, 2, 0, 0, 0), (179, none, .lload 4, 2, 0, 0, 0), (181, none, .lmul, 1, 0, 0, 0), (182, none, .lreturn, 1, 0, 0, 0)] := fq_of2 cd_602 ow_602 cl_602 rfl (pc := 177) (by decide +kernel)
      j_lld (pc := 177) D rfl rfl rfl fun D =>
      j_lld (pc := 179) D rfl rfl rfl fun D =>
      j_lmul (pc := 181) D rfl fun D =>
      j_lret D rt_602) (fun q D =>
      j_lldn (pc := 157) D rfl rfl rfl fun D =>
      j_c0 (pc := 158) (v := (1, 0)) D rfl rfl (by decide +kernel) fun D =>
      j_lcmp (pc := 159) D rfl fun D =>
      j_ifge (pc := 160) D rfl (fun q D =>
        j_lld (pc := 163) D rfl rfl rfl fun D =>
        j_c0 (pc := 165) (v := (1, 1)) D rfl rfl (by decide +kernel) fun D =>
        j_lsub (pc := 166) D rfl fun D =>
        j_goto (pc := 167) D rfl <|
        have D : fk_D 602 [(179, none, .lload 4, 2, 0, 0, 0), (181, none, .lmul, 1, 0, 0, 0), (182, none, .lreturn, 1, 0, 0, 0)] := fq_of2 cd_602 ow_602 cl_602 rfl (pc := 179) (by decide +kernel)
        j_lld (pc := 179) D rfl rfl rfl fun D =>
        j_lmul (pc := 181) D rfl fun D =>
        j_lret D rt_602) (fun q =>
        have D : fk_D 602 [(170, none, .lload 6, 2, 0, 0, 0), (172, none, .lconst 1, 1, 0, 0, 0), (173, none, .ladd, 1, 0, 0, 0), (174, none, .goto 5, 3, 179, 0, 0)] := fq_of2 cd_602 ow_602 cl_602 rfl (pc := 170) (by decide +kernel)
        j_lld (pc := 170) D rfl rfl rfl fun D =>
        j_c0 (pc := 172) (v := (1, 1)) D rfl rfl (by decide +kernel) fun D =>
        j_ladd (pc := 173) D rfl fun D =>
        j_goto (pc := 174) D rfl <|
        have D : fk_D 602 [(179, none, .lload 4, 2, 0, 0, 0), (181, none, .lmul, 1, 0, 0, 0), (182, none, .lreturn, 1, 0, 0, 0)] := fq_of2 cd_602 ow_602 cl_602 rfl (pc := 179) (by decide +kernel)
        j_lld (pc := 179) D rfl rfl rfl fun D =>
        j_lmul (pc := 181) D rfl fun D =>
        j_lret D rt_602))
theorem m_602 (d : Nat) (x1 x2 x4 : Int) {h : fi_H} (H : Shp h) : fj_run (d + 1) 602 h [(4, 602), (0, x1), (1, x2), (1, x4)] =
  if 0 < lc_ x4 0 then
    c_602_13 d x1 x2 x4 h
  else
    cv_ (fj_run d 577 h [(4, 602), (0, 7)])
      (fun h1 =>
      c_602_13 d x1 x2 x4 h1)
      (fun q3 h1 => tx_ q3 h1) := by
  rw [fj_run_eq d (by decide) h [(4, 602), (0, x1), (1, x2), (1, x4)] (Nat.le_of_ble_eq_true (by rw [nl_602]; rfl))]
  show gG (fj_run d) 602 0 [(0, (4, 602)), (1, (0, x1)), (2, (1, x2)), (4, (1, x4))] [] h = _
  exact
    have D : fk_D 602 [(0, none, .lload 4, 2, 0, 0, 0), (2, none, .lconst 0, 1, 0, 0, 0), (3, none, .lcmp, 1, 0, 0, 0), (4, none, .ifCond .gt 9, 3, 13, 0, 0), (7, none, .aload_n 0, 1, 0, 0, 0), (8, none, .bipush 7, 2, 0, 7, 0), (10, none, .invokevirtual 854, 3, 1, 403, 0)] := fq_of2 cd_602 ow_602 cl_602 rfl (pc := 0) (by decide +kernel)
    j_lld (pc := 0) D rfl rfl rfl fun D =>
    j_c0 (pc := 2) (v := (1, 0)) D rfl rfl (by decide +kernel) fun D =>
    j_lcmp (pc := 3) D rfl fun D =>
    j_ifgt (pc := 4) D rfl (fun q =>
      fk_jump cut_602_13 rfl rfl) (fun q D =>
      j_aldn (pc := 7) D rfl rfl rfl fun D =>
      j_bp (pc := 8) D rfl fun D =>
      j_ivv (pc := 10) (m := 577) (dd := 403) (a := [(0, 7)]) (rest := []) D rfl rfl rfl rfl rfl (by decide) (s0_602 H) (by decide +kernel) (fun h1 e1 D =>
        have T := fj_run_ok _ _ _ _ _ _ H.1 e1
        have H := shp_st H T
        fk_jump cut_602_13 rfl rfl) (fun q3 h1 e1 =>
        j_tx (hx_602 _)))
/-! 603 StatuteHouseModel.near(JJ)J -/
theorem cd_603 : fi_code 603 = prog_69_method_112_code := rfl
theorem hx_603 : ∀ pc, fi_hat 603 pc = none := fun pc => by unfold fi_hat; rw [show fi_hh 603 = [] from rfl]; rfl
theorem rt_603 : fi_ret 603 = some .long := rfl
theorem nl_603 : fi_nl 603 = 8 := rfl
theorem ow_603 : fi_ow 603 = 29 := rfl
theorem cl_603 : fj_cutT.getD 603 [] = [(32, [0, 4])] := rfl
theorem cut_603_32 : fj_cut 603 32 = some [0, 4] := by decide +kernel
noncomputable def c_603_32 (d : Nat) (x0 x4 : Int) (h : fi_H) : fk_R := gG (fj_run d) 603 32 [(0, (1, x0)), (4, (1, x4))] [] h
theorem e_603_32 (d : Nat) (x0 x4 : Int) {h : fi_H} (H : Shp h) : c_603_32 d x0 x4 h =
  if lc_ x0 0 < 0 then
    some (.inl (some (1, wJ (-x4))), h)
  else
    some (.inl (some (1, x4)), h) := by
  unfold c_603_32
  exact
    have D : fk_D 603 [(32, some [0, 4], .lload_n 0, 1, 0, 0, 0), (33, none, .lconst 0, 1, 0, 0, 0), (34, none, .lcmp, 1, 0, 0, 0), (35, none, .ifCond .ge 9, 3, 44, 0, 0), (38, none, .lload 4, 2, 0, 0, 0), (40, none, .lneg, 1, 0, 0, 0), (41, none, .goto 5, 3, 46, 0, 0)] := fq_of2 cd_603 ow_603 cl_603 rfl (pc := 32) (by decide +kernel)
    j_lldn (pc := 32) D rfl rfl rfl fun D =>
    j_c0 (pc := 33) (v := (1, 0)) D rfl rfl (by decide +kernel) fun D =>
    j_lcmp (pc := 34) D rfl fun D =>
    j_ifge (pc := 35) D rfl (fun q D =>
      j_lld (pc := 38) D rfl rfl rfl fun D =>
      j_lneg (pc := 40) D rfl fun D =>
      j_goto (pc := 41) D rfl <|
      have D : fk_D 603 [(46, none, .lreturn, 1, 0, 0, 0)] := fq_of2 cd_603 ow_603 cl_603 rfl (pc := 46) (by decide +kernel)
      j_lret D rt_603) (fun q =>
      have D : fk_D 603 [(44, none, .lload 4, 2, 0, 0, 0), (46, none, .lreturn, 1, 0, 0, 0)] := fq_of2 cd_603 ow_603 cl_603 rfl (pc := 44) (by decide +kernel)
      j_lld (pc := 44) D rfl rfl rfl fun D =>
      j_lret D rt_603)
theorem m_603 (d : Nat) (x0 x2 : Int) {h : fi_H} (H : Shp h) : fj_run (d + 1) 603 h [(1, x0), (1, x2)] =
  ca_ (fj_run d 598 h [(1, x0)]) 1
    (fun v2 h1 =>
    if x2 = 0 then none else
    ca_ (fj_run d 598 h1 [(1, x0)]) 1
      (fun v5 h4 =>
      if x2 = 0 then none else
      if lc_ (lr_ v5 x2) (wJ (x2 - (lr_ v5 x2))) < 0 then
        c_603_32 d x0 (lq_ v2 x2) h4
      else
        c_603_32 d x0 (wJ ((lq_ v2 x2) + 1)) h4)
      (fun q6 h4 => tx_ q6 h4))
    (fun q3 h1 => tx_ q3 h1) := by
  rw [fj_run_eq d (by decide) h [(1, x0), (1, x2)] (Nat.le_of_ble_eq_true (by rw [nl_603]; rfl))]
  show gG (fj_run d) 603 0 [(0, (1, x0)), (2, (1, x2))] [] h = _
  exact
    have D : fk_D 603 [(0, none, .lload_n 0, 1, 0, 0, 0), (1, none, .invokestatic 954, 3, 1, 598, 2), (4, none, .lload_n 2, 1, 0, 0, 0), (5, none, .ldiv, 1, 0, 0, 0), (6, none, .lstore 4, 2, 0, 0, 0), (8, none, .lload_n 0, 1, 0, 0, 0), (9, none, .invokestatic 954, 3, 1, 598, 2), (12, none, .lload_n 2, 1, 0, 0, 0), (13, none, .lrem, 1, 0, 0, 0), (14, none, .lstore 6, 2, 0, 0, 0), (16, none, .lload 6, 2, 0, 0, 0), (18, none, .lload_n 2, 1, 0, 0, 0), (19, none, .lload 6, 2, 0, 0, 0), (21, none, .lsub, 1, 0, 0, 0), (22, none, .lcmp, 1, 0, 0, 0), (23, none, .ifCond .lt 9, 3, 32, 0, 0), (26, none, .lload 4, 2, 0, 0, 0), (28, none, .lconst 1, 1, 0, 0, 0), (29, none, .ladd, 1, 0, 0, 0), (30, none, .lstore 4, 2, 0, 0, 0)] := fq_of2 cd_603 ow_603 cl_603 rfl (pc := 0) (by decide +kernel)
    j_lldn (pc := 0) D rfl rfl rfl fun D =>
    j_is (pc := 1) (m := 598) (a := [(1, x0)]) (rest := []) D rfl rfl rfl rfl (fun v2 h1 e1 D =>
      have T := fj_run_ok _ _ _ _ _ _ H.1 e1
      have H := shp_st H T
      j_lldn (pc := 4) D rfl rfl rfl fun D =>
      j_ldiv (pc := 5) D rfl fun q D =>
      j_lst (pc := 6) (L' := [(4, (1, lq_ v2 x2)), (0, (1, x0)), (2, (1, x2))]) D rfl nl_603 rfl rfl fun D =>
      j_lldn (pc := 8) D rfl rfl rfl fun D =>
      j_is (pc := 9) (m := 598) (a := [(1, x0)]) (rest := []) D rfl rfl rfl rfl (fun v5 h4 e1 D =>
        have T := fj_run_ok _ _ _ _ _ _ H.1 e1
        have H := shp_st H T
        j_lldn (pc := 12) D rfl rfl rfl fun D =>
        j_lrem (pc := 13) D rfl fun q D =>
        j_lst (pc := 14) (L' := [(6, (1, lr_ v5 x2)), (4, (1, lq_ v2 x2)), (0, (1, x0)), (2, (1, x2))]) D rfl nl_603 rfl rfl fun D =>
        j_lld (pc := 16) D rfl rfl rfl fun D =>
        j_lldn (pc := 18) D rfl rfl rfl fun D =>
        j_lld (pc := 19) D rfl rfl rfl fun D =>
        j_lsub (pc := 21) D rfl fun D =>
        j_lcmp (pc := 22) D rfl fun D =>
        j_iflt (pc := 23) D rfl (fun q =>
          fk_jump cut_603_32 rfl rfl) (fun q D =>
          j_lld (pc := 26) D rfl rfl rfl fun D =>
          j_c0 (pc := 28) (v := (1, 1)) D rfl rfl (by decide +kernel) fun D =>
          j_ladd (pc := 29) D rfl fun D =>
          j_lst (pc := 30) (L' := [(4, (1, wJ ((lq_ v2 x2) + 1))), (6, (1, lr_ v5 x2)), (0, (1, x0)), (2, (1, x2))]) D rfl nl_603 rfl rfl fun D =>
          fk_jump cut_603_32 rfl rfl)) (fun q6 h4 e1 =>
        j_tx (hx_603 _))) (fun q3 h1 e1 =>
      j_tx (hx_603 _))
/-! 604 StatuteHouseModel.turn(I)V -/
theorem cd_604 : fi_code 604 = prog_69_method_116_code := rfl
theorem hx_604 : ∀ pc, fi_hat 604 pc = none := fun pc => by unfold fi_hat; rw [show fi_hh 604 = [] from rfl]; rfl
theorem rt_604 : fi_ret 604 = none := rfl
theorem nl_604 : fi_nl 604 = 2 := rfl
theorem ow_604 : fi_ow 604 = 29 := rfl
theorem cl_604 : fj_cutT.getD 604 [] = [(65, [])] := rfl
theorem cut_604_65 : fj_cut 604 65 = some [] := by decide +kernel
noncomputable def c_604_65 (d : Nat) (s0 s1 : Int) (h : fi_H) : fk_R := gG (fj_run d) 604 65 [] [(1, s1), (4, s0)] h
theorem e_604_65 (d : Nat) (s0 s1 : Int) {h : fi_H} (H : Shp h) : c_604_65 d s0 s1 h =
  if h 0 s0.toNat 0 = 129 then
  if 302 < s0 then
  lt_ (fi_upd h 493 s0.toNat 0 s1) fun h1 =>
  some (.inl none, h1)
  else none
  else none := by
  unfold c_604_65
  exact
    have D : fk_D 604 [(65, some [], .putfield 872, 3, 493, (-129), 11), (68, none, .return_, 1, 0, 0, 0)] := fq_of2 cd_604 ow_604 cl_604 rfl (pc := 65) (by decide +kernel)
    j_pfo (pc := 65) D rfl rfl rfl rfl rfl gn gn (gy rfl) fun h1 eh1 S kc2 D =>
    have T := fj_hs_ok H.1 S
    have H := shp_st H T
    j_vret D rt_604
theorem m_604 (d : Nat) (x1 : Int) {h : fi_H} (H : Shp h) : fj_run (d + 1) 604 h [(4, 602), (0, x1)] =
  if x1 = 1 then
    cv_ (fj_run d 587 h [(4, 602), (1, wJ (-(h 492 602 0)))])
      (fun h1 =>
      some (.inl none, h1))
      (fun q3 h1 => tx_ q3 h1)
  else
    if x1 = 6 then
      ca_ (fj_run d 582 h [(1, h 492 602 0)]) 3
        (fun v5 h4 =>
        cv_ (fj_run d 583 h4 [(4, 602), (3, dneg_ v5)])
          (fun h7 =>
          some (.inl none, h7))
          (fun q9 h7 => tx_ q9 h7))
        (fun q6 h4 => tx_ q6 h4)
    else
      lt_ (fi_upd h 492 602 0 (wJ (-(h 492 602 0)))) fun h10 =>
      if x1 = 5 then
        c_604_65 d 602 (wJ (-(h10 493 602 0))) h10
      else
        c_604_65 d 602 (h10 493 602 0) h10 := by
  rw [fj_run_eq d (by decide) h [(4, 602), (0, x1)] (Nat.le_of_ble_eq_true (by rw [nl_604]; rfl))]
  show gG (fj_run d) 604 0 [(0, (4, 602)), (1, (0, x1))] [] h = _
  exact
    have D : fk_D 604 [(0, none, .iload_n 1, 1, 0, 0, 0), (1, none, .iconst 1, 1, 0, 1, 0), (2, none, .if_icmp .ne 15, 3, 17, 0, 0), (5, none, .aload_n 0, 1, 0, 0, 0), (6, none, .aload_n 0, 1, 0, 0, 0), (7, none, .getfield 869, 3, 492, 129, 11), (10, none, .lneg, 1, 0, 0, 0), (11, none, .invokevirtual 994, 3, 1, 425, 0), (14, none, .goto 54, 3, 68, 0, 0)] := fq_of2 cd_604 ow_604 cl_604 rfl (pc := 0) (by decide +kernel)
    j_ildn (pc := 0) D rfl rfl rfl fun D =>
    j_ic (pc := 1) D rfl fun D =>
    j_ine (pc := 2) D rfl (fun q D =>
      j_aldn (pc := 5) D rfl rfl rfl fun D =>
      j_aldn (pc := 6) D rfl rfl rfl fun D =>
      j_gf (pc := 7) (a := 602) D rfl rfl (by decide) rfl (s0_602 H) rfl fun D =>
      j_lneg (pc := 10) D rfl fun D =>
      j_ivv (pc := 11) (m := 587) (dd := 425) (a := [(1, wJ (-(h 492 602 0)))]) (rest := []) D rfl rfl rfl rfl rfl (by decide) (s0_602 H) (by decide +kernel) (fun h1 e1 D =>
        have T := fj_run_ok _ _ _ _ _ _ H.1 e1
        have H := shp_st H T
        j_goto (pc := 14) D rfl <|
        have D : fk_D 604 [(68, none, .return_, 1, 0, 0, 0)] := fq_of2 cd_604 ow_604 cl_604 rfl (pc := 68) (by decide +kernel)
        j_vret D rt_604) (fun q3 h1 e1 =>
        j_tx (hx_604 _))) (fun q =>
      have D : fk_D 604 [(17, none, .iload_n 1, 1, 0, 0, 0), (18, none, .bipush 6, 2, 0, 6, 0), (20, none, .if_icmp .ne 18, 3, 38, 0, 0), (23, none, .aload_n 0, 1, 0, 0, 0), (24, none, .aload_n 0, 1, 0, 0, 0), (25, none, .getfield 869, 3, 492, 129, 11), (28, none, .invokestatic 960, 3, 1, 582, 4), (31, none, .dneg, 1, 0, 0, 0), (32, none, .invokevirtual 997, 3, 1, 426, 0), (35, none, .goto 33, 3, 68, 0, 0)] := fq_of2 cd_604 ow_604 cl_604 rfl (pc := 17) (by decide +kernel)
      j_ildn (pc := 17) D rfl rfl rfl fun D =>
      j_bp (pc := 18) D rfl fun D =>
      j_ine (pc := 20) D rfl (fun q D =>
        j_aldn (pc := 23) D rfl rfl rfl fun D =>
        j_aldn (pc := 24) D rfl rfl rfl fun D =>
        j_gf (pc := 25) (a := 602) D rfl rfl (by decide) rfl (s0_602 H) rfl fun D =>
        j_is (pc := 28) (m := 582) (a := [(1, h 492 602 0)]) (rest := [(4, 602)]) D rfl rfl rfl rfl (fun v5 h4 e1 D =>
          have T := fj_run_ok _ _ _ _ _ _ H.1 e1
          have H := shp_st H T
          j_dneg (pc := 31) D rfl fun D =>
          j_ivv (pc := 32) (m := 583) (dd := 426) (a := [(3, dneg_ v5)]) (rest := []) D rfl rfl rfl rfl rfl (by decide) (s0_602 H) (by decide +kernel) (fun h7 e1 D =>
            have T := fj_run_ok _ _ _ _ _ _ H.1 e1
            have H := shp_st H T
            j_goto (pc := 35) D rfl <|
            have D : fk_D 604 [(68, none, .return_, 1, 0, 0, 0)] := fq_of2 cd_604 ow_604 cl_604 rfl (pc := 68) (by decide +kernel)
            j_vret D rt_604) (fun q9 h7 e1 =>
            j_tx (hx_604 _))) (fun q6 h4 e1 =>
          j_tx (hx_604 _))) (fun q =>
        have D : fk_D 604 [(38, none, .aload_n 0, 1, 0, 0, 0), (39, none, .aload_n 0, 1, 0, 0, 0), (40, none, .getfield 869, 3, 492, 129, 11), (43, none, .lneg, 1, 0, 0, 0), (44, none, .putfield 869, 3, 492, 129, 11), (47, none, .aload_n 0, 1, 0, 0, 0), (48, none, .iload_n 1, 1, 0, 0, 0), (49, none, .iconst 5, 1, 0, 5, 0), (50, none, .if_icmp .ne 11, 3, 61, 0, 0), (53, none, .aload_n 0, 1, 0, 0, 0), (54, none, .getfield 872, 3, 493, 129, 11), (57, none, .lneg, 1, 0, 0, 0), (58, none, .goto 7, 3, 65, 0, 0)] := fq_of2 cd_604 ow_604 cl_604 rfl (pc := 38) (by decide +kernel)
        j_aldn (pc := 38) D rfl rfl rfl fun D =>
        j_aldn (pc := 39) D rfl rfl rfl fun D =>
        j_gf (pc := 40) (a := 602) D rfl rfl (by decide) rfl (s0_602 H) rfl fun D =>
        j_lneg (pc := 43) D rfl fun D =>
        j_pf (pc := 44) (a := 602) D rfl rfl rfl (s0_602 H) rfl rfl (gy (by decide)) (gy rfl) fun h10 eh10 S D =>
        have T := fj_hs_ok H.1 S
        have H := shp_st H T
        j_aldn (pc := 47) D rfl rfl rfl fun D =>
        j_ildn (pc := 48) D rfl rfl rfl fun D =>
        j_ic (pc := 49) D rfl fun D =>
        j_ine (pc := 50) D rfl (fun q D =>
          j_aldn (pc := 53) D rfl rfl rfl fun D =>
          j_gf (pc := 54) (a := 602) D rfl rfl (by decide) rfl (s0_602 H) rfl fun D =>
          j_lneg (pc := 57) D rfl fun D =>
          j_goto (pc := 58) D rfl <|
          fk_jump cut_604_65 rfl rfl) (fun q =>
          have D : fk_D 604 [(61, none, .aload_n 0, 1, 0, 0, 0), (62, none, .getfield 872, 3, 493, 129, 11)] := fq_of2 cd_604 ow_604 cl_604 rfl (pc := 61) (by decide +kernel)
          j_aldn (pc := 61) D rfl rfl rfl fun D =>
          j_gf (pc := 62) (a := 602) D rfl rfl (by decide) rfl (s0_602 H) rfl fun D =>
          fk_jump cut_604_65 rfl rfl)))
/-! 605 StatuteHouseModel.termValue(I)V -/
theorem cd_605 : fi_code 605 = prog_69_method_100_code := rfl
theorem hx_605 : ∀ pc, fi_hat 605 pc = none := fun pc => by unfold fi_hat; rw [show fi_hh 605 = [] from rfl]; rfl
theorem rt_605 : fi_ret 605 = none := rfl
theorem nl_605 : fi_nl 605 = 7 := rfl
theorem ow_605 : fi_ow 605 = 29 := rfl
theorem cl_605 : fj_cutT.getD 605 [] = [(2, [0, 1, 2]), (51, [0, 1, 2]), (71, [0, 1]), (127, [0, 1, 2, 3, 4]), (183, [0, 1, 2, 3, 4, 6]), (202, [0, 1, 2, 3, 4]), (222, [0, 2, 3, 4])] := rfl
theorem cut_605_2 : fj_cut 605 2 = some [0, 1, 2] := by decide +kernel
noncomputable def c_605_2 (d : Nat) (x1 x2 : Int) (h : fi_H) : fk_R := gG (fj_run d) 605 2 [(0, (4, 602)), (1, (0, x1)), (2, (0, x2))] [] h
theorem cut_605_51 : fj_cut 605 51 = some [0, 1, 2] := by decide +kernel
noncomputable def c_605_51 (d : Nat) (x1 x2 : Int) (h : fi_H) : fk_R := gG (fj_run d) 605 51 [(0, (4, 602)), (1, (0, x1)), (2, (0, x2))] [] h
theorem cut_605_71 : fj_cut 605 71 = some [0, 1] := by decide +kernel
noncomputable def c_605_71 (d : Nat) (x1 : Int) (h : fi_H) : fk_R := gG (fj_run d) 605 71 [(0, (4, 602)), (1, (0, x1))] [] h
theorem cut_605_127 : fj_cut 605 127 = some [0, 1, 2, 3, 4] := by decide +kernel
noncomputable def c_605_127 (d : Nat) (x1 x2 x3 x4 : Int) (h : fi_H) : fk_R := gG (fj_run d) 605 127 [(0, (4, 602)), (1, (0, x1)), (2, (0, x2)), (3, (0, x3)), (4, (0, x4))] [] h
theorem cut_605_183 : fj_cut 605 183 = some [0, 1, 2, 3, 4, 6] := by decide +kernel
noncomputable def c_605_183 (d : Nat) (x1 x2 x3 x4 x6 : Int) (h : fi_H) : fk_R := gG (fj_run d) 605 183 [(0, (4, 602)), (1, (0, x1)), (2, (0, x2)), (3, (0, x3)), (4, (0, x4)), (6, (0, x6))] [] h
theorem cut_605_202 : fj_cut 605 202 = some [0, 1, 2, 3, 4] := by decide +kernel
noncomputable def c_605_202 (d : Nat) (x1 x2 x3 x4 : Int) (h : fi_H) : fk_R := gG (fj_run d) 605 202 [(0, (4, 602)), (1, (0, x1)), (2, (0, x2)), (3, (0, x3)), (4, (0, x4))] [] h
theorem cut_605_222 : fj_cut 605 222 = some [0, 2, 3, 4] := by decide +kernel
noncomputable def c_605_222 (d : Nat) (x2 x3 x4 : Int) (h : fi_H) : fk_R := gG (fj_run d) 605 222 [(0, (4, 602)), (2, (0, x2)), (3, (0, x3)), (4, (0, x4))] [] h
theorem e_605_2 (d : Nat) (x1 x2 : Int) {h : fi_H} (H : Shp h) : c_605_2 d x1 x2 h =
  if x2 < h 486 602 0 then
    if 0 ≤ x2 ∧ x2 < 12 then
    if h 10 663 x2.toNat = x1 then
      if h 10 664 x2.toNat = h 484 602 0 then
        if h 10 665 x2.toNat = h 485 602 0 then
          cv_ (fj_run d 577 h [(4, 602), (0, 3)])
            (fun h2 =>
            c_605_51 d x1 x2 h2)
            (fun q4 h2 => tx_ q4 h2)
        else
          c_605_51 d x1 x2 h
      else
        c_605_51 d x1 x2 h
    else
      c_605_51 d x1 x2 h
    else none
  else
    if h 486 602 0 = 12 then
      cv_ (fj_run d 577 h [(4, 602), (0, 4)])
        (fun h5 =>
        c_605_71 d x1 h5)
        (fun q7 h5 => tx_ q7 h5)
    else
      c_605_71 d x1 h := by
  unfold c_605_2
  exact
    have D : fk_D 605 [(2, some [0, 1, 2], .iload_n 2, 1, 0, 0, 0), (3, none, .aload_n 0, 1, 0, 0, 0), (4, none, .getfield 842, 3, 486, 129, 10), (7, none, .if_icmp .ge 50, 3, 57, 0, 0), (10, none, .aload_n 0, 1, 0, 0, 0), (11, none, .getfield 227, 3, 489, 129, 12), (14, none, .iload_n 2, 1, 0, 0, 0), (15, none, .iaload, 1, 0, 0, 0), (16, none, .iload_n 1, 1, 0, 0, 0), (17, none, .if_icmp .ne 34, 3, 51, 0, 0), (20, none, .aload_n 0, 1, 0, 0, 0), (21, none, .getfield 230, 3, 490, 129, 12), (24, none, .iload_n 2, 1, 0, 0, 0), (25, none, .iaload, 1, 0, 0, 0), (26, none, .aload_n 0, 1, 0, 0, 0), (27, none, .getfield 863, 3, 484, 129, 10), (30, none, .if_icmp .ne 21, 3, 51, 0, 0), (33, none, .aload_n 0, 1, 0, 0, 0), (34, none, .getfield 233, 3, 491, 129, 12), (37, none, .iload_n 2, 1, 0, 0, 0)] := fq_of2 cd_605 ow_605 cl_605 rfl (pc := 2) (by decide +kernel)
    j_ildn (pc := 2) D rfl rfl rfl fun D =>
    j_aldn (pc := 3) D rfl rfl rfl fun D =>
    j_gf (pc := 4) (a := 602) D rfl rfl (by decide) rfl (s0_602 H) rfl fun D =>
    j_ige (pc := 7) D rfl (fun q D =>
      j_aldn (pc := 10) D rfl rfl rfl fun D =>
      j_gfc (pc := 11) (a := 602) D rfl rfl (by decide) rfl (s0_602 H) rfl (sf_489_602 H) fun D =>
      j_ildn (pc := 14) D rfl rfl rfl fun D =>
      j_al (pc := 15) (a := 663) (e := 10) D rfl rfl rfl (by decide) (s0_663 H) (s1_663 H) ⟨rfl, rfl, rfl⟩ rfl gn fun qb1 D =>
      j_ildn (pc := 16) D rfl rfl rfl fun D =>
      j_ine (pc := 17) D rfl (fun q D =>
        j_aldn (pc := 20) D rfl rfl rfl fun D =>
        j_gfc (pc := 21) (a := 602) D rfl rfl (by decide) rfl (s0_602 H) rfl (sf_490_602 H) fun D =>
        j_ildn (pc := 24) D rfl rfl rfl fun D =>
        j_al (pc := 25) (a := 664) (e := 10) D rfl rfl rfl (by decide) (s0_664 H) (s1_664 H) ⟨rfl, rfl, rfl⟩ rfl (gy qb1) fun q D =>
        j_aldn (pc := 26) D rfl rfl rfl fun D =>
        j_gf (pc := 27) (a := 602) D rfl rfl (by decide) rfl (s0_602 H) rfl fun D =>
        j_ine (pc := 30) D rfl (fun q D =>
          j_aldn (pc := 33) D rfl rfl rfl fun D =>
          j_gfc (pc := 34) (a := 602) D rfl rfl (by decide) rfl (s0_602 H) rfl (sf_491_602 H) fun D =>
          j_ildn (pc := 37) D rfl rfl rfl fun D =>
          have D : fk_D 605 [(38, none, .iaload, 1, 0, 0, 0), (39, none, .aload_n 0, 1, 0, 0, 0), (40, none, .getfield 866, 3, 485, 129, 10), (43, none, .if_icmp .ne 8, 3, 51, 0, 0), (46, none, .aload_n 0, 1, 0, 0, 0), (47, none, .iconst 3, 1, 0, 3, 0), (48, none, .invokevirtual 854, 3, 1, 403, 0)] := fq_of2 cd_605 ow_605 cl_605 rfl (pc := 38) (by decide +kernel)
          j_al (pc := 38) (a := 665) (e := 10) D rfl rfl rfl (by decide) (s0_665 H) (s1_665 H) ⟨rfl, rfl, rfl⟩ rfl (gy qb1) fun q D =>
          j_aldn (pc := 39) D rfl rfl rfl fun D =>
          j_gf (pc := 40) (a := 602) D rfl rfl (by decide) rfl (s0_602 H) rfl fun D =>
          j_ine (pc := 43) D rfl (fun q D =>
            j_aldn (pc := 46) D rfl rfl rfl fun D =>
            j_ic (pc := 47) D rfl fun D =>
            j_ivv (pc := 48) (m := 577) (dd := 403) (a := [(0, 3)]) (rest := []) D rfl rfl rfl rfl rfl (by decide) (s0_602 H) (by decide +kernel) (fun h2 e1 D =>
              have T := fj_run_ok _ _ _ _ _ _ H.1 e1
              have H := shp_st H T
              fk_jump cut_605_51 rfl rfl) (fun q4 h2 e1 =>
              j_tx (hx_605 _))) (fun q =>
            fk_jump cut_605_51 rfl rfl)) (fun q =>
          fk_jump cut_605_51 rfl rfl)) (fun q =>
        fk_jump cut_605_51 rfl rfl)) (fun q =>
      have D : fk_D 605 [(57, none, .aload_n 0, 1, 0, 0, 0), (58, none, .getfield 842, 3, 486, 129, 10), (61, none, .bipush 12, 2, 0, 12, 0), (63, none, .if_icmp .ne 8, 3, 71, 0, 0), (66, none, .aload_n 0, 1, 0, 0, 0), (67, none, .iconst 4, 1, 0, 4, 0), (68, none, .invokevirtual 854, 3, 1, 403, 0)] := fq_of2 cd_605 ow_605 cl_605 rfl (pc := 57) (by decide +kernel)
      j_aldn (pc := 57) D rfl rfl rfl fun D =>
      j_gf (pc := 58) (a := 602) D rfl rfl (by decide) rfl (s0_602 H) rfl fun D =>
      j_bp (pc := 61) D rfl fun D =>
      j_ine (pc := 63) D rfl (fun q D =>
        j_aldn (pc := 66) D rfl rfl rfl fun D =>
        j_ic (pc := 67) D rfl fun D =>
        j_ivv (pc := 68) (m := 577) (dd := 403) (a := [(0, 4)]) (rest := []) D rfl rfl rfl rfl rfl (by decide) (s0_602 H) (by decide +kernel) (fun h5 e1 D =>
          have T := fj_run_ok _ _ _ _ _ _ H.1 e1
          have H := shp_st H T
          fk_jump cut_605_71 rfl rfl) (fun q7 h5 e1 =>
          j_tx (hx_605 _))) (fun q =>
        fk_jump cut_605_71 rfl rfl))
theorem e_605_51 (d : Nat) (x1 x2 : Int) {h : fi_H} (H : Shp h) : c_605_51 d x1 x2 h =
  c_605_2 d x1 (wI (x2 + 1)) h := by
  unfold c_605_51
  exact
    have D : fk_D 605 [(51, some [0, 1, 2], .iinc 2 1, 3, 0, 1, 0), (54, none, .goto (-52), 3, 2, 0, 0)] := fq_of2 cd_605 ow_605 cl_605 rfl (pc := 51) (by decide +kernel)
    j_inc (pc := 51) (L' := [(2, (0, wI (x2 + 1))), (0, (4, 602)), (1, (0, x1))]) D rfl rfl rfl (by decide +kernel) rfl fun D =>
    j_goto (pc := 54) D rfl <|
    fk_jump cut_605_2 rfl rfl
theorem e_605_71 (d : Nat) (x1 : Int) {h : fi_H} (H : Shp h) : c_605_71 d x1 h =
  ca_ (fj_run d 606 h [(4, 602), (0, 1), (0, x1), (0, (-1)), (0, 0)]) 0
    (fun v2 h1 =>
    if 0 ≤ h1 486 602 0 ∧ h1 486 602 0 < 12 then
    lt_ (fi_upd h1 10 663 (h1 486 602 0).toNat x1) fun h4 =>
    if 0 ≤ h4 486 602 0 ∧ h4 486 602 0 < 12 then
    lt_ (fi_upd h4 10 664 (h4 486 602 0).toNat (h4 484 602 0)) fun h6 =>
    if 0 ≤ h6 486 602 0 ∧ h6 486 602 0 < 12 then
    lt_ (fi_upd h6 10 665 (h6 486 602 0).toNat (h6 485 602 0)) fun h8 =>
    c_605_127 d x1 v2 (h1 487 602 0) (h1 488 602 0) h8
    else none
    else none
    else none)
    (fun q3 h1 => tx_ q3 h1) := by
  unfold c_605_71
  exact
    have D : fk_D 605 [(71, some [0, 1], .aload_n 0, 1, 0, 0, 0), (72, none, .iconst 1, 1, 0, 1, 0), (73, none, .iload_n 1, 1, 0, 0, 0), (74, none, .iconst (-1), 1, 0, (-1), 0), (75, none, .iconst 0, 1, 0, 0, 0), (76, none, .invokevirtual 884, 3, 4, 404, 1), (79, none, .istore_n 2, 1, 0, 0, 0), (80, none, .aload_n 0, 1, 0, 0, 0), (81, none, .getfield 224, 3, 487, 129, 10), (84, none, .istore_n 3, 1, 0, 0, 0), (85, none, .aload_n 0, 1, 0, 0, 0), (86, none, .getfield 845, 3, 488, 129, 10), (89, none, .istore 4, 2, 0, 0, 0), (91, none, .aload_n 0, 1, 0, 0, 0), (92, none, .getfield 227, 3, 489, 129, 12), (95, none, .aload_n 0, 1, 0, 0, 0), (96, none, .getfield 842, 3, 486, 129, 10), (99, none, .iload_n 1, 1, 0, 0, 0), (100, none, .iastore, 1, 0, 0, 0), (101, none, .aload_n 0, 1, 0, 0, 0)] := fq_of2 cd_605 ow_605 cl_605 rfl (pc := 71) (by decide +kernel)
    j_aldn (pc := 71) D rfl rfl rfl fun D =>
    j_ic (pc := 72) D rfl fun D =>
    j_ildn (pc := 73) D rfl rfl rfl fun D =>
    j_ic (pc := 74) D rfl fun D =>
    j_ic (pc := 75) D rfl fun D =>
    j_iv (pc := 76) (m := 606) (dd := 404) (a := [(0, 1), (0, x1), (0, (-1)), (0, 0)]) (rest := []) D rfl rfl rfl rfl rfl (by decide) (s0_602 H) (by decide +kernel) (fun v2 h1 e1 D =>
      have T := fj_run_ok _ _ _ _ _ _ H.1 e1
      have H := shp_st H T
      j_istn (pc := 79) (L' := [(2, (0, v2)), (0, (4, 602)), (1, (0, x1))]) D rfl nl_605 rfl rfl fun D =>
      j_aldn (pc := 80) D rfl rfl rfl fun D =>
      j_gf (pc := 81) (a := 602) D rfl rfl (by decide) rfl (s0_602 H) rfl fun D =>
      j_istn (pc := 84) (L' := [(3, (0, h1 487 602 0)), (2, (0, v2)), (0, (4, 602)), (1, (0, x1))]) D rfl nl_605 rfl rfl fun D =>
      j_aldn (pc := 85) D rfl rfl rfl fun D =>
      j_gf (pc := 86) (a := 602) D rfl rfl (by decide) rfl (s0_602 H) rfl fun D =>
      j_ist (pc := 89) (L' := [(4, (0, h1 488 602 0)), (3, (0, h1 487 602 0)), (2, (0, v2)), (0, (4, 602)), (1, (0, x1))]) D rfl nl_605 rfl rfl fun D =>
      j_aldn (pc := 91) D rfl rfl rfl fun D =>
      j_gfc (pc := 92) (a := 602) D rfl rfl (by decide) rfl (s0_602 H) rfl (sf_489_602 H) fun D =>
      j_aldn (pc := 95) D rfl rfl rfl fun D =>
      j_gf (pc := 96) (a := 602) D rfl rfl (by decide) rfl (s0_602 H) rfl fun D =>
      j_ildn (pc := 99) D rfl rfl rfl fun D =>
      j_as (pc := 100) (a := 663) (e := 10) D rfl ⟨rfl, rfl⟩ rfl (by decide) (s0_663 H) (s1_663 H) ⟨rfl, rfl, rfl⟩ rfl gn (gy rfl) fun h4 eh4 S qb5 D =>
      have T := fj_hs_ok H.1 S
      have H := shp_st H T
      j_aldn (pc := 101) D rfl rfl rfl fun D =>
      have D : fk_D 605 [(102, none, .getfield 230, 3, 490, 129, 12), (105, none, .aload_n 0, 1, 0, 0, 0), (106, none, .getfield 842, 3, 486, 129, 10), (109, none, .aload_n 0, 1, 0, 0, 0), (110, none, .getfield 863, 3, 484, 129, 10), (113, none, .iastore, 1, 0, 0, 0), (114, none, .aload_n 0, 1, 0, 0, 0), (115, none, .getfield 233, 3, 491, 129, 12), (118, none, .aload_n 0, 1, 0, 0, 0), (119, none, .getfield 842, 3, 486, 129, 10), (122, none, .aload_n 0, 1, 0, 0, 0), (123, none, .getfield 866, 3, 485, 129, 10), (126, none, .iastore, 1, 0, 0, 0)] := fq_of2 cd_605 ow_605 cl_605 rfl (pc := 102) (by decide +kernel)
      j_gfc (pc := 102) (a := 602) D rfl rfl (by decide) rfl (s0_602 H) rfl (sf_490_602 H) fun D =>
      j_aldn (pc := 105) D rfl rfl rfl fun D =>
      j_gf (pc := 106) (a := 602) D rfl rfl (by decide) rfl (s0_602 H) rfl fun D =>
      j_aldn (pc := 109) D rfl rfl rfl fun D =>
      j_gf (pc := 110) (a := 602) D rfl rfl (by decide) rfl (s0_602 H) rfl fun D =>
      j_as (pc := 113) (a := 664) (e := 10) D rfl ⟨rfl, rfl⟩ rfl (by decide) (s0_664 H) (s1_664 H) ⟨rfl, rfl, rfl⟩ rfl gn (gy rfl) fun h6 eh6 S qb7 D =>
      have T := fj_hs_ok H.1 S
      have H := shp_st H T
      j_aldn (pc := 114) D rfl rfl rfl fun D =>
      j_gfc (pc := 115) (a := 602) D rfl rfl (by decide) rfl (s0_602 H) rfl (sf_491_602 H) fun D =>
      j_aldn (pc := 118) D rfl rfl rfl fun D =>
      j_gf (pc := 119) (a := 602) D rfl rfl (by decide) rfl (s0_602 H) rfl fun D =>
      j_aldn (pc := 122) D rfl rfl rfl fun D =>
      j_gf (pc := 123) (a := 602) D rfl rfl (by decide) rfl (s0_602 H) rfl fun D =>
      j_as (pc := 126) (a := 665) (e := 10) D rfl ⟨rfl, rfl⟩ rfl (by decide) (s0_665 H) (s1_665 H) ⟨rfl, rfl, rfl⟩ rfl gn (gy rfl) fun h8 eh8 S qb9 D =>
      have T := fj_hs_ok H.1 S
      have H := shp_st H T
      fk_jump cut_605_127 rfl rfl) (fun q3 h1 e1 =>
      j_tx (hx_605 _))
theorem e_605_127 (d : Nat) (x1 x2 x3 x4 : Int) {h : fi_H} (H : Shp h) : c_605_127 d x1 x2 x3 x4 h =
  lt_ (fi_upd h 487 602 0 (-1)) fun h1 =>
  lt_ (fi_upd h1 488 602 0 0) fun h2 =>
  lt_ (fi_upd h2 486 602 0 (wI ((h2 486 602 0) + 1))) fun h3 =>
  cv_ (fj_run d 607 h3 [(4, 602), (0, h2 486 602 0), (0, h3 482 602 0), (0, h3 485 602 0), (0, h3 483 602 0)])
    (fun h4 =>
    ca_ (fj_run d 608 h4 [(4, 602), (0, h2 486 602 0), (0, x1), (0, (-1)), (0, 0), (0, 0)]) 0
      (fun v8 h7 =>
      c_605_183 d x1 x2 x3 x4 v8 h7)
      (fun q9 h7 => tx_ q9 h7))
    (fun q6 h4 => tx_ q6 h4) := by
  unfold c_605_127
  exact
    have D : fk_D 605 [(127, some [0, 1, 2, 3, 4], .aload_n 0, 1, 0, 0, 0), (128, none, .iconst (-1), 1, 0, (-1), 0), (129, none, .putfield 224, 3, 487, 129, 10), (132, none, .aload_n 0, 1, 0, 0, 0), (133, none, .iconst 0, 1, 0, 0, 0), (134, none, .putfield 845, 3, 488, 129, 10), (137, none, .aload_n 0, 1, 0, 0, 0), (138, none, .getfield 842, 3, 486, 129, 10), (141, none, .istore 5, 2, 0, 0, 0), (143, none, .aload_n 0, 1, 0, 0, 0), (144, none, .dup, 1, 0, 0, 0), (145, none, .getfield 842, 3, 486, 129, 10), (148, none, .iconst 1, 1, 0, 1, 0), (149, none, .iadd, 1, 0, 0, 0), (150, none, .putfield 842, 3, 486, 129, 10), (153, none, .aload_n 0, 1, 0, 0, 0), (154, none, .iload 5, 2, 0, 0, 0), (156, none, .aload_n 0, 1, 0, 0, 0), (157, none, .getfield 893, 3, 482, 129, 10), (160, none, .aload_n 0, 1, 0, 0, 0)] := fq_of2 cd_605 ow_605 cl_605 rfl (pc := 127) (by decide +kernel)
    j_aldn (pc := 127) D rfl rfl rfl fun D =>
    j_ic (pc := 128) D rfl fun D =>
    j_pf (pc := 129) (a := 602) D rfl rfl rfl (s0_602 H) rfl rfl (gy (by decide)) (gy rfl) fun h1 eh1 S D =>
    have T := fj_hs_ok H.1 S
    have H := shp_st H T
    j_aldn (pc := 132) D rfl rfl rfl fun D =>
    j_ic (pc := 133) D rfl fun D =>
    j_pf (pc := 134) (a := 602) D rfl rfl rfl (s0_602 H) rfl rfl (gy (by decide)) (gy rfl) fun h2 eh2 S D =>
    have T := fj_hs_ok H.1 S
    have H := shp_st H T
    j_aldn (pc := 137) D rfl rfl rfl fun D =>
    j_gf (pc := 138) (a := 602) D rfl rfl (by decide) rfl (s0_602 H) rfl fun D =>
    j_ist (pc := 141) (L' := [(5, (0, h2 486 602 0)), (0, (4, 602)), (1, (0, x1)), (2, (0, x2)), (3, (0, x3)), (4, (0, x4))]) D rfl nl_605 rfl rfl fun D =>
    j_aldn (pc := 143) D rfl rfl rfl fun D =>
    j_sh (pc := 144) D rfl rfl rfl fun D =>
    j_gf (pc := 145) (a := 602) D rfl rfl (by decide) rfl (s0_602 H) rfl fun D =>
    j_ic (pc := 148) D rfl fun D =>
    j_iadd (pc := 149) D rfl fun D =>
    j_pf (pc := 150) (a := 602) D rfl rfl rfl (s0_602 H) rfl rfl (gy (by decide)) (gy rfl) fun h3 eh3 S D =>
    have T := fj_hs_ok H.1 S
    have H := shp_st H T
    j_aldn (pc := 153) D rfl rfl rfl fun D =>
    j_ild (pc := 154) D rfl rfl rfl fun D =>
    j_aldn (pc := 156) D rfl rfl rfl fun D =>
    j_gf (pc := 157) (a := 602) D rfl rfl (by decide) rfl (s0_602 H) rfl fun D =>
    j_aldn (pc := 160) D rfl rfl rfl fun D =>
    have D : fk_D 605 [(161, none, .getfield 866, 3, 485, 129, 10), (164, none, .aload_n 0, 1, 0, 0, 0), (165, none, .getfield 881, 3, 483, 129, 10), (168, none, .invokevirtual 896, 3, 4, 407, 0), (171, none, .aload_n 0, 1, 0, 0, 0), (172, none, .iload 5, 2, 0, 0, 0), (174, none, .iload_n 1, 1, 0, 0, 0), (175, none, .iconst (-1), 1, 0, (-1), 0), (176, none, .iconst 0, 1, 0, 0, 0), (177, none, .iconst 0, 1, 0, 0, 0), (178, none, .invokevirtual 900, 3, 5, 408, 1), (181, none, .istore 6, 2, 0, 0, 0)] := fq_of2 cd_605 ow_605 cl_605 rfl (pc := 161) (by decide +kernel)
    j_gf (pc := 161) (a := 602) D rfl rfl (by decide) rfl (s0_602 H) rfl fun D =>
    j_aldn (pc := 164) D rfl rfl rfl fun D =>
    j_gf (pc := 165) (a := 602) D rfl rfl (by decide) rfl (s0_602 H) rfl fun D =>
    j_ivv (pc := 168) (m := 607) (dd := 407) (a := [(0, h2 486 602 0), (0, h3 482 602 0), (0, h3 485 602 0), (0, h3 483 602 0)]) (rest := []) D rfl rfl rfl rfl rfl (by decide) (s0_602 H) (by decide +kernel) (fun h4 e1 D =>
      have T := fj_run_ok _ _ _ _ _ _ H.1 e1
      have H := shp_st H T
      j_aldn (pc := 171) D rfl rfl rfl fun D =>
      j_ild (pc := 172) D rfl rfl rfl fun D =>
      j_ildn (pc := 174) D rfl rfl rfl fun D =>
      j_ic (pc := 175) D rfl fun D =>
      j_ic (pc := 176) D rfl fun D =>
      j_ic (pc := 177) D rfl fun D =>
      j_iv (pc := 178) (m := 608) (dd := 408) (a := [(0, h2 486 602 0), (0, x1), (0, (-1)), (0, 0), (0, 0)]) (rest := []) D rfl rfl rfl rfl rfl (by decide) (s0_602 H) (by decide +kernel) (fun v8 h7 e1 D =>
        have T := fj_run_ok _ _ _ _ _ _ H.1 e1
        have H := shp_st H T
        j_ist (pc := 181) (L' := [(6, (0, v8)), (5, (0, h2 486 602 0)), (0, (4, 602)), (1, (0, x1)), (2, (0, x2)), (3, (0, x3)), (4, (0, x4))]) D rfl nl_605 rfl rfl fun D =>
        fk_jump cut_605_183 rfl rfl) (fun q9 h7 e1 =>
        j_tx (hx_605 _))) (fun q6 h4 e1 =>
      j_tx (hx_605 _))
theorem e_605_183 (d : Nat) (x1 x2 x3 x4 x6 : Int) {h : fi_H} (H : Shp h) : c_605_183 d x1 x2 x3 x4 x6 h =
  if x6 = 0 then
    if 0 ≤ x1 ∧ x1 < 41 then
    if h 4 614 x1.toNat = 0 then
      cv_ (fj_run d 577 h [(4, 602), (0, 1)])
        (fun h2 =>
        c_605_202 d x1 x2 x3 x4 h2)
        (fun q4 h2 => tx_ q4 h2)
    else
      c_605_202 d x1 x2 x3 x4 h
    else none
  else
    c_605_222 d x2 x3 x4 h := by
  unfold c_605_183
  exact
    have D : fk_D 605 [(183, some [0, 1, 2, 3, 4, 6], .iload 6, 2, 0, 0, 0), (185, none, .ifCond .ne 37, 3, 222, 0, 0), (188, none, .aload_n 0, 1, 0, 0, 0), (189, none, .getfield 52, 3, 410, 129, 12), (192, none, .iload_n 1, 1, 0, 0, 0), (193, none, .baload, 1, 0, 0, 0), (194, none, .ifCond .ne 8, 3, 202, 0, 0), (197, none, .aload_n 0, 1, 0, 0, 0), (198, none, .iconst 1, 1, 0, 1, 0), (199, none, .invokevirtual 854, 3, 1, 403, 0)] := fq_of2 cd_605 ow_605 cl_605 rfl (pc := 183) (by decide +kernel)
    j_ild (pc := 183) D rfl rfl rfl fun D =>
    j_ifne (pc := 185) D rfl (fun q D =>
      j_aldn (pc := 188) D rfl rfl rfl fun D =>
      j_gfc (pc := 189) (a := 602) D rfl rfl (by decide) rfl (s0_602 H) rfl (sf_410_602 H) fun D =>
      j_ildn (pc := 192) D rfl rfl rfl fun D =>
      j_al (pc := 193) (a := 614) (e := 4) D rfl rfl rfl (by decide) (s0_614 H) (s1_614 H) ⟨rfl, rfl, rfl⟩ rfl gn fun qb1 D =>
      j_ifne (pc := 194) D rfl (fun q D =>
        j_aldn (pc := 197) D rfl rfl rfl fun D =>
        j_ic (pc := 198) D rfl fun D =>
        j_ivv (pc := 199) (m := 577) (dd := 403) (a := [(0, 1)]) (rest := []) D rfl rfl rfl rfl rfl (by decide) (s0_602 H) (by decide +kernel) (fun h2 e1 D =>
          have T := fj_run_ok _ _ _ _ _ _ H.1 e1
          have H := shp_st H T
          fk_jump cut_605_202 rfl rfl) (fun q4 h2 e1 =>
          j_tx (hx_605 _))) (fun q =>
        fk_jump cut_605_202 rfl rfl)) (fun q =>
      fk_jump cut_605_222 rfl rfl)
theorem e_605_202 (d : Nat) (x1 x2 x3 x4 : Int) {h : fi_H} (H : Shp h) : c_605_202 d x1 x2 x3 x4 h =
  if 0 ≤ x1 ∧ x1 < 41 then
  lt_ (fi_upd h 492 602 0 (h 11 615 x1.toNat)) fun h2 =>
  lt_ (fi_upd h2 493 602 0 (h2 11 616 x1.toNat)) fun h3 =>
  c_605_222 d x2 x3 x4 h3
  else none := by
  unfold c_605_202
  exact
    have D : fk_D 605 [(202, some [0, 1, 2, 3, 4], .aload_n 0, 1, 0, 0, 0), (203, none, .aload_n 0, 1, 0, 0, 0), (204, none, .getfield 56, 3, 411, 129, 12), (207, none, .iload_n 1, 1, 0, 0, 0), (208, none, .laload, 1, 0, 0, 0), (209, none, .putfield 869, 3, 492, 129, 11), (212, none, .aload_n 0, 1, 0, 0, 0), (213, none, .aload_n 0, 1, 0, 0, 0), (214, none, .getfield 59, 3, 412, 129, 12), (217, none, .iload_n 1, 1, 0, 0, 0), (218, none, .laload, 1, 0, 0, 0), (219, none, .putfield 872, 3, 493, 129, 11)] := fq_of2 cd_605 ow_605 cl_605 rfl (pc := 202) (by decide +kernel)
    j_aldn (pc := 202) D rfl rfl rfl fun D =>
    j_aldn (pc := 203) D rfl rfl rfl fun D =>
    j_gfc (pc := 204) (a := 602) D rfl rfl (by decide) rfl (s0_602 H) rfl (sf_411_602 H) fun D =>
    j_ildn (pc := 207) D rfl rfl rfl fun D =>
    j_al (pc := 208) (a := 615) (e := 11) D rfl rfl rfl (by decide) (s0_615 H) (s1_615 H) ⟨rfl, rfl, rfl⟩ rfl gn fun qb1 D =>
    j_pf (pc := 209) (a := 602) D rfl rfl rfl (s0_602 H) rfl rfl (gy (by decide)) (gy rfl) fun h2 eh2 S D =>
    have T := fj_hs_ok H.1 S
    have H := shp_st H T
    j_aldn (pc := 212) D rfl rfl rfl fun D =>
    j_aldn (pc := 213) D rfl rfl rfl fun D =>
    j_gfc (pc := 214) (a := 602) D rfl rfl (by decide) rfl (s0_602 H) rfl (sf_412_602 H) fun D =>
    j_ildn (pc := 217) D rfl rfl rfl fun D =>
    j_al (pc := 218) (a := 616) (e := 11) D rfl rfl rfl (by decide) (s0_616 H) (s1_616 H) ⟨rfl, rfl, rfl⟩ rfl (gy qb1) fun q D =>
    j_pf (pc := 219) (a := 602) D rfl rfl rfl (s0_602 H) rfl rfl (gy (by decide)) (gy rfl) fun h3 eh3 S D =>
    have T := fj_hs_ok H.1 S
    have H := shp_st H T
    fk_jump cut_605_222 rfl rfl
theorem e_605_222 (d : Nat) (x2 x3 x4 : Int) {h : fi_H} (H : Shp h) : c_605_222 d x2 x3 x4 h =
  lt_ (fi_upd h 486 602 0 (wI ((h 486 602 0) - 1))) fun h1 =>
  lt_ (fi_upd h1 487 602 0 x3) fun h2 =>
  lt_ (fi_upd h2 488 602 0 x4) fun h3 =>
  cv_ (fj_run d 612 h3 [(4, 602), (0, x2), (0, 0)])
    (fun h4 =>
    some (.inl none, h4))
    (fun q6 h4 => tx_ q6 h4) := by
  unfold c_605_222
  exact
    have D : fk_D 605 [(222, some [0, 2, 3, 4], .aload_n 0, 1, 0, 0, 0), (223, none, .dup, 1, 0, 0, 0), (224, none, .getfield 842, 3, 486, 129, 10), (227, none, .iconst 1, 1, 0, 1, 0), (228, none, .isub, 1, 0, 0, 0), (229, none, .putfield 842, 3, 486, 129, 10), (232, none, .aload_n 0, 1, 0, 0, 0), (233, none, .iload_n 3, 1, 0, 0, 0), (234, none, .putfield 224, 3, 487, 129, 10), (237, none, .aload_n 0, 1, 0, 0, 0), (238, none, .iload 4, 2, 0, 0, 0), (240, none, .putfield 845, 3, 488, 129, 10), (243, none, .aload_n 0, 1, 0, 0, 0), (244, none, .iload_n 2, 1, 0, 0, 0), (245, none, .iconst 0, 1, 0, 0, 0), (246, none, .invokevirtual 890, 3, 2, 406, 0), (249, none, .return_, 1, 0, 0, 0)] := fq_of2 cd_605 ow_605 cl_605 rfl (pc := 222) (by decide +kernel)
    j_aldn (pc := 222) D rfl rfl rfl fun D =>
    j_sh (pc := 223) D rfl rfl rfl fun D =>
    j_gf (pc := 224) (a := 602) D rfl rfl (by decide) rfl (s0_602 H) rfl fun D =>
    j_ic (pc := 227) D rfl fun D =>
    j_isub (pc := 228) D rfl fun D =>
    j_pf (pc := 229) (a := 602) D rfl rfl rfl (s0_602 H) rfl rfl (gy (by decide)) (gy rfl) fun h1 eh1 S D =>
    have T := fj_hs_ok H.1 S
    have H := shp_st H T
    j_aldn (pc := 232) D rfl rfl rfl fun D =>
    j_ildn (pc := 233) D rfl rfl rfl fun D =>
    j_pf (pc := 234) (a := 602) D rfl rfl rfl (s0_602 H) rfl rfl (gy (by decide)) (gy rfl) fun h2 eh2 S D =>
    have T := fj_hs_ok H.1 S
    have H := shp_st H T
    j_aldn (pc := 237) D rfl rfl rfl fun D =>
    j_ild (pc := 238) D rfl rfl rfl fun D =>
    j_pf (pc := 240) (a := 602) D rfl rfl rfl (s0_602 H) rfl rfl (gy (by decide)) (gy rfl) fun h3 eh3 S D =>
    have T := fj_hs_ok H.1 S
    have H := shp_st H T
    j_aldn (pc := 243) D rfl rfl rfl fun D =>
    j_ildn (pc := 244) D rfl rfl rfl fun D =>
    j_ic (pc := 245) D rfl fun D =>
    j_ivv (pc := 246) (m := 612) (dd := 406) (a := [(0, x2), (0, 0)]) (rest := []) D rfl rfl rfl rfl rfl (by decide) (s0_602 H) (by decide +kernel) (fun h4 e1 D =>
      have T := fj_run_ok _ _ _ _ _ _ H.1 e1
      have H := shp_st H T
      j_vret D rt_605) (fun q6 h4 e1 =>
      j_tx (hx_605 _))
theorem m_605 (d : Nat) (x1 : Int) {h : fi_H} (H : Shp h) : fj_run (d + 1) 605 h [(4, 602), (0, x1)] =
  c_605_2 d x1 0 h := by
  rw [fj_run_eq d (by decide) h [(4, 602), (0, x1)] (Nat.le_of_ble_eq_true (by rw [nl_605]; rfl))]
  show gG (fj_run d) 605 0 [(0, (4, 602)), (1, (0, x1))] [] h = _
  exact
    have D : fk_D 605 [(0, none, .iconst 0, 1, 0, 0, 0), (1, none, .istore_n 2, 1, 0, 0, 0)] := fq_of2 cd_605 ow_605 cl_605 rfl (pc := 0) (by decide +kernel)
    j_ic (pc := 0) D rfl fun D =>
    j_istn (pc := 1) (L' := [(2, (0, 0)), (0, (4, 602)), (1, (0, x1))]) D rfl nl_605 rfl rfl fun D =>
    fk_jump cut_605_2 rfl rfl
/-! 606 StatuteHouseModel.line(IIII)I -/
theorem cd_606 : fi_code 606 = prog_69_method_96_code := rfl
theorem hx_606 : ∀ pc, fi_hat 606 pc = none := fun pc => by unfold fi_hat; rw [show fi_hh 606 = [] from rfl]; rfl
theorem rt_606 : fi_ret 606 = some .int := rfl
theorem nl_606 : fi_nl 606 = 6 := rfl
theorem ow_606 : fi_ow 606 = 29 := rfl
theorem cl_606 : fj_cutT.getD 606 [] = [(92, [0, 4, 5])] := rfl
theorem cut_606_92 : fj_cut 606 92 = some [0, 4, 5] := by decide +kernel
noncomputable def c_606_92 (d : Nat) (x4 x5 : Int) (h : fi_H) : fk_R := gG (fj_run d) 606 92 [(0, (4, 602)), (4, (0, x4)), (5, (0, x5))] [] h
theorem e_606_92 (d : Nat) (x4 x5 : Int) {h : fi_H} (H : Shp h) : c_606_92 d x4 x5 h =
  if 0 ≤ x5 ∧ x5 < 300 then
  lt_ (fi_upd h 10 672 x5.toNat x4) fun h1 =>
  lt_ (fi_upd h1 10 673 x5.toNat 0) fun h3 =>
  lt_ (fi_upd h3 11 674 x5.toNat 0) fun h4 =>
  lt_ (fi_upd h4 11 675 x5.toNat 0) fun h5 =>
  lt_ (fi_upd h5 4 676 x5.toNat 0) fun h6 =>
  some (.inl (some (0, x5)), h6)
  else none := by
  unfold c_606_92
  exact
    have D : fk_D 606 [(92, some [0, 4, 5], .aload_n 0, 1, 0, 0, 0), (93, none, .getfield 254, 3, 502, 129, 12), (96, none, .iload 5, 2, 0, 0, 0), (98, none, .iload 4, 2, 0, 0, 0), (100, none, .iastore, 1, 0, 0, 0), (101, none, .aload_n 0, 1, 0, 0, 0), (102, none, .getfield 257, 3, 503, 129, 12), (105, none, .iload 5, 2, 0, 0, 0), (107, none, .iconst 0, 1, 0, 0, 0), (108, none, .iastore, 1, 0, 0, 0), (109, none, .aload_n 0, 1, 0, 0, 0), (110, none, .getfield 260, 3, 504, 129, 12), (113, none, .iload 5, 2, 0, 0, 0), (115, none, .lconst 0, 1, 0, 0, 0), (116, none, .lastore, 1, 0, 0, 0), (117, none, .aload_n 0, 1, 0, 0, 0), (118, none, .getfield 263, 3, 505, 129, 12), (121, none, .iload 5, 2, 0, 0, 0), (123, none, .lconst 0, 1, 0, 0, 0), (124, none, .lastore, 1, 0, 0, 0)] := fq_of2 cd_606 ow_606 cl_606 rfl (pc := 92) (by decide +kernel)
    j_aldn (pc := 92) D rfl rfl rfl fun D =>
    j_gfc (pc := 93) (a := 602) D rfl rfl (by decide) rfl (s0_602 H) rfl (sf_502_602 H) fun D =>
    j_ild (pc := 96) D rfl rfl rfl fun D =>
    j_ild (pc := 98) D rfl rfl rfl fun D =>
    j_as (pc := 100) (a := 672) (e := 10) D rfl ⟨rfl, rfl⟩ rfl (by decide) (s0_672 H) (s1_672 H) ⟨rfl, rfl, rfl⟩ rfl gn (gy rfl) fun h1 eh1 S qb2 D =>
    have T := fj_hs_ok H.1 S
    have H := shp_st H T
    j_aldn (pc := 101) D rfl rfl rfl fun D =>
    j_gfc (pc := 102) (a := 602) D rfl rfl (by decide) rfl (s0_602 H) rfl (sf_503_602 H) fun D =>
    j_ild (pc := 105) D rfl rfl rfl fun D =>
    j_ic (pc := 107) D rfl fun D =>
    j_as (pc := 108) (a := 673) (e := 10) D rfl ⟨rfl, rfl⟩ rfl (by decide) (s0_673 H) (s1_673 H) ⟨rfl, rfl, rfl⟩ rfl (gy qb2) (gy rfl) fun h3 eh3 S q D =>
    have T := fj_hs_ok H.1 S
    have H := shp_st H T
    j_aldn (pc := 109) D rfl rfl rfl fun D =>
    j_gfc (pc := 110) (a := 602) D rfl rfl (by decide) rfl (s0_602 H) rfl (sf_504_602 H) fun D =>
    j_ild (pc := 113) D rfl rfl rfl fun D =>
    j_c0 (pc := 115) (v := (1, 0)) D rfl rfl (by decide +kernel) fun D =>
    j_as (pc := 116) (a := 674) (e := 11) D rfl ⟨rfl, rfl⟩ rfl (by decide) (s0_674 H) (s1_674 H) ⟨rfl, rfl, rfl⟩ rfl (gy qb2) (gy rfl) fun h4 eh4 S q D =>
    have T := fj_hs_ok H.1 S
    have H := shp_st H T
    j_aldn (pc := 117) D rfl rfl rfl fun D =>
    j_gfc (pc := 118) (a := 602) D rfl rfl (by decide) rfl (s0_602 H) rfl (sf_505_602 H) fun D =>
    j_ild (pc := 121) D rfl rfl rfl fun D =>
    j_c0 (pc := 123) (v := (1, 0)) D rfl rfl (by decide +kernel) fun D =>
    j_as (pc := 124) (a := 675) (e := 11) D rfl ⟨rfl, rfl⟩ rfl (by decide) (s0_675 H) (s1_675 H) ⟨rfl, rfl, rfl⟩ rfl (gy qb2) (gy rfl) fun h5 eh5 S q D =>
    have T := fj_hs_ok H.1 S
    have H := shp_st H T
    have D : fk_D 606 [(125, none, .aload_n 0, 1, 0, 0, 0), (126, none, .getfield 266, 3, 506, 129, 12), (129, none, .iload 5, 2, 0, 0, 0), (131, none, .iconst 0, 1, 0, 0, 0), (132, none, .bastore, 1, 0, 0, 0), (133, none, .iload 5, 2, 0, 0, 0), (135, none, .ireturn, 1, 0, 0, 0)] := fq_of2 cd_606 ow_606 cl_606 rfl (pc := 125) (by decide +kernel)
    j_aldn (pc := 125) D rfl rfl rfl fun D =>
    j_gfc (pc := 126) (a := 602) D rfl rfl (by decide) rfl (s0_602 H) rfl (sf_506_602 H) fun D =>
    j_ild (pc := 129) D rfl rfl rfl fun D =>
    j_ic (pc := 131) D rfl fun D =>
    j_as (pc := 132) (a := 676) (e := 4) D rfl ⟨rfl, rfl⟩ rfl (by decide) (s0_676 H) (s1_676 H) ⟨rfl, rfl, rfl⟩ rfl (gy qb2) (gy (by decide)) fun h6 eh6 S q D =>
    have T := fj_hs_ok H.1 S
    have H := shp_st H T
    j_ild (pc := 133) D rfl rfl rfl fun D =>
    j_iret D rt_606
theorem m_606 (d : Nat) (x1 x2 x3 x4 : Int) {h : fi_H} (H : Shp h) : fj_run (d + 1) 606 h [(4, 602), (0, x1), (0, x2), (0, x3), (0, x4)] =
  if h 494 602 0 = 0 then
    some (.inl (some (0, (-1))), h)
  else
    lt_ (fi_upd h 495 602 0 (wI ((h 495 602 0) + 1))) fun h1 =>
    if h 495 602 0 < 300 then
      if 0 ≤ h 495 602 0 ∧ h 495 602 0 < 300 then
      lt_ (fi_upd h1 10 666 (h 495 602 0).toNat x1) fun h2 =>
      lt_ (fi_upd h2 10 667 (h 495 602 0).toNat (h2 486 602 0)) fun h4 =>
      lt_ (fi_upd h4 10 668 (h 495 602 0).toNat x2) fun h5 =>
      lt_ (fi_upd h5 10 669 (h 495 602 0).toNat (h5 484 602 0)) fun h6 =>
      lt_ (fi_upd h6 10 670 (h 495 602 0).toNat (h6 485 602 0)) fun h7 =>
      lt_ (fi_upd h7 10 671 (h 495 602 0).toNat x3) fun h8 =>
      c_606_92 d x4 (h 495 602 0) h8
      else none
    else
      some (.inl (some (0, (-1))), h1) := by
  rw [fj_run_eq d (by decide) h [(4, 602), (0, x1), (0, x2), (0, x3), (0, x4)] (Nat.le_of_ble_eq_true (by rw [nl_606]; rfl))]
  show gG (fj_run d) 606 0 [(0, (4, 602)), (1, (0, x1)), (2, (0, x2)), (3, (0, x3)), (4, (0, x4))] [] h = _
  exact
    have D : fk_D 606 [(0, none, .aload_n 0, 1, 0, 0, 0), (1, none, .getfield 857, 3, 494, 129, 4), (4, none, .ifCond .ne 5, 3, 9, 0, 0), (7, none, .iconst (-1), 1, 0, (-1), 0), (8, none, .ireturn, 1, 0, 0, 0)] := fq_of2 cd_606 ow_606 cl_606 rfl (pc := 0) (by decide +kernel)
    j_aldn (pc := 0) D rfl rfl rfl fun D =>
    j_gf (pc := 1) (a := 602) D rfl rfl (by decide) rfl (s0_602 H) rfl fun D =>
    j_ifne (pc := 4) D rfl (fun q D =>
      j_ic (pc := 7) D rfl fun D =>
      j_iret D rt_606) (fun q =>
      have D : fk_D 606 [(9, none, .aload_n 0, 1, 0, 0, 0), (10, none, .getfield 860, 3, 495, 129, 10), (13, none, .istore 5, 2, 0, 0, 0), (15, none, .aload_n 0, 1, 0, 0, 0), (16, none, .dup, 1, 0, 0, 0), (17, none, .getfield 860, 3, 495, 129, 10), (20, none, .iconst 1, 1, 0, 1, 0), (21, none, .iadd, 1, 0, 0, 0), (22, none, .putfield 860, 3, 495, 129, 10), (25, none, .iload 5, 2, 0, 0, 0), (27, none, .sipush 300, 3, 0, 300, 0), (30, none, .if_icmp .lt 5, 3, 35, 0, 0), (33, none, .iconst (-1), 1, 0, (-1), 0), (34, none, .ireturn, 1, 0, 0, 0)] := fq_of2 cd_606 ow_606 cl_606 rfl (pc := 9) (by decide +kernel)
      j_aldn (pc := 9) D rfl rfl rfl fun D =>
      j_gf (pc := 10) (a := 602) D rfl rfl (by decide) rfl (s0_602 H) rfl fun D =>
      j_ist (pc := 13) (L' := [(5, (0, h 495 602 0)), (0, (4, 602)), (1, (0, x1)), (2, (0, x2)), (3, (0, x3)), (4, (0, x4))]) D rfl nl_606 rfl rfl fun D =>
      j_aldn (pc := 15) D rfl rfl rfl fun D =>
      j_sh (pc := 16) D rfl rfl rfl fun D =>
      j_gf (pc := 17) (a := 602) D rfl rfl (by decide) rfl (s0_602 H) rfl fun D =>
      j_ic (pc := 20) D rfl fun D =>
      j_iadd (pc := 21) D rfl fun D =>
      j_pf (pc := 22) (a := 602) D rfl rfl rfl (s0_602 H) rfl rfl (gy (by decide)) (gy rfl) fun h1 eh1 S D =>
      have T := fj_hs_ok H.1 S
      have H := shp_st H T
      j_ild (pc := 25) D rfl rfl rfl fun D =>
      j_sp (pc := 27) D rfl fun D =>
      j_ilt (pc := 30) D rfl (fun q =>
        have D : fk_D 606 [(35, none, .aload_n 0, 1, 0, 0, 0), (36, none, .getfield 236, 3, 496, 129, 12), (39, none, .iload 5, 2, 0, 0, 0), (41, none, .iload_n 1, 1, 0, 0, 0), (42, none, .iastore, 1, 0, 0, 0), (43, none, .aload_n 0, 1, 0, 0, 0), (44, none, .getfield 239, 3, 497, 129, 12), (47, none, .iload 5, 2, 0, 0, 0), (49, none, .aload_n 0, 1, 0, 0, 0), (50, none, .getfield 842, 3, 486, 129, 10), (53, none, .iastore, 1, 0, 0, 0), (54, none, .aload_n 0, 1, 0, 0, 0), (55, none, .getfield 242, 3, 498, 129, 12), (58, none, .iload 5, 2, 0, 0, 0), (60, none, .iload_n 2, 1, 0, 0, 0), (61, none, .iastore, 1, 0, 0, 0), (62, none, .aload_n 0, 1, 0, 0, 0), (63, none, .getfield 245, 3, 499, 129, 12), (66, none, .iload 5, 2, 0, 0, 0), (68, none, .aload_n 0, 1, 0, 0, 0)] := fq_of2 cd_606 ow_606 cl_606 rfl (pc := 35) (by decide +kernel)
        j_aldn (pc := 35) D rfl rfl rfl fun D =>
        j_gfc (pc := 36) (a := 602) D rfl rfl (by decide) rfl (s0_602 H) rfl (sf_496_602 H) fun D =>
        j_ild (pc := 39) D rfl rfl rfl fun D =>
        j_ildn (pc := 41) D rfl rfl rfl fun D =>
        j_as (pc := 42) (a := 666) (e := 10) D rfl ⟨rfl, rfl⟩ rfl (by decide) (s0_666 H) (s1_666 H) ⟨rfl, rfl, rfl⟩ rfl gn (gy rfl) fun h2 eh2 S qb3 D =>
        have T := fj_hs_ok H.1 S
        have H := shp_st H T
        j_aldn (pc := 43) D rfl rfl rfl fun D =>
        j_gfc (pc := 44) (a := 602) D rfl rfl (by decide) rfl (s0_602 H) rfl (sf_497_602 H) fun D =>
        j_ild (pc := 47) D rfl rfl rfl fun D =>
        j_aldn (pc := 49) D rfl rfl rfl fun D =>
        j_gf (pc := 50) (a := 602) D rfl rfl (by decide) rfl (s0_602 H) rfl fun D =>
        j_as (pc := 53) (a := 667) (e := 10) D rfl ⟨rfl, rfl⟩ rfl (by decide) (s0_667 H) (s1_667 H) ⟨rfl, rfl, rfl⟩ rfl (gy qb3) (gy rfl) fun h4 eh4 S q D =>
        have T := fj_hs_ok H.1 S
        have H := shp_st H T
        j_aldn (pc := 54) D rfl rfl rfl fun D =>
        j_gfc (pc := 55) (a := 602) D rfl rfl (by decide) rfl (s0_602 H) rfl (sf_498_602 H) fun D =>
        j_ild (pc := 58) D rfl rfl rfl fun D =>
        j_ildn (pc := 60) D rfl rfl rfl fun D =>
        j_as (pc := 61) (a := 668) (e := 10) D rfl ⟨rfl, rfl⟩ rfl (by decide) (s0_668 H) (s1_668 H) ⟨rfl, rfl, rfl⟩ rfl (gy qb3) (gy rfl) fun h5 eh5 S q D =>
        have T := fj_hs_ok H.1 S
        have H := shp_st H T
        j_aldn (pc := 62) D rfl rfl rfl fun D =>
        j_gfc (pc := 63) (a := 602) D rfl rfl (by decide) rfl (s0_602 H) rfl (sf_499_602 H) fun D =>
        j_ild (pc := 66) D rfl rfl rfl fun D =>
        j_aldn (pc := 68) D rfl rfl rfl fun D =>
        have D : fk_D 606 [(69, none, .getfield 863, 3, 484, 129, 10), (72, none, .iastore, 1, 0, 0, 0), (73, none, .aload_n 0, 1, 0, 0, 0), (74, none, .getfield 248, 3, 500, 129, 12), (77, none, .iload 5, 2, 0, 0, 0), (79, none, .aload_n 0, 1, 0, 0, 0), (80, none, .getfield 866, 3, 485, 129, 10), (83, none, .iastore, 1, 0, 0, 0), (84, none, .aload_n 0, 1, 0, 0, 0), (85, none, .getfield 251, 3, 501, 129, 12), (88, none, .iload 5, 2, 0, 0, 0), (90, none, .iload_n 3, 1, 0, 0, 0), (91, none, .iastore, 1, 0, 0, 0)] := fq_of2 cd_606 ow_606 cl_606 rfl (pc := 69) (by decide +kernel)
        j_gf (pc := 69) (a := 602) D rfl rfl (by decide) rfl (s0_602 H) rfl fun D =>
        j_as (pc := 72) (a := 669) (e := 10) D rfl ⟨rfl, rfl⟩ rfl (by decide) (s0_669 H) (s1_669 H) ⟨rfl, rfl, rfl⟩ rfl (gy qb3) (gy rfl) fun h6 eh6 S q D =>
        have T := fj_hs_ok H.1 S
        have H := shp_st H T
        j_aldn (pc := 73) D rfl rfl rfl fun D =>
        j_gfc (pc := 74) (a := 602) D rfl rfl (by decide) rfl (s0_602 H) rfl (sf_500_602 H) fun D =>
        j_ild (pc := 77) D rfl rfl rfl fun D =>
        j_aldn (pc := 79) D rfl rfl rfl fun D =>
        j_gf (pc := 80) (a := 602) D rfl rfl (by decide) rfl (s0_602 H) rfl fun D =>
        j_as (pc := 83) (a := 670) (e := 10) D rfl ⟨rfl, rfl⟩ rfl (by decide) (s0_670 H) (s1_670 H) ⟨rfl, rfl, rfl⟩ rfl (gy qb3) (gy rfl) fun h7 eh7 S q D =>
        have T := fj_hs_ok H.1 S
        have H := shp_st H T
        j_aldn (pc := 84) D rfl rfl rfl fun D =>
        j_gfc (pc := 85) (a := 602) D rfl rfl (by decide) rfl (s0_602 H) rfl (sf_501_602 H) fun D =>
        j_ild (pc := 88) D rfl rfl rfl fun D =>
        j_ildn (pc := 90) D rfl rfl rfl fun D =>
        j_as (pc := 91) (a := 671) (e := 10) D rfl ⟨rfl, rfl⟩ rfl (by decide) (s0_671 H) (s1_671 H) ⟨rfl, rfl, rfl⟩ rfl (gy qb3) (gy rfl) fun h8 eh8 S q D =>
        have T := fj_hs_ok H.1 S
        have H := shp_st H T
        fk_jump cut_606_92 rfl rfl) (fun q D =>
        j_ic (pc := 33) D rfl fun D =>
        j_iret D rt_606))
/-! 607 StatuteHouseModel.inForce(IIII)V -/
theorem cd_607 : fi_code 607 = prog_69_method_91_code := rfl
theorem hx_607 : ∀ pc, fi_hat 607 pc = none := fun pc => by unfold fi_hat; rw [show fi_hh 607 = [] from rfl]; rfl
theorem rt_607 : fi_ret 607 = none := rfl
theorem nl_607 : fi_nl 607 = 11 := rfl
theorem ow_607 : fi_ow 607 = 29 := rfl
theorem cl_607 : fj_cutT.getD 607 [] = [(32, [0, 1, 2, 3, 4, 5, 6, 7]), (88, [0, 1, 2, 3, 4, 5, 6, 7, 8, 9]), (126, [0, 1, 2, 3, 4, 5, 6, 7, 8, 9]), (202, [0, 1, 2, 3, 4, 5, 6, 7, 8, 9]), (206, [0, 1, 2, 3, 4, 5, 6, 7, 8, 9, 10]), (256, [0, 1, 2, 3, 4, 5, 6, 7])] := rfl
theorem cut_607_32 : fj_cut 607 32 = some [0, 1, 2, 3, 4, 5, 6, 7] := by decide +kernel
noncomputable def c_607_32 (d : Nat) (x1 x2 x3 x4 x5 x6 x7 : Int) (h : fi_H) : fk_R := gG (fj_run d) 607 32 [(0, (4, 602)), (1, (0, x1)), (2, (0, x2)), (3, (0, x3)), (4, (0, x4)), (5, (0, x5)), (6, (0, x6)), (7, (0, x7))] [] h
theorem cut_607_88 : fj_cut 607 88 = some [0, 1, 2, 3, 4, 5, 6, 7, 8, 9] := by decide +kernel
noncomputable def c_607_88 (d : Nat) (x1 x2 x3 x4 x5 x6 x7 x8 x9 : Int) (h : fi_H) : fk_R := gG (fj_run d) 607 88 [(0, (4, 602)), (1, (0, x1)), (2, (0, x2)), (3, (0, x3)), (4, (0, x4)), (5, (0, x5)), (6, (0, x6)), (7, (0, x7)), (8, (0, x8)), (9, (0, x9))] [] h
theorem cut_607_126 : fj_cut 607 126 = some [0, 1, 2, 3, 4, 5, 6, 7, 8, 9] := by decide +kernel
noncomputable def c_607_126 (d : Nat) (x1 x2 x3 x4 x5 x6 x7 x8 x9 : Int) (h : fi_H) : fk_R := gG (fj_run d) 607 126 [(0, (4, 602)), (1, (0, x1)), (2, (0, x2)), (3, (0, x3)), (4, (0, x4)), (5, (0, x5)), (6, (0, x6)), (7, (0, x7)), (8, (0, x8)), (9, (0, x9))] [] h
theorem cut_607_202 : fj_cut 607 202 = some [0, 1, 2, 3, 4, 5, 6, 7, 8, 9] := by decide +kernel
noncomputable def c_607_202 (d : Nat) (x1 x2 x3 x4 x5 x6 x7 x8 x9 : Int) (h : fi_H) : fk_R := gG (fj_run d) 607 202 [(0, (4, 602)), (1, (0, x1)), (2, (0, x2)), (3, (0, x3)), (4, (0, x4)), (5, (0, x5)), (6, (0, x6)), (7, (0, x7)), (8, (0, x8)), (9, (0, x9))] [] h
theorem cut_607_206 : fj_cut 607 206 = some [0, 1, 2, 3, 4, 5, 6, 7, 8, 9, 10] := by decide +kernel
noncomputable def c_607_206 (d : Nat) (x1 x2 x3 x4 x5 x6 x7 x8 x9 x10 : Int) (h : fi_H) : fk_R := gG (fj_run d) 607 206 [(0, (4, 602)), (1, (0, x1)), (2, (0, x2)), (3, (0, x3)), (4, (0, x4)), (5, (0, x5)), (6, (0, x6)), (7, (0, x7)), (8, (0, x8)), (9, (0, x9)), (10, (0, x10))] [] h
theorem cut_607_256 : fj_cut 607 256 = some [0, 1, 2, 3, 4, 5, 6, 7] := by decide +kernel
noncomputable def c_607_256 (d : Nat) (x1 x2 x3 x4 x5 x6 x7 : Int) (h : fi_H) : fk_R := gG (fj_run d) 607 256 [(0, (4, 602)), (1, (0, x1)), (2, (0, x2)), (3, (0, x3)), (4, (0, x4)), (5, (0, x5)), (6, (0, x6)), (7, (0, x7))] [] h
theorem e_607_32 (d : Nat) (x1 x2 x3 x4 x5 x6 x7 : Int) {h : fi_H} (H : Shp h) : c_607_32 d x1 x2 x3 x4 x5 x6 x7 h =
  if 0 ≤ x2 ∧ x2 < 4 then
  if x7 < wI ((wI (200 * x2)) + (h 10 642 x2.toNat)) then
    if 0 ≤ x7 ∧ x7 < 800 then
    if 0 ≤ h 10 639 x7.toNat ∧ h 10 639 x7.toNat < 240 then
    if x3 < h 10 636 (h 10 639 x7.toNat).toNat then
      c_607_256 d x1 x2 x3 x4 x5 x6 x7 h
    else
      if x4 < h 10 640 x7.toNat then
        c_607_256 d x1 x2 x3 x4 x5 x6 x7 h
      else
        c_607_88 d x1 x2 x3 x4 x5 x6 x7 (h 10 639 x7.toNat) x6 h
    else none
    else none
  else
    if 0 ≤ x1 ∧ x1 < 16 then
    lt_ (fi_upd h 10 647 x1.toNat x6) fun h4 =>
    some (.inl none, h4)
    else none
  else none := by
  unfold c_607_32
  exact
    have D : fk_D 607 [(32, some [0, 1, 2, 3, 4, 5, 6, 7], .iload 7, 2, 0, 0, 0), (34, none, .sipush 200, 3, 0, 200, 0), (37, none, .iload_n 2, 1, 0, 0, 0), (38, none, .imul, 1, 0, 0, 0), (39, none, .aload_n 0, 1, 0, 0, 0), (40, none, .getfield 137, 3, 448, 129, 12), (43, none, .iload_n 2, 1, 0, 0, 0), (44, none, .iaload, 1, 0, 0, 0), (45, none, .iadd, 1, 0, 0, 0), (46, none, .if_icmp .ge 216, 3, 262, 0, 0), (49, none, .aload_n 0, 1, 0, 0, 0), (50, none, .getfield 128, 3, 445, 129, 12), (53, none, .iload 7, 2, 0, 0, 0), (55, none, .iaload, 1, 0, 0, 0), (56, none, .istore 8, 2, 0, 0, 0), (58, none, .aload_n 0, 1, 0, 0, 0), (59, none, .getfield 119, 3, 441, 129, 12), (62, none, .iload 8, 2, 0, 0, 0), (64, none, .iaload, 1, 0, 0, 0), (65, none, .iload_n 3, 1, 0, 0, 0)] := fq_of2 cd_607 ow_607 cl_607 rfl (pc := 32) (by decide +kernel)
    j_ild (pc := 32) D rfl rfl rfl fun D =>
    j_sp (pc := 34) D rfl fun D =>
    j_ildn (pc := 37) D rfl rfl rfl fun D =>
    j_imul (pc := 38) D rfl fun D =>
    j_aldn (pc := 39) D rfl rfl rfl fun D =>
    j_gfc (pc := 40) (a := 602) D rfl rfl (by decide) rfl (s0_602 H) rfl (sf_448_602 H) fun D =>
    j_ildn (pc := 43) D rfl rfl rfl fun D =>
    j_al (pc := 44) (a := 642) (e := 10) D rfl rfl rfl (by decide) (s0_642 H) (s1_642 H) ⟨rfl, rfl, rfl⟩ rfl gn fun qb1 D =>
    j_iadd (pc := 45) D rfl fun D =>
    j_ige (pc := 46) D rfl (fun q D =>
      j_aldn (pc := 49) D rfl rfl rfl fun D =>
      j_gfc (pc := 50) (a := 602) D rfl rfl (by decide) rfl (s0_602 H) rfl (sf_445_602 H) fun D =>
      j_ild (pc := 53) D rfl rfl rfl fun D =>
      j_al (pc := 55) (a := 639) (e := 10) D rfl rfl rfl (by decide) (s0_639 H) (s1_639 H) ⟨rfl, rfl, rfl⟩ rfl gn fun qb2 D =>
      j_ist (pc := 56) (L' := [(8, (0, h 10 639 x7.toNat)), (0, (4, 602)), (1, (0, x1)), (2, (0, x2)), (3, (0, x3)), (4, (0, x4)), (5, (0, x5)), (6, (0, x6)), (7, (0, x7))]) D rfl nl_607 rfl rfl fun D =>
      j_aldn (pc := 58) D rfl rfl rfl fun D =>
      j_gfc (pc := 59) (a := 602) D rfl rfl (by decide) rfl (s0_602 H) rfl (sf_441_602 H) fun D =>
      j_ild (pc := 62) D rfl rfl rfl fun D =>
      j_al (pc := 64) (a := 636) (e := 10) D rfl rfl rfl (by decide) (s0_636 H) (s1_636 H) ⟨rfl, rfl, rfl⟩ rfl gn fun qb3 D =>
      j_ildn (pc := 65) D rfl rfl rfl fun D =>
      have D : fk_D 607 [(66, none, .if_icmp .gt 190, 3, 256, 0, 0), (69, none, .aload_n 0, 1, 0, 0, 0), (70, none, .getfield 131, 3, 446, 129, 12), (73, none, .iload 7, 2, 0, 0, 0), (75, none, .iaload, 1, 0, 0, 0), (76, none, .iload 4, 2, 0, 0, 0), (78, none, .if_icmp .le 6, 3, 84, 0, 0), (81, none, .goto 175, 3, 256, 0, 0)] := fq_of2 cd_607 ow_607 cl_607 rfl (pc := 66) (by decide +kernel)
      j_igt (pc := 66) D rfl (fun q =>
        fk_jump cut_607_256 rfl rfl) (fun q D =>
        j_aldn (pc := 69) D rfl rfl rfl fun D =>
        j_gfc (pc := 70) (a := 602) D rfl rfl (by decide) rfl (s0_602 H) rfl (sf_446_602 H) fun D =>
        j_ild (pc := 73) D rfl rfl rfl fun D =>
        j_al (pc := 75) (a := 640) (e := 10) D rfl rfl rfl (by decide) (s0_640 H) (s1_640 H) ⟨rfl, rfl, rfl⟩ rfl (gy qb2) fun q D =>
        j_ild (pc := 76) D rfl rfl rfl fun D =>
        j_ile (pc := 78) D rfl (fun q D =>
          j_goto (pc := 81) D rfl <|
          fk_jump cut_607_256 rfl rfl) (fun q =>
          have D : fk_D 607 [(84, none, .iload 6, 2, 0, 0, 0), (86, none, .istore 9, 2, 0, 0, 0)] := fq_of2 cd_607 ow_607 cl_607 rfl (pc := 84) (by decide +kernel)
          j_ild (pc := 84) D rfl rfl rfl fun D =>
          j_ist (pc := 86) (L' := [(9, (0, x6)), (8, (0, h 10 639 x7.toNat)), (0, (4, 602)), (1, (0, x1)), (2, (0, x2)), (3, (0, x3)), (4, (0, x4)), (5, (0, x5)), (6, (0, x6)), (7, (0, x7))]) D rfl nl_607 rfl rfl fun D =>
          fk_jump cut_607_88 rfl rfl))) (fun q =>
      have D : fk_D 607 [(262, none, .aload_n 0, 1, 0, 0, 0), (263, none, .getfield 156, 3, 455, 129, 12), (266, none, .iload_n 1, 1, 0, 0, 0), (267, none, .iload 6, 2, 0, 0, 0), (269, none, .iastore, 1, 0, 0, 0), (270, none, .return_, 1, 0, 0, 0)] := fq_of2 cd_607 ow_607 cl_607 rfl (pc := 262) (by decide +kernel)
      j_aldn (pc := 262) D rfl rfl rfl fun D =>
      j_gfc (pc := 263) (a := 602) D rfl rfl (by decide) rfl (s0_602 H) rfl (sf_455_602 H) fun D =>
      j_ildn (pc := 266) D rfl rfl rfl fun D =>
      j_ild (pc := 267) D rfl rfl rfl fun D =>
      j_as (pc := 269) (a := 647) (e := 10) D rfl ⟨rfl, rfl⟩ rfl (by decide) (s0_647 H) (s1_647 H) ⟨rfl, rfl, rfl⟩ rfl gn (gy rfl) fun h4 eh4 S qb5 D =>
      have T := fj_hs_ok H.1 S
      have H := shp_st H T
      j_vret D rt_607)
theorem e_607_88 (d : Nat) (x1 x2 x3 x4 x5 x6 x7 x8 x9 : Int) {h : fi_H} (H : Shp h) : c_607_88 d x1 x2 x3 x4 x5 x6 x7 x8 x9 h =
  if 0 < x9 then
    if 0 ≤ wI ((wI (x5 + x9)) - 1) ∧ wI ((wI (x5 + x9)) - 1) < 3200 then
    if 0 ≤ h 10 646 (wI ((wI (x5 + x9)) - 1)).toNat ∧ h 10 646 (wI ((wI (x5 + x9)) - 1)).toNat < 240 then
    if 0 ≤ x8 ∧ x8 < 240 then
    if h 10 635 x8.toNat < h 10 635 (h 10 646 (wI ((wI (x5 + x9)) - 1)).toNat).toNat then
      c_607_88 d x1 x2 x3 x4 x5 x6 x7 x8 (wI (x9 + (-1))) h
    else
      c_607_126 d x1 x2 x3 x4 x5 x6 x7 x8 x9 h
    else none
    else none
    else none
  else
    c_607_126 d x1 x2 x3 x4 x5 x6 x7 x8 x9 h := by
  unfold c_607_88
  exact
    have D : fk_D 607 [(88, some [0, 1, 2, 3, 4, 5, 6, 7, 8, 9], .iload 9, 2, 0, 0, 0), (90, none, .ifCond .le 36, 3, 126, 0, 0), (93, none, .aload_n 0, 1, 0, 0, 0), (94, none, .getfield 116, 3, 440, 129, 12), (97, none, .aload_n 0, 1, 0, 0, 0), (98, none, .getfield 153, 3, 454, 129, 12), (101, none, .iload 5, 2, 0, 0, 0), (103, none, .iload 9, 2, 0, 0, 0), (105, none, .iadd, 1, 0, 0, 0), (106, none, .iconst 1, 1, 0, 1, 0), (107, none, .isub, 1, 0, 0, 0), (108, none, .iaload, 1, 0, 0, 0), (109, none, .iaload, 1, 0, 0, 0), (110, none, .aload_n 0, 1, 0, 0, 0), (111, none, .getfield 116, 3, 440, 129, 12), (114, none, .iload 8, 2, 0, 0, 0), (116, none, .iaload, 1, 0, 0, 0), (117, none, .if_icmp .le 9, 3, 126, 0, 0), (120, none, .iinc 9 (-1), 3, 0, (-1), 0), (123, none, .goto (-35), 3, 88, 0, 0)] := fq_of2 cd_607 ow_607 cl_607 rfl (pc := 88) (by decide +kernel)
    j_ild (pc := 88) D rfl rfl rfl fun D =>
    j_ifle (pc := 90) D rfl (fun q D =>
      j_aldn (pc := 93) D rfl rfl rfl fun D =>
      j_gfc (pc := 94) (a := 602) D rfl rfl (by decide) rfl (s0_602 H) rfl (sf_440_602 H) fun D =>
      j_aldn (pc := 97) D rfl rfl rfl fun D =>
      j_gfc (pc := 98) (a := 602) D rfl rfl (by decide) rfl (s0_602 H) rfl (sf_454_602 H) fun D =>
      j_ild (pc := 101) D rfl rfl rfl fun D =>
      j_ild (pc := 103) D rfl rfl rfl fun D =>
      j_iadd (pc := 105) D rfl fun D =>
      j_ic (pc := 106) D rfl fun D =>
      j_isub (pc := 107) D rfl fun D =>
      j_al (pc := 108) (a := 646) (e := 10) D rfl rfl rfl (by decide) (s0_646 H) (s1_646 H) ⟨rfl, rfl, rfl⟩ rfl gn fun qb1 D =>
      j_al (pc := 109) (a := 635) (e := 10) D rfl rfl rfl (by decide) (s0_635 H) (s1_635 H) ⟨rfl, rfl, rfl⟩ rfl gn fun qb2 D =>
      j_aldn (pc := 110) D rfl rfl rfl fun D =>
      j_gfc (pc := 111) (a := 602) D rfl rfl (by decide) rfl (s0_602 H) rfl (sf_440_602 H) fun D =>
      j_ild (pc := 114) D rfl rfl rfl fun D =>
      j_al (pc := 116) (a := 635) (e := 10) D rfl rfl rfl (by decide) (s0_635 H) (s1_635 H) ⟨rfl, rfl, rfl⟩ rfl gn fun qb3 D =>
      j_ile (pc := 117) D rfl (fun q D =>
        j_inc (pc := 120) (L' := [(9, (0, wI (x9 + (-1)))), (0, (4, 602)), (1, (0, x1)), (2, (0, x2)), (3, (0, x3)), (4, (0, x4)), (5, (0, x5)), (6, (0, x6)), (7, (0, x7)), (8, (0, x8))]) D rfl rfl rfl (by decide +kernel) rfl fun D =>
        j_goto (pc := 123) D rfl <|
        fk_jump cut_607_88 rfl rfl) (fun q =>
        fk_jump cut_607_126 rfl rfl)) (fun q =>
      fk_jump cut_607_126 rfl rfl)
theorem e_607_126 (d : Nat) (x1 x2 x3 x4 x5 x6 x7 x8 x9 : Int) {h : fi_H} (H : Shp h) : c_607_126 d x1 x2 x3 x4 x5 x6 x7 x8 x9 h =
  if 0 < x9 then
    if 0 ≤ wI ((wI (x5 + x9)) - 1) ∧ wI ((wI (x5 + x9)) - 1) < 3200 then
    if 0 ≤ h 10 646 (wI ((wI (x5 + x9)) - 1)).toNat ∧ h 10 646 (wI ((wI (x5 + x9)) - 1)).toNat < 240 then
    if 0 ≤ x8 ∧ x8 < 240 then
    if h 10 635 (h 10 646 (wI ((wI (x5 + x9)) - 1)).toNat).toNat = h 10 635 x8.toNat then
      if h 10 636 x8.toNat < h 10 636 (h 10 646 (wI ((wI (x5 + x9)) - 1)).toNat).toNat then
        c_607_256 d x1 x2 x3 x4 x5 x6 x7 h
      else
        lt_ (fi_upd h 10 646 (wI ((wI (x5 + x9)) - 1)).toNat x8) fun h4 =>
        c_607_256 d x1 x2 x3 x4 x5 x6 x7 h4
    else
      c_607_202 d x1 x2 x3 x4 x5 x6 x7 x8 x9 h
    else none
    else none
    else none
  else
    c_607_202 d x1 x2 x3 x4 x5 x6 x7 x8 x9 h := by
  unfold c_607_126
  exact
    have D : fk_D 607 [(126, some [0, 1, 2, 3, 4, 5, 6, 7, 8, 9], .iload 9, 2, 0, 0, 0), (128, none, .ifCond .le 74, 3, 202, 0, 0), (131, none, .aload_n 0, 1, 0, 0, 0), (132, none, .getfield 116, 3, 440, 129, 12), (135, none, .aload_n 0, 1, 0, 0, 0), (136, none, .getfield 153, 3, 454, 129, 12), (139, none, .iload 5, 2, 0, 0, 0), (141, none, .iload 9, 2, 0, 0, 0), (143, none, .iadd, 1, 0, 0, 0), (144, none, .iconst 1, 1, 0, 1, 0), (145, none, .isub, 1, 0, 0, 0), (146, none, .iaload, 1, 0, 0, 0), (147, none, .iaload, 1, 0, 0, 0), (148, none, .aload_n 0, 1, 0, 0, 0), (149, none, .getfield 116, 3, 440, 129, 12), (152, none, .iload 8, 2, 0, 0, 0), (154, none, .iaload, 1, 0, 0, 0), (155, none, .if_icmp .ne 47, 3, 202, 0, 0), (158, none, .aload_n 0, 1, 0, 0, 0), (159, none, .getfield 119, 3, 441, 129, 12)] := fq_of2 cd_607 ow_607 cl_607 rfl (pc := 126) (by decide +kernel)
    j_ild (pc := 126) D rfl rfl rfl fun D =>
    j_ifle (pc := 128) D rfl (fun q D =>
      j_aldn (pc := 131) D rfl rfl rfl fun D =>
      j_gfc (pc := 132) (a := 602) D rfl rfl (by decide) rfl (s0_602 H) rfl (sf_440_602 H) fun D =>
      j_aldn (pc := 135) D rfl rfl rfl fun D =>
      j_gfc (pc := 136) (a := 602) D rfl rfl (by decide) rfl (s0_602 H) rfl (sf_454_602 H) fun D =>
      j_ild (pc := 139) D rfl rfl rfl fun D =>
      j_ild (pc := 141) D rfl rfl rfl fun D =>
      j_iadd (pc := 143) D rfl fun D =>
      j_ic (pc := 144) D rfl fun D =>
      j_isub (pc := 145) D rfl fun D =>
      j_al (pc := 146) (a := 646) (e := 10) D rfl rfl rfl (by decide) (s0_646 H) (s1_646 H) ⟨rfl, rfl, rfl⟩ rfl gn fun qb1 D =>
      j_al (pc := 147) (a := 635) (e := 10) D rfl rfl rfl (by decide) (s0_635 H) (s1_635 H) ⟨rfl, rfl, rfl⟩ rfl gn fun qb2 D =>
      j_aldn (pc := 148) D rfl rfl rfl fun D =>
      j_gfc (pc := 149) (a := 602) D rfl rfl (by decide) rfl (s0_602 H) rfl (sf_440_602 H) fun D =>
      j_ild (pc := 152) D rfl rfl rfl fun D =>
      j_al (pc := 154) (a := 635) (e := 10) D rfl rfl rfl (by decide) (s0_635 H) (s1_635 H) ⟨rfl, rfl, rfl⟩ rfl gn fun qb3 D =>
      j_ine (pc := 155) D rfl (fun q D =>
        j_aldn (pc := 158) D rfl rfl rfl fun D =>
        j_gfc (pc := 159) (a := 602) D rfl rfl (by decide) rfl (s0_602 H) rfl (sf_441_602 H) fun D =>
        have D : fk_D 607 [(162, none, .iload 8, 2, 0, 0, 0), (164, none, .iaload, 1, 0, 0, 0), (165, none, .aload_n 0, 1, 0, 0, 0), (166, none, .getfield 119, 3, 441, 129, 12), (169, none, .aload_n 0, 1, 0, 0, 0), (170, none, .getfield 153, 3, 454, 129, 12), (173, none, .iload 5, 2, 0, 0, 0), (175, none, .iload 9, 2, 0, 0, 0), (177, none, .iadd, 1, 0, 0, 0), (178, none, .iconst 1, 1, 0, 1, 0), (179, none, .isub, 1, 0, 0, 0), (180, none, .iaload, 1, 0, 0, 0), (181, none, .iaload, 1, 0, 0, 0), (182, none, .if_icmp .lt 74, 3, 256, 0, 0), (185, none, .aload_n 0, 1, 0, 0, 0), (186, none, .getfield 153, 3, 454, 129, 12), (189, none, .iload 5, 2, 0, 0, 0), (191, none, .iload 9, 2, 0, 0, 0), (193, none, .iadd, 1, 0, 0, 0), (194, none, .iconst 1, 1, 0, 1, 0)] := fq_of2 cd_607 ow_607 cl_607 rfl (pc := 162) (by decide +kernel)
        j_ild (pc := 162) D rfl rfl rfl fun D =>
        j_al (pc := 164) (a := 636) (e := 10) D rfl rfl rfl (by decide) (s0_636 H) (s1_636 H) ⟨rfl, rfl, rfl⟩ rfl (gy qb3) fun q D =>
        j_aldn (pc := 165) D rfl rfl rfl fun D =>
        j_gfc (pc := 166) (a := 602) D rfl rfl (by decide) rfl (s0_602 H) rfl (sf_441_602 H) fun D =>
        j_aldn (pc := 169) D rfl rfl rfl fun D =>
        j_gfc (pc := 170) (a := 602) D rfl rfl (by decide) rfl (s0_602 H) rfl (sf_454_602 H) fun D =>
        j_ild (pc := 173) D rfl rfl rfl fun D =>
        j_ild (pc := 175) D rfl rfl rfl fun D =>
        j_iadd (pc := 177) D rfl fun D =>
        j_ic (pc := 178) D rfl fun D =>
        j_isub (pc := 179) D rfl fun D =>
        j_al (pc := 180) (a := 646) (e := 10) D rfl rfl rfl (by decide) (s0_646 H) (s1_646 H) ⟨rfl, rfl, rfl⟩ rfl (gy qb1) fun q D =>
        j_al (pc := 181) (a := 636) (e := 10) D rfl rfl rfl (by decide) (s0_636 H) (s1_636 H) ⟨rfl, rfl, rfl⟩ rfl (gy qb2) fun q D =>
        j_ilt (pc := 182) D rfl (fun q =>
          fk_jump cut_607_256 rfl rfl) (fun q D =>
          j_aldn (pc := 185) D rfl rfl rfl fun D =>
          j_gfc (pc := 186) (a := 602) D rfl rfl (by decide) rfl (s0_602 H) rfl (sf_454_602 H) fun D =>
          j_ild (pc := 189) D rfl rfl rfl fun D =>
          j_ild (pc := 191) D rfl rfl rfl fun D =>
          j_iadd (pc := 193) D rfl fun D =>
          j_ic (pc := 194) D rfl fun D =>
          have D : fk_D 607 [(195, none, .isub, 1, 0, 0, 0), (196, none, .iload 8, 2, 0, 0, 0), (198, none, .iastore, 1, 0, 0, 0), (199, none, .goto 57, 3, 256, 0, 0)] := fq_of2 cd_607 ow_607 cl_607 rfl (pc := 195) (by decide +kernel)
          j_isub (pc := 195) D rfl fun D =>
          j_ild (pc := 196) D rfl rfl rfl fun D =>
          j_as (pc := 198) (a := 646) (e := 10) D rfl ⟨rfl, rfl⟩ rfl (by decide) (s0_646 H) (s1_646 H) ⟨rfl, rfl, rfl⟩ rfl (gy qb1) (gy rfl) fun h4 eh4 S q D =>
          have T := fj_hs_ok H.1 S
          have H := shp_st H T
          j_goto (pc := 199) D rfl <|
          fk_jump cut_607_256 rfl rfl)) (fun q =>
        fk_jump cut_607_202 rfl rfl)) (fun q =>
      fk_jump cut_607_202 rfl rfl)
theorem e_607_202 (d : Nat) (x1 x2 x3 x4 x5 x6 x7 x8 x9 : Int) {h : fi_H} (H : Shp h) : c_607_202 d x1 x2 x3 x4 x5 x6 x7 x8 x9 h =
  c_607_206 d x1 x2 x3 x4 x5 x6 x7 x8 x9 x6 h := by
  unfold c_607_202
  exact
    have D : fk_D 607 [(202, some [0, 1, 2, 3, 4, 5, 6, 7, 8, 9], .iload 6, 2, 0, 0, 0), (204, none, .istore 10, 2, 0, 0, 0)] := fq_of2 cd_607 ow_607 cl_607 rfl (pc := 202) (by decide +kernel)
    j_ild (pc := 202) D rfl rfl rfl fun D =>
    j_ist (pc := 204) (L' := [(10, (0, x6)), (0, (4, 602)), (1, (0, x1)), (2, (0, x2)), (3, (0, x3)), (4, (0, x4)), (5, (0, x5)), (6, (0, x6)), (7, (0, x7)), (8, (0, x8)), (9, (0, x9))]) D rfl nl_607 rfl rfl fun D =>
    fk_jump cut_607_206 rfl rfl
theorem e_607_206 (d : Nat) (x1 x2 x3 x4 x5 x6 x7 x8 x9 x10 : Int) {h : fi_H} (H : Shp h) : c_607_206 d x1 x2 x3 x4 x5 x6 x7 x8 x9 x10 h =
  if x9 < x10 then
    if 0 ≤ wI ((wI (x5 + x10)) - 1) ∧ wI ((wI (x5 + x10)) - 1) < 3200 then
    if 0 ≤ wI (x5 + x10) ∧ wI (x5 + x10) < 3200 then
    lt_ (fi_upd h 10 646 (wI (x5 + x10)).toNat (h 10 646 (wI ((wI (x5 + x10)) - 1)).toNat)) fun h2 =>
    c_607_206 d x1 x2 x3 x4 x5 x6 x7 x8 x9 (wI (x10 + (-1))) h2
    else none
    else none
  else
    if 0 ≤ wI (x5 + x9) ∧ wI (x5 + x9) < 3200 then
    lt_ (fi_upd h 10 646 (wI (x5 + x9)).toNat x8) fun h4 =>
    c_607_256 d x1 x2 x3 x4 x5 (wI (x6 + 1)) x7 h4
    else none := by
  unfold c_607_206
  exact
    have D : fk_D 607 [(206, some [0, 1, 2, 3, 4, 5, 6, 7, 8, 9, 10], .iload 10, 2, 0, 0, 0), (208, none, .iload 9, 2, 0, 0, 0), (210, none, .if_icmp .le 31, 3, 241, 0, 0), (213, none, .aload_n 0, 1, 0, 0, 0), (214, none, .getfield 153, 3, 454, 129, 12), (217, none, .iload 5, 2, 0, 0, 0), (219, none, .iload 10, 2, 0, 0, 0), (221, none, .iadd, 1, 0, 0, 0), (222, none, .aload_n 0, 1, 0, 0, 0), (223, none, .getfield 153, 3, 454, 129, 12), (226, none, .iload 5, 2, 0, 0, 0), (228, none, .iload 10, 2, 0, 0, 0), (230, none, .iadd, 1, 0, 0, 0), (231, none, .iconst 1, 1, 0, 1, 0), (232, none, .isub, 1, 0, 0, 0), (233, none, .iaload, 1, 0, 0, 0), (234, none, .iastore, 1, 0, 0, 0), (235, none, .iinc 10 (-1), 3, 0, (-1), 0), (238, none, .goto (-32), 3, 206, 0, 0)] := fq_of2 cd_607 ow_607 cl_607 rfl (pc := 206) (by decide +kernel)
    j_ild (pc := 206) D rfl rfl rfl fun D =>
    j_ild (pc := 208) D rfl rfl rfl fun D =>
    j_ile (pc := 210) D rfl (fun q D =>
      j_aldn (pc := 213) D rfl rfl rfl fun D =>
      j_gfc (pc := 214) (a := 602) D rfl rfl (by decide) rfl (s0_602 H) rfl (sf_454_602 H) fun D =>
      j_ild (pc := 217) D rfl rfl rfl fun D =>
      j_ild (pc := 219) D rfl rfl rfl fun D =>
      j_iadd (pc := 221) D rfl fun D =>
      j_aldn (pc := 222) D rfl rfl rfl fun D =>
      j_gfc (pc := 223) (a := 602) D rfl rfl (by decide) rfl (s0_602 H) rfl (sf_454_602 H) fun D =>
      j_ild (pc := 226) D rfl rfl rfl fun D =>
      j_ild (pc := 228) D rfl rfl rfl fun D =>
      j_iadd (pc := 230) D rfl fun D =>
      j_ic (pc := 231) D rfl fun D =>
      j_isub (pc := 232) D rfl fun D =>
      j_al (pc := 233) (a := 646) (e := 10) D rfl rfl rfl (by decide) (s0_646 H) (s1_646 H) ⟨rfl, rfl, rfl⟩ rfl gn fun qb1 D =>
      j_as (pc := 234) (a := 646) (e := 10) D rfl ⟨rfl, rfl⟩ rfl (by decide) (s0_646 H) (s1_646 H) ⟨rfl, rfl, rfl⟩ rfl gn (gy rfl) fun h2 eh2 S qb3 D =>
      have T := fj_hs_ok H.1 S
      have H := shp_st H T
      j_inc (pc := 235) (L' := [(10, (0, wI (x10 + (-1)))), (0, (4, 602)), (1, (0, x1)), (2, (0, x2)), (3, (0, x3)), (4, (0, x4)), (5, (0, x5)), (6, (0, x6)), (7, (0, x7)), (8, (0, x8)), (9, (0, x9))]) D rfl rfl rfl (by decide +kernel) rfl fun D =>
      j_goto (pc := 238) D rfl <|
      fk_jump cut_607_206 rfl rfl) (fun q =>
      have D : fk_D 607 [(241, none, .aload_n 0, 1, 0, 0, 0), (242, none, .getfield 153, 3, 454, 129, 12), (245, none, .iload 5, 2, 0, 0, 0), (247, none, .iload 9, 2, 0, 0, 0), (249, none, .iadd, 1, 0, 0, 0), (250, none, .iload 8, 2, 0, 0, 0), (252, none, .iastore, 1, 0, 0, 0), (253, none, .iinc 6 1, 3, 0, 1, 0)] := fq_of2 cd_607 ow_607 cl_607 rfl (pc := 241) (by decide +kernel)
      j_aldn (pc := 241) D rfl rfl rfl fun D =>
      j_gfc (pc := 242) (a := 602) D rfl rfl (by decide) rfl (s0_602 H) rfl (sf_454_602 H) fun D =>
      j_ild (pc := 245) D rfl rfl rfl fun D =>
      j_ild (pc := 247) D rfl rfl rfl fun D =>
      j_iadd (pc := 249) D rfl fun D =>
      j_ild (pc := 250) D rfl rfl rfl fun D =>
      j_as (pc := 252) (a := 646) (e := 10) D rfl ⟨rfl, rfl⟩ rfl (by decide) (s0_646 H) (s1_646 H) ⟨rfl, rfl, rfl⟩ rfl gn (gy rfl) fun h4 eh4 S qb5 D =>
      have T := fj_hs_ok H.1 S
      have H := shp_st H T
      j_inc (pc := 253) (L' := [(6, (0, wI (x6 + 1))), (0, (4, 602)), (1, (0, x1)), (2, (0, x2)), (3, (0, x3)), (4, (0, x4)), (5, (0, x5)), (7, (0, x7)), (8, (0, x8)), (9, (0, x9)), (10, (0, x10))]) D rfl rfl rfl (by decide +kernel) rfl fun D =>
      fk_jump cut_607_256 rfl rfl)
theorem e_607_256 (d : Nat) (x1 x2 x3 x4 x5 x6 x7 : Int) {h : fi_H} (H : Shp h) : c_607_256 d x1 x2 x3 x4 x5 x6 x7 h =
  c_607_32 d x1 x2 x3 x4 x5 x6 (wI (x7 + 1)) h := by
  unfold c_607_256
  exact
    have D : fk_D 607 [(256, some [0, 1, 2, 3, 4, 5, 6, 7], .iinc 7 1, 3, 0, 1, 0), (259, none, .goto (-227), 3, 32, 0, 0)] := fq_of2 cd_607 ow_607 cl_607 rfl (pc := 256) (by decide +kernel)
    j_inc (pc := 256) (L' := [(7, (0, wI (x7 + 1))), (0, (4, 602)), (1, (0, x1)), (2, (0, x2)), (3, (0, x3)), (4, (0, x4)), (5, (0, x5)), (6, (0, x6))]) D rfl rfl rfl (by decide +kernel) rfl fun D =>
    j_goto (pc := 259) D rfl <|
    fk_jump cut_607_32 rfl rfl
theorem m_607 (d : Nat) (x1 x2 x3 x4 : Int) {h : fi_H} (H : Shp h) : fj_run (d + 1) 607 h [(4, 602), (0, x1), (0, x2), (0, x3), (0, x4)] =
  if 0 ≤ x1 ∧ x1 < 16 then
  lt_ (fi_upd h 10 648 x1.toNat x3) fun h1 =>
  lt_ (fi_upd h1 10 649 x1.toNat x4) fun h3 =>
  c_607_32 d x1 x2 x3 x4 (wI (200 * x1)) 0 (wI (200 * x2)) h3
  else none := by
  rw [fj_run_eq d (by decide) h [(4, 602), (0, x1), (0, x2), (0, x3), (0, x4)] (Nat.le_of_ble_eq_true (by rw [nl_607]; rfl))]
  show gG (fj_run d) 607 0 [(0, (4, 602)), (1, (0, x1)), (2, (0, x2)), (3, (0, x3)), (4, (0, x4))] [] h = _
  exact
    have D : fk_D 607 [(0, none, .sipush 200, 3, 0, 200, 0), (3, none, .iload_n 1, 1, 0, 0, 0), (4, none, .imul, 1, 0, 0, 0), (5, none, .istore 5, 2, 0, 0, 0), (7, none, .iconst 0, 1, 0, 0, 0), (8, none, .istore 6, 2, 0, 0, 0), (10, none, .aload_n 0, 1, 0, 0, 0), (11, none, .getfield 159, 3, 456, 129, 12), (14, none, .iload_n 1, 1, 0, 0, 0), (15, none, .iload_n 3, 1, 0, 0, 0), (16, none, .iastore, 1, 0, 0, 0), (17, none, .aload_n 0, 1, 0, 0, 0), (18, none, .getfield 162, 3, 457, 129, 12), (21, none, .iload_n 1, 1, 0, 0, 0), (22, none, .iload 4, 2, 0, 0, 0), (24, none, .iastore, 1, 0, 0, 0), (25, none, .sipush 200, 3, 0, 200, 0), (28, none, .iload_n 2, 1, 0, 0, 0), (29, none, .imul, 1, 0, 0, 0), (30, none, .istore 7, 2, 0, 0, 0)] := fq_of2 cd_607 ow_607 cl_607 rfl (pc := 0) (by decide +kernel)
    j_sp (pc := 0) D rfl fun D =>
    j_ildn (pc := 3) D rfl rfl rfl fun D =>
    j_imul (pc := 4) D rfl fun D =>
    j_ist (pc := 5) (L' := [(5, (0, wI (200 * x1))), (0, (4, 602)), (1, (0, x1)), (2, (0, x2)), (3, (0, x3)), (4, (0, x4))]) D rfl nl_607 rfl rfl fun D =>
    j_ic (pc := 7) D rfl fun D =>
    j_ist (pc := 8) (L' := [(6, (0, 0)), (5, (0, wI (200 * x1))), (0, (4, 602)), (1, (0, x1)), (2, (0, x2)), (3, (0, x3)), (4, (0, x4))]) D rfl nl_607 rfl rfl fun D =>
    j_aldn (pc := 10) D rfl rfl rfl fun D =>
    j_gfc (pc := 11) (a := 602) D rfl rfl (by decide) rfl (s0_602 H) rfl (sf_456_602 H) fun D =>
    j_ildn (pc := 14) D rfl rfl rfl fun D =>
    j_ildn (pc := 15) D rfl rfl rfl fun D =>
    j_as (pc := 16) (a := 648) (e := 10) D rfl ⟨rfl, rfl⟩ rfl (by decide) (s0_648 H) (s1_648 H) ⟨rfl, rfl, rfl⟩ rfl gn (gy rfl) fun h1 eh1 S qb2 D =>
    have T := fj_hs_ok H.1 S
    have H := shp_st H T
    j_aldn (pc := 17) D rfl rfl rfl fun D =>
    j_gfc (pc := 18) (a := 602) D rfl rfl (by decide) rfl (s0_602 H) rfl (sf_457_602 H) fun D =>
    j_ildn (pc := 21) D rfl rfl rfl fun D =>
    j_ild (pc := 22) D rfl rfl rfl fun D =>
    j_as (pc := 24) (a := 649) (e := 10) D rfl ⟨rfl, rfl⟩ rfl (by decide) (s0_649 H) (s1_649 H) ⟨rfl, rfl, rfl⟩ rfl (gy qb2) (gy rfl) fun h3 eh3 S q D =>
    have T := fj_hs_ok H.1 S
    have H := shp_st H T
    j_sp (pc := 25) D rfl fun D =>
    j_ildn (pc := 28) D rfl rfl rfl fun D =>
    j_imul (pc := 29) D rfl fun D =>
    j_ist (pc := 30) (L' := [(7, (0, wI (200 * x2))), (6, (0, 0)), (5, (0, wI (200 * x1))), (0, (4, 602)), (1, (0, x1)), (2, (0, x2)), (3, (0, x3)), (4, (0, x4))]) D rfl nl_607 rfl rfl fun D =>
    fk_jump cut_607_32 rfl rfl
/-! 608 StatuteHouseModel.exceptions(IIIII)Z -/
theorem cd_608 : fi_code 608 = prog_69_method_101_code := rfl
theorem hx_608 : ∀ pc, fi_hat 608 pc = none := fun pc => by unfold fi_hat; rw [show fi_hh 608 = [] from rfl]; rfl
theorem rt_608 : fi_ret 608 = some .boolean := rfl
theorem nl_608 : fi_nl 608 = 15 := rfl
theorem ow_608 : fi_ow 608 = 29 := rfl
theorem cl_608 : fj_cutT.getD 608 [] = [(12, [0, 1, 2, 3, 4, 5, 6, 7, 9, 11]), (41, [0, 1, 2, 3, 4, 5, 6, 7, 9, 11, 12, 13]), (108, [0, 1, 2, 3, 4, 5, 11, 12, 13]), (123, [0, 1, 2, 3, 4, 5, 6, 7, 9, 11, 12, 13])] := rfl
theorem cut_608_12 : fj_cut 608 12 = some [0, 1, 2, 3, 4, 5, 6, 7, 9, 11] := by decide +kernel
noncomputable def c_608_12 (d : Nat) (x1 x2 x3 x4 x5 x6 x7 x9 x11 : Int) (h : fi_H) : fk_R := gG (fj_run d) 608 12 [(0, (4, 602)), (1, (0, x1)), (2, (0, x2)), (3, (0, x3)), (4, (0, x4)), (5, (0, x5)), (6, (0, x6)), (7, (1, x7)), (9, (1, x9)), (11, (0, x11))] [] h
theorem cut_608_41 : fj_cut 608 41 = some [0, 1, 2, 3, 4, 5, 6, 7, 9, 11, 12, 13] := by decide +kernel
noncomputable def c_608_41 (d : Nat) (x1 x2 x3 x4 x5 x6 x7 x9 x11 x12 x13 : Int) (h : fi_H) : fk_R := gG (fj_run d) 608 41 [(0, (4, 602)), (1, (0, x1)), (2, (0, x2)), (3, (0, x3)), (4, (0, x4)), (5, (0, x5)), (6, (0, x6)), (7, (1, x7)), (9, (1, x9)), (11, (0, x11)), (12, (0, x12)), (13, (0, x13))] [] h
theorem cut_608_108 : fj_cut 608 108 = some [0, 1, 2, 3, 4, 5, 11, 12, 13] := by decide +kernel
noncomputable def c_608_108 (d : Nat) (x1 x2 x3 x4 x5 x11 x12 x13 : Int) (h : fi_H) : fk_R := gG (fj_run d) 608 108 [(0, (4, 602)), (1, (0, x1)), (2, (0, x2)), (3, (0, x3)), (4, (0, x4)), (5, (0, x5)), (11, (0, x11)), (12, (0, x12)), (13, (0, x13))] [] h
theorem cut_608_123 : fj_cut 608 123 = some [0, 1, 2, 3, 4, 5, 6, 7, 9, 11, 12, 13] := by decide +kernel
noncomputable def c_608_123 (d : Nat) (x1 x2 x3 x4 x5 x6 x7 x9 x11 x12 x13 : Int) (h : fi_H) : fk_R := gG (fj_run d) 608 123 [(0, (4, 602)), (1, (0, x1)), (2, (0, x2)), (3, (0, x3)), (4, (0, x4)), (5, (0, x5)), (6, (0, x6)), (7, (1, x7)), (9, (1, x9)), (11, (0, x11)), (12, (0, x12)), (13, (0, x13))] [] h
theorem e_608_12 (d : Nat) (x1 x2 x3 x4 x5 x6 x7 x9 x11 : Int) {h : fi_H} (H : Shp h) : c_608_12 d x1 x2 x3 x4 x5 x6 x7 x9 x11 h =
  if 0 ≤ x1 ∧ x1 < 16 then
  if x11 < h 10 647 x1.toNat then
    if 0 ≤ wI ((wI (200 * x1)) + x11) ∧ wI ((wI (200 * x1)) + x11) < 3200 then
    c_608_41 d x1 x2 x3 x4 x5 x6 x7 x9 x11 (h 10 646 (wI ((wI (200 * x1)) + x11)).toNat) 1 h
    else none
  else
    lt_ (fi_upd h 492 602 0 x7) fun h3 =>
    lt_ (fi_upd h3 493 602 0 x9) fun h4 =>
    if x6 = 0 ∨ x6 = 1 then some (.inl (some (0, x6)), h4) else none
  else none := by
  unfold c_608_12
  exact
    have D : fk_D 608 [(12, some [0, 1, 2, 3, 4, 5, 6, 7, 9, 11], .iload 11, 2, 0, 0, 0), (14, none, .aload_n 0, 1, 0, 0, 0), (15, none, .getfield 156, 3, 455, 129, 12), (18, none, .iload_n 1, 1, 0, 0, 0), (19, none, .iaload, 1, 0, 0, 0), (20, none, .if_icmp .ge 115, 3, 135, 0, 0), (23, none, .aload_n 0, 1, 0, 0, 0), (24, none, .getfield 153, 3, 454, 129, 12), (27, none, .sipush 200, 3, 0, 200, 0), (30, none, .iload_n 1, 1, 0, 0, 0), (31, none, .imul, 1, 0, 0, 0), (32, none, .iload 11, 2, 0, 0, 0), (34, none, .iadd, 1, 0, 0, 0), (35, none, .iaload, 1, 0, 0, 0), (36, none, .istore 12, 2, 0, 0, 0), (38, none, .iconst 1, 1, 0, 1, 0), (39, none, .istore 13, 2, 0, 0, 0)] := fq_of2 cd_608 ow_608 cl_608 rfl (pc := 12) (by decide +kernel)
    j_ild (pc := 12) D rfl rfl rfl fun D =>
    j_aldn (pc := 14) D rfl rfl rfl fun D =>
    j_gfc (pc := 15) (a := 602) D rfl rfl (by decide) rfl (s0_602 H) rfl (sf_455_602 H) fun D =>
    j_ildn (pc := 18) D rfl rfl rfl fun D =>
    j_al (pc := 19) (a := 647) (e := 10) D rfl rfl rfl (by decide) (s0_647 H) (s1_647 H) ⟨rfl, rfl, rfl⟩ rfl gn fun qb1 D =>
    j_ige (pc := 20) D rfl (fun q D =>
      j_aldn (pc := 23) D rfl rfl rfl fun D =>
      j_gfc (pc := 24) (a := 602) D rfl rfl (by decide) rfl (s0_602 H) rfl (sf_454_602 H) fun D =>
      j_sp (pc := 27) D rfl fun D =>
      j_ildn (pc := 30) D rfl rfl rfl fun D =>
      j_imul (pc := 31) D rfl fun D =>
      j_ild (pc := 32) D rfl rfl rfl fun D =>
      j_iadd (pc := 34) D rfl fun D =>
      j_al (pc := 35) (a := 646) (e := 10) D rfl rfl rfl (by decide) (s0_646 H) (s1_646 H) ⟨rfl, rfl, rfl⟩ rfl gn fun qb2 D =>
      j_ist (pc := 36) (L' := [(12, (0, h 10 646 (wI ((wI (200 * x1)) + x11)).toNat)), (0, (4, 602)), (1, (0, x1)), (2, (0, x2)), (3, (0, x3)), (4, (0, x4)), (5, (0, x5)), (6, (0, x6)), (7, (1, x7)), (9, (1, x9)), (11, (0, x11))]) D rfl nl_608 rfl rfl fun D =>
      j_ic (pc := 38) D rfl fun D =>
      j_ist (pc := 39) (L' := [(13, (0, 1)), (12, (0, h 10 646 (wI ((wI (200 * x1)) + x11)).toNat)), (0, (4, 602)), (1, (0, x1)), (2, (0, x2)), (3, (0, x3)), (4, (0, x4)), (5, (0, x5)), (6, (0, x6)), (7, (1, x7)), (9, (1, x9)), (11, (0, x11))]) D rfl nl_608 rfl rfl fun D =>
      fk_jump cut_608_41 rfl rfl) (fun q =>
      have D : fk_D 608 [(135, none, .aload_n 0, 1, 0, 0, 0), (136, none, .lload 7, 2, 0, 0, 0), (138, none, .putfield 869, 3, 492, 129, 11), (141, none, .aload_n 0, 1, 0, 0, 0), (142, none, .lload 9, 2, 0, 0, 0), (144, none, .putfield 872, 3, 493, 129, 11), (147, none, .iload 6, 2, 0, 0, 0), (149, none, .ireturn, 1, 0, 0, 0)] := fq_of2 cd_608 ow_608 cl_608 rfl (pc := 135) (by decide +kernel)
      j_aldn (pc := 135) D rfl rfl rfl fun D =>
      j_lld (pc := 136) D rfl rfl rfl fun D =>
      j_pf (pc := 138) (a := 602) D rfl rfl rfl (s0_602 H) rfl rfl (gy (by decide)) (gy rfl) fun h3 eh3 S D =>
      have T := fj_hs_ok H.1 S
      have H := shp_st H T
      j_aldn (pc := 141) D rfl rfl rfl fun D =>
      j_lld (pc := 142) D rfl rfl rfl fun D =>
      j_pf (pc := 144) (a := 602) D rfl rfl rfl (s0_602 H) rfl rfl (gy (by decide)) (gy rfl) fun h4 eh4 S D =>
      have T := fj_hs_ok H.1 S
      have H := shp_st H T
      j_ild (pc := 147) D rfl rfl rfl fun D =>
      j_zret D rt_608 gn)
theorem e_608_41 (d : Nat) (x1 x2 x3 x4 x5 x6 x7 x9 x11 x12 x13 : Int) {h : fi_H} (H : Shp h) : c_608_41 d x1 x2 x3 x4 x5 x6 x7 x9 x11 x12 x13 h =
  if 0 ≤ x12 ∧ x12 < 240 then
  if h 10 638 x12.toNat < x13 then
    c_608_12 d x1 x2 x3 x4 x5 x6 x7 x9 (wI (x11 + 1)) h
  else
    ca_ (fj_run d 609 h [(4, 602), (0, x1), (0, x12), (0, x13), (0, x2), (0, x3), (0, x4)]) 0
      (fun v3 h2 =>
      if v3 = (-1) then
        c_608_123 d x1 x2 x3 x4 x5 x6 x7 x9 x11 x12 x13 h2
      else
        ca_ (fj_run d 611 h2 [(4, 602), (0, x1), (0, v3), (0, h2 10 635 x12.toNat), (0, x13), (0, x5)]) 0
          (fun v6 h5 =>
          if v6 = 0 then
            c_608_123 d x1 x2 x3 x4 x5 x6 x7 x9 x11 x12 x13 h5
          else
            if x6 = 0 then
              c_608_108 d x1 x2 x3 x4 x5 x11 x12 x13 h5
            else
              cv_ (fj_run d 577 h5 [(4, 602), (0, 2)])
                (fun h8 =>
                c_608_108 d x1 x2 x3 x4 x5 x11 x12 x13 h8)
                (fun q10 h8 => tx_ q10 h8))
          (fun q7 h5 => tx_ q7 h5))
      (fun q4 h2 => tx_ q4 h2)
  else none := by
  unfold c_608_41
  exact
    have D : fk_D 608 [(41, some [0, 1, 2, 3, 4, 5, 6, 7, 9, 11, 12, 13], .iload 13, 2, 0, 0, 0), (43, none, .aload_n 0, 1, 0, 0, 0), (44, none, .getfield 125, 3, 443, 129, 12), (47, none, .iload 12, 2, 0, 0, 0), (49, none, .iaload, 1, 0, 0, 0), (50, none, .if_icmp .gt 79, 3, 129, 0, 0), (53, none, .aload_n 0, 1, 0, 0, 0), (54, none, .iload_n 1, 1, 0, 0, 0), (55, none, .iload 12, 2, 0, 0, 0), (57, none, .iload 13, 2, 0, 0, 0), (59, none, .iload_n 2, 1, 0, 0, 0), (60, none, .iload_n 3, 1, 0, 0, 0), (61, none, .iload 4, 2, 0, 0, 0), (63, none, .invokevirtual 904, 3, 6, 409, 1), (66, none, .istore 14, 2, 0, 0, 0), (68, none, .iload 14, 2, 0, 0, 0), (70, none, .iconst (-1), 1, 0, (-1), 0), (71, none, .if_icmp .eq 52, 3, 123, 0, 0), (74, none, .aload_n 0, 1, 0, 0, 0), (75, none, .iload_n 1, 1, 0, 0, 0)] := fq_of2 cd_608 ow_608 cl_608 rfl (pc := 41) (by decide +kernel)
    j_ild (pc := 41) D rfl rfl rfl fun D =>
    j_aldn (pc := 43) D rfl rfl rfl fun D =>
    j_gfc (pc := 44) (a := 602) D rfl rfl (by decide) rfl (s0_602 H) rfl (sf_443_602 H) fun D =>
    j_ild (pc := 47) D rfl rfl rfl fun D =>
    j_al (pc := 49) (a := 638) (e := 10) D rfl rfl rfl (by decide) (s0_638 H) (s1_638 H) ⟨rfl, rfl, rfl⟩ rfl gn fun qb1 D =>
    j_igt (pc := 50) D rfl (fun q =>
      have D : fk_D 608 [(129, none, .iinc 11 1, 3, 0, 1, 0), (132, none, .goto (-120), 3, 12, 0, 0)] := fq_of2 cd_608 ow_608 cl_608 rfl (pc := 129) (by decide +kernel)
      j_inc (pc := 129) (L' := [(11, (0, wI (x11 + 1))), (0, (4, 602)), (1, (0, x1)), (2, (0, x2)), (3, (0, x3)), (4, (0, x4)), (5, (0, x5)), (6, (0, x6)), (7, (1, x7)), (9, (1, x9)), (12, (0, x12)), (13, (0, x13))]) D rfl rfl rfl (by decide +kernel) rfl fun D =>
      j_goto (pc := 132) D rfl <|
      fk_jump cut_608_12 rfl rfl) (fun q D =>
      j_aldn (pc := 53) D rfl rfl rfl fun D =>
      j_ildn (pc := 54) D rfl rfl rfl fun D =>
      j_ild (pc := 55) D rfl rfl rfl fun D =>
      j_ild (pc := 57) D rfl rfl rfl fun D =>
      j_ildn (pc := 59) D rfl rfl rfl fun D =>
      j_ildn (pc := 60) D rfl rfl rfl fun D =>
      j_ild (pc := 61) D rfl rfl rfl fun D =>
      j_iv (pc := 63) (m := 609) (dd := 409) (a := [(0, x1), (0, x12), (0, x13), (0, x2), (0, x3), (0, x4)]) (rest := []) D rfl rfl rfl rfl rfl (by decide) (s0_602 H) (by decide +kernel) (fun v3 h2 e1 D =>
        have T := fj_run_ok _ _ _ _ _ _ H.1 e1
        have H := shp_st H T
        j_ist (pc := 66) (L' := [(14, (0, v3)), (0, (4, 602)), (1, (0, x1)), (2, (0, x2)), (3, (0, x3)), (4, (0, x4)), (5, (0, x5)), (6, (0, x6)), (7, (1, x7)), (9, (1, x9)), (11, (0, x11)), (12, (0, x12)), (13, (0, x13))]) D rfl nl_608 rfl rfl fun D =>
        j_ild (pc := 68) D rfl rfl rfl fun D =>
        j_ic (pc := 70) D rfl fun D =>
        j_ieq (pc := 71) D rfl (fun q =>
          fk_jump cut_608_123 rfl rfl) (fun q D =>
          j_aldn (pc := 74) D rfl rfl rfl fun D =>
          j_ildn (pc := 75) D rfl rfl rfl fun D =>
          have D : fk_D 608 [(76, none, .iload 14, 2, 0, 0, 0), (78, none, .aload_n 0, 1, 0, 0, 0), (79, none, .getfield 116, 3, 440, 129, 12), (82, none, .iload 12, 2, 0, 0, 0), (84, none, .iaload, 1, 0, 0, 0), (85, none, .iload 13, 2, 0, 0, 0), (87, none, .iload 5, 2, 0, 0, 0), (89, none, .invokevirtual 907, 3, 5, 410, 1), (92, none, .ifCond .ne 6, 3, 98, 0, 0), (95, none, .goto 28, 3, 123, 0, 0)] := fq_of2 cd_608 ow_608 cl_608 rfl (pc := 76) (by decide +kernel)
          j_ild (pc := 76) D rfl rfl rfl fun D =>
          j_aldn (pc := 78) D rfl rfl rfl fun D =>
          j_gfc (pc := 79) (a := 602) D rfl rfl (by decide) rfl (s0_602 H) rfl (sf_440_602 H) fun D =>
          j_ild (pc := 82) D rfl rfl rfl fun D =>
          j_al (pc := 84) (a := 635) (e := 10) D rfl rfl rfl (by decide) (s0_635 H) (s1_635 H) ⟨rfl, rfl, rfl⟩ rfl (gy qb1) fun q D =>
          j_ild (pc := 85) D rfl rfl rfl fun D =>
          j_ild (pc := 87) D rfl rfl rfl fun D =>
          j_iv (pc := 89) (m := 611) (dd := 410) (a := [(0, x1), (0, v3), (0, h2 10 635 x12.toNat), (0, x13), (0, x5)]) (rest := []) D rfl rfl rfl rfl rfl (by decide) (s0_602 H) (by decide +kernel) (fun v6 h5 e1 D =>
            have T := fj_run_ok _ _ _ _ _ _ H.1 e1
            have H := shp_st H T
            j_ifne (pc := 92) D rfl (fun q D =>
              j_goto (pc := 95) D rfl <|
              fk_jump cut_608_123 rfl rfl) (fun q =>
              have D : fk_D 608 [(98, none, .iload 6, 2, 0, 0, 0), (100, none, .ifCond .eq 8, 3, 108, 0, 0), (103, none, .aload_n 0, 1, 0, 0, 0), (104, none, .iconst 2, 1, 0, 2, 0), (105, none, .invokevirtual 854, 3, 1, 403, 0)] := fq_of2 cd_608 ow_608 cl_608 rfl (pc := 98) (by decide +kernel)
              j_ild (pc := 98) D rfl rfl rfl fun D =>
              j_ifeq (pc := 100) D rfl (fun q =>
                fk_jump cut_608_108 rfl rfl) (fun q D =>
                j_aldn (pc := 103) D rfl rfl rfl fun D =>
                j_ic (pc := 104) D rfl fun D =>
                j_ivv (pc := 105) (m := 577) (dd := 403) (a := [(0, 2)]) (rest := []) D rfl rfl rfl rfl rfl (by decide) (s0_602 H) (by decide +kernel) (fun h8 e1 D =>
                  have T := fj_run_ok _ _ _ _ _ _ H.1 e1
                  have H := shp_st H T
                  fk_jump cut_608_108 rfl rfl) (fun q10 h8 e1 =>
                  j_tx (hx_608 _))))) (fun q7 h5 e1 =>
            j_tx (hx_608 _)))) (fun q4 h2 e1 =>
        j_tx (hx_608 _)))
theorem e_608_108 (d : Nat) (x1 x2 x3 x4 x5 x11 x12 x13 : Int) {h : fi_H} (H : Shp h) : c_608_108 d x1 x2 x3 x4 x5 x11 x12 x13 h =
  c_608_123 d x1 x2 x3 x4 x5 1 (h 492 602 0) (h 493 602 0) x11 x12 x13 h := by
  unfold c_608_108
  exact
    have D : fk_D 608 [(108, some [0, 1, 2, 3, 4, 5, 11, 12, 13], .iconst 1, 1, 0, 1, 0), (109, none, .istore 6, 2, 0, 0, 0), (111, none, .aload_n 0, 1, 0, 0, 0), (112, none, .getfield 869, 3, 492, 129, 11), (115, none, .lstore 7, 2, 0, 0, 0), (117, none, .aload_n 0, 1, 0, 0, 0), (118, none, .getfield 872, 3, 493, 129, 11), (121, none, .lstore 9, 2, 0, 0, 0)] := fq_of2 cd_608 ow_608 cl_608 rfl (pc := 108) (by decide +kernel)
    j_ic (pc := 108) D rfl fun D =>
    j_ist (pc := 109) (L' := [(6, (0, 1)), (0, (4, 602)), (1, (0, x1)), (2, (0, x2)), (3, (0, x3)), (4, (0, x4)), (5, (0, x5)), (11, (0, x11)), (12, (0, x12)), (13, (0, x13))]) D rfl nl_608 rfl rfl fun D =>
    j_aldn (pc := 111) D rfl rfl rfl fun D =>
    j_gf (pc := 112) (a := 602) D rfl rfl (by decide) rfl (s0_602 H) rfl fun D =>
    j_lst (pc := 115) (L' := [(7, (1, h 492 602 0)), (6, (0, 1)), (0, (4, 602)), (1, (0, x1)), (2, (0, x2)), (3, (0, x3)), (4, (0, x4)), (5, (0, x5)), (11, (0, x11)), (12, (0, x12)), (13, (0, x13))]) D rfl nl_608 rfl rfl fun D =>
    j_aldn (pc := 117) D rfl rfl rfl fun D =>
    j_gf (pc := 118) (a := 602) D rfl rfl (by decide) rfl (s0_602 H) rfl fun D =>
    j_lst (pc := 121) (L' := [(9, (1, h 493 602 0)), (7, (1, h 492 602 0)), (6, (0, 1)), (0, (4, 602)), (1, (0, x1)), (2, (0, x2)), (3, (0, x3)), (4, (0, x4)), (5, (0, x5)), (11, (0, x11)), (12, (0, x12)), (13, (0, x13))]) D rfl nl_608 rfl rfl fun D =>
    fk_jump cut_608_123 rfl rfl
theorem e_608_123 (d : Nat) (x1 x2 x3 x4 x5 x6 x7 x9 x11 x12 x13 : Int) {h : fi_H} (H : Shp h) : c_608_123 d x1 x2 x3 x4 x5 x6 x7 x9 x11 x12 x13 h =
  c_608_41 d x1 x2 x3 x4 x5 x6 x7 x9 x11 x12 (wI (x13 + 1)) h := by
  unfold c_608_123
  exact
    have D : fk_D 608 [(123, some [0, 1, 2, 3, 4, 5, 6, 7, 9, 11, 12, 13], .iinc 13 1, 3, 0, 1, 0), (126, none, .goto (-85), 3, 41, 0, 0)] := fq_of2 cd_608 ow_608 cl_608 rfl (pc := 123) (by decide +kernel)
    j_inc (pc := 123) (L' := [(13, (0, wI (x13 + 1))), (0, (4, 602)), (1, (0, x1)), (2, (0, x2)), (3, (0, x3)), (4, (0, x4)), (5, (0, x5)), (6, (0, x6)), (7, (1, x7)), (9, (1, x9)), (11, (0, x11)), (12, (0, x12))]) D rfl rfl rfl (by decide +kernel) rfl fun D =>
    j_goto (pc := 126) D rfl <|
    fk_jump cut_608_41 rfl rfl
theorem m_608 (d : Nat) (x1 x2 x3 x4 x5 : Int) {h : fi_H} (H : Shp h) : fj_run (d + 1) 608 h [(4, 602), (0, x1), (0, x2), (0, x3), (0, x4), (0, x5)] =
  c_608_12 d x1 x2 x3 x4 x5 0 0 0 0 h := by
  rw [fj_run_eq d (by decide) h [(4, 602), (0, x1), (0, x2), (0, x3), (0, x4), (0, x5)] (Nat.le_of_ble_eq_true (by rw [nl_608]; rfl))]
  show gG (fj_run d) 608 0 [(0, (4, 602)), (1, (0, x1)), (2, (0, x2)), (3, (0, x3)), (4, (0, x4)), (5, (0, x5))] [] h = _
  exact
    have D : fk_D 608 [(0, none, .iconst 0, 1, 0, 0, 0), (1, none, .istore 6, 2, 0, 0, 0), (3, none, .lconst 0, 1, 0, 0, 0), (4, none, .lstore 7, 2, 0, 0, 0), (6, none, .lconst 0, 1, 0, 0, 0), (7, none, .lstore 9, 2, 0, 0, 0), (9, none, .iconst 0, 1, 0, 0, 0), (10, none, .istore 11, 2, 0, 0, 0)] := fq_of2 cd_608 ow_608 cl_608 rfl (pc := 0) (by decide +kernel)
    j_ic (pc := 0) D rfl fun D =>
    j_ist (pc := 1) (L' := [(6, (0, 0)), (0, (4, 602)), (1, (0, x1)), (2, (0, x2)), (3, (0, x3)), (4, (0, x4)), (5, (0, x5))]) D rfl nl_608 rfl rfl fun D =>
    j_c0 (pc := 3) (v := (1, 0)) D rfl rfl (by decide +kernel) fun D =>
    j_lst (pc := 4) (L' := [(7, (1, 0)), (6, (0, 0)), (0, (4, 602)), (1, (0, x1)), (2, (0, x2)), (3, (0, x3)), (4, (0, x4)), (5, (0, x5))]) D rfl nl_608 rfl rfl fun D =>
    j_c0 (pc := 6) (v := (1, 0)) D rfl rfl (by decide +kernel) fun D =>
    j_lst (pc := 7) (L' := [(9, (1, 0)), (7, (1, 0)), (6, (0, 0)), (0, (4, 602)), (1, (0, x1)), (2, (0, x2)), (3, (0, x3)), (4, (0, x4)), (5, (0, x5))]) D rfl nl_608 rfl rfl fun D =>
    j_ic (pc := 9) D rfl fun D =>
    j_ist (pc := 10) (L' := [(11, (0, 0)), (9, (1, 0)), (7, (1, 0)), (6, (0, 0)), (0, (4, 602)), (1, (0, x1)), (2, (0, x2)), (3, (0, x3)), (4, (0, x4)), (5, (0, x5))]) D rfl nl_608 rfl rfl fun D =>
    fk_jump cut_608_12 rfl rfl
/-! 609 StatuteHouseModel.ruleOf(IIIIII)I -/
theorem cd_609 : fi_code 609 = prog_69_method_93_code := rfl
theorem hx_609 : ∀ pc, fi_hat 609 pc = none := fun pc => by unfold fi_hat; rw [show fi_hh 609 = [] from rfl]; rfl
theorem rt_609 : fi_ret 609 = some .int := rfl
theorem nl_609 : fi_nl 609 = 9 := rfl
theorem ow_609 : fi_ow 609 = 29 := rfl
theorem cl_609 : fj_cutT.getD 609 [] = [(71, [0, 1, 2, 3]), (72, [0, 1, 2, 3])] := rfl
theorem cut_609_71 : fj_cut 609 71 = some [0, 1, 2, 3] := by decide +kernel
noncomputable def c_609_71 (d : Nat) (x1 x2 x3 : Int) (h : fi_H) : fk_R := gG (fj_run d) 609 71 [(0, (4, 602)), (1, (0, x1)), (2, (0, x2)), (3, (0, x3))] [] h
theorem cut_609_72 : fj_cut 609 72 = some [0, 1, 2, 3] := by decide +kernel
noncomputable def c_609_72 (d : Nat) (x1 x2 x3 s0 : Int) (h : fi_H) : fk_R := gG (fj_run d) 609 72 [(0, (4, 602)), (1, (0, x1)), (2, (0, x2)), (3, (0, x3))] [(0, s0)] h
theorem e_609_71 (d : Nat) (x1 x2 x3 : Int) {h : fi_H} (H : Shp h) : c_609_71 d x1 x2 x3 h =
  c_609_72 d x1 x2 x3 0 h := by
  unfold c_609_71
  exact
    have D : fk_D 609 [(71, some [0, 1, 2, 3], .iconst 0, 1, 0, 0, 0)] := fq_of2 cd_609 ow_609 cl_609 rfl (pc := 71) (by decide +kernel)
    j_ic (pc := 71) D rfl fun D =>
    fk_jump cut_609_72 rfl rfl
theorem e_609_72 (d : Nat) (x1 x2 x3 s0 : Int) {h : fi_H} (H : Shp h) : c_609_72 d x1 x2 x3 s0 h =
  if s0 = 0 then
    some (.inl (some (0, (-1))), h)
  else
    ca_ (fj_run d 610 h [(4, 602), (0, x1), (0, x2), (0, x3)]) 0
      (fun v2 h1 =>
      some (.inl (some (0, v2)), h1))
      (fun q3 h1 => tx_ q3 h1) := by
  unfold c_609_72
  exact
    have D : fk_D 609 [(72, some [0, 1, 2, 3], .istore 8, 2, 0, 0, 0), (74, none, .iload 8, 2, 0, 0, 0), (76, none, .ifCond .eq 13, 3, 89, 0, 0), (79, none, .aload_n 0, 1, 0, 0, 0), (80, none, .iload_n 1, 1, 0, 0, 0), (81, none, .iload_n 2, 1, 0, 0, 0), (82, none, .iload_n 3, 1, 0, 0, 0), (83, none, .invokevirtual 836, 3, 3, 402, 1), (86, none, .goto 4, 3, 90, 0, 0)] := fq_of2 cd_609 ow_609 cl_609 rfl (pc := 72) (by decide +kernel)
    j_ist (pc := 72) (L' := [(8, (0, s0)), (0, (4, 602)), (1, (0, x1)), (2, (0, x2)), (3, (0, x3))]) D rfl nl_609 rfl rfl fun D =>
    j_ild (pc := 74) D rfl rfl rfl fun D =>
    j_ifeq (pc := 76) D rfl (fun q =>
      have D : fk_D 609 [(89, none, .iconst (-1), 1, 0, (-1), 0), (90, none, .ireturn, 1, 0, 0, 0)] := fq_of2 cd_609 ow_609 cl_609 rfl (pc := 89) (by decide +kernel)
      j_ic (pc := 89) D rfl fun D =>
      j_iret D rt_609) (fun q D =>
      j_aldn (pc := 79) D rfl rfl rfl fun D =>
      j_ildn (pc := 80) D rfl rfl rfl fun D =>
      j_ildn (pc := 81) D rfl rfl rfl fun D =>
      j_ildn (pc := 82) D rfl rfl rfl fun D =>
      j_iv (pc := 83) (m := 610) (dd := 402) (a := [(0, x1), (0, x2), (0, x3)]) (rest := []) D rfl rfl rfl rfl rfl (by decide) (s0_602 H) (by decide +kernel) (fun v2 h1 e1 D =>
        have T := fj_run_ok _ _ _ _ _ _ H.1 e1
        have H := shp_st H T
        j_goto (pc := 86) D rfl <|
        have D : fk_D 609 [(90, none, .ireturn, 1, 0, 0, 0)] := fq_of2 cd_609 ow_609 cl_609 rfl (pc := 90) (by decide +kernel)
        j_iret D rt_609) (fun q3 h1 e1 =>
        j_tx (hx_609 _)))
theorem m_609 (d : Nat) (x1 x2 x3 x4 x5 x6 : Int) {h : fi_H} (H : Shp h) : fj_run (d + 1) 609 h [(4, 602), (0, x1), (0, x2), (0, x3), (0, x4), (0, x5), (0, x6)] =
  if 0 ≤ wI ((wI ((wI (40 * x2)) + x3)) - 1) ∧ wI ((wI ((wI (40 * x2)) + x3)) - 1) < 9600 then
  lt_ (h 10 637 (wI ((wI ((wI (40 * x2)) + x3)) - 1)).toNat) fun y2 =>
  if y2 = (-1) then
    c_609_71 d x1 x2 x3 h
  else
    if 0 ≤ y2 ∧ y2 < 560 then
    if h 4 630 y2.toNat = 0 then
      if h 10 625 y2.toNat = x4 then
        if h 10 628 y2.toNat = x5 then
          if h 10 629 y2.toNat = x6 then
            c_609_72 d x1 x2 x3 1 h
          else
            c_609_71 d x1 x2 x3 h
        else
          c_609_71 d x1 x2 x3 h
      else
        c_609_71 d x1 x2 x3 h
    else
      c_609_71 d x1 x2 x3 h
    else none
  else none := by
  rw [fj_run_eq d (by decide) h [(4, 602), (0, x1), (0, x2), (0, x3), (0, x4), (0, x5), (0, x6)] (Nat.le_of_ble_eq_true (by rw [nl_609]; rfl))]
  show gG (fj_run d) 609 0 [(0, (4, 602)), (1, (0, x1)), (2, (0, x2)), (3, (0, x3)), (4, (0, x4)), (5, (0, x5)), (6, (0, x6))] [] h = _
  exact
    have D : fk_D 609 [(0, none, .aload_n 0, 1, 0, 0, 0), (1, none, .getfield 122, 3, 442, 129, 12), (4, none, .bipush 40, 2, 0, 40, 0), (6, none, .iload_n 2, 1, 0, 0, 0), (7, none, .imul, 1, 0, 0, 0), (8, none, .iload_n 3, 1, 0, 0, 0), (9, none, .iadd, 1, 0, 0, 0), (10, none, .iconst 1, 1, 0, 1, 0), (11, none, .isub, 1, 0, 0, 0), (12, none, .iaload, 1, 0, 0, 0), (13, none, .istore 7, 2, 0, 0, 0), (15, none, .iload 7, 2, 0, 0, 0), (17, none, .iconst (-1), 1, 0, (-1), 0), (18, none, .if_icmp .eq 53, 3, 71, 0, 0), (21, none, .aload_n 0, 1, 0, 0, 0), (22, none, .getfield 101, 3, 433, 129, 12), (25, none, .iload 7, 2, 0, 0, 0), (27, none, .baload, 1, 0, 0, 0), (28, none, .ifCond .ne 43, 3, 71, 0, 0), (31, none, .aload_n 0, 1, 0, 0, 0)] := fq_of2 cd_609 ow_609 cl_609 rfl (pc := 0) (by decide +kernel)
    j_aldn (pc := 0) D rfl rfl rfl fun D =>
    j_gfc (pc := 1) (a := 602) D rfl rfl (by decide) rfl (s0_602 H) rfl (sf_442_602 H) fun D =>
    j_bp (pc := 4) D rfl fun D =>
    j_ildn (pc := 6) D rfl rfl rfl fun D =>
    j_imul (pc := 7) D rfl fun D =>
    j_ildn (pc := 8) D rfl rfl rfl fun D =>
    j_iadd (pc := 9) D rfl fun D =>
    j_ic (pc := 10) D rfl fun D =>
    j_isub (pc := 11) D rfl fun D =>
    j_al (pc := 12) (a := 637) (e := 10) D rfl rfl rfl (by decide) (s0_637 H) (s1_637 H) ⟨rfl, rfl, rfl⟩ rfl gn fun qb1 D =>
    j_stl (pc := 13) (L' := fun y2 => [(7, (0, y2)), (0, (4, 602)), (1, (0, x1)), (2, (0, x2)), (3, (0, x3)), (4, (0, x4)), (5, (0, x5)), (6, (0, x6))]) D rfl ⟨rfl, rfl, rfl, rfl⟩ nl_609 rfl (fun _ => rfl) fun y2 ey2 D =>
    j_ild (pc := 15) D rfl rfl rfl fun D =>
    j_ic (pc := 17) D rfl fun D =>
    j_ieq (pc := 18) D rfl (fun q =>
      fk_jump cut_609_71 rfl rfl) (fun q D =>
      j_aldn (pc := 21) D rfl rfl rfl fun D =>
      j_gfc (pc := 22) (a := 602) D rfl rfl (by decide) rfl (s0_602 H) rfl (sf_433_602 H) fun D =>
      j_ild (pc := 25) D rfl rfl rfl fun D =>
      j_al (pc := 27) (a := 630) (e := 4) D rfl rfl rfl (by decide) (s0_630 H) (s1_630 H) ⟨rfl, rfl, rfl⟩ rfl gn fun qb3 D =>
      j_ifne (pc := 28) D rfl (fun q D =>
        j_aldn (pc := 31) D rfl rfl rfl fun D =>
        have D : fk_D 609 [(32, none, .getfield 86, 3, 428, 129, 12), (35, none, .iload 7, 2, 0, 0, 0), (37, none, .iaload, 1, 0, 0, 0), (38, none, .iload 4, 2, 0, 0, 0), (40, none, .if_icmp .ne 31, 3, 71, 0, 0), (43, none, .aload_n 0, 1, 0, 0, 0), (44, none, .getfield 95, 3, 431, 129, 12), (47, none, .iload 7, 2, 0, 0, 0), (49, none, .iaload, 1, 0, 0, 0), (50, none, .iload 5, 2, 0, 0, 0), (52, none, .if_icmp .ne 19, 3, 71, 0, 0), (55, none, .aload_n 0, 1, 0, 0, 0), (56, none, .getfield 98, 3, 432, 129, 12), (59, none, .iload 7, 2, 0, 0, 0), (61, none, .iaload, 1, 0, 0, 0), (62, none, .iload 6, 2, 0, 0, 0), (64, none, .if_icmp .ne 7, 3, 71, 0, 0), (67, none, .iconst 1, 1, 0, 1, 0), (68, none, .goto 4, 3, 72, 0, 0)] := fq_of2 cd_609 ow_609 cl_609 rfl (pc := 32) (by decide +kernel)
        j_gfc (pc := 32) (a := 602) D rfl rfl (by decide) rfl (s0_602 H) rfl (sf_428_602 H) fun D =>
        j_ild (pc := 35) D rfl rfl rfl fun D =>
        j_al (pc := 37) (a := 625) (e := 10) D rfl rfl rfl (by decide) (s0_625 H) (s1_625 H) ⟨rfl, rfl, rfl⟩ rfl (gy qb3) fun q D =>
        j_ild (pc := 38) D rfl rfl rfl fun D =>
        j_ine (pc := 40) D rfl (fun q D =>
          j_aldn (pc := 43) D rfl rfl rfl fun D =>
          j_gfc (pc := 44) (a := 602) D rfl rfl (by decide) rfl (s0_602 H) rfl (sf_431_602 H) fun D =>
          j_ild (pc := 47) D rfl rfl rfl fun D =>
          j_al (pc := 49) (a := 628) (e := 10) D rfl rfl rfl (by decide) (s0_628 H) (s1_628 H) ⟨rfl, rfl, rfl⟩ rfl (gy qb3) fun q D =>
          j_ild (pc := 50) D rfl rfl rfl fun D =>
          j_ine (pc := 52) D rfl (fun q D =>
            j_aldn (pc := 55) D rfl rfl rfl fun D =>
            j_gfc (pc := 56) (a := 602) D rfl rfl (by decide) rfl (s0_602 H) rfl (sf_432_602 H) fun D =>
            j_ild (pc := 59) D rfl rfl rfl fun D =>
            j_al (pc := 61) (a := 629) (e := 10) D rfl rfl rfl (by decide) (s0_629 H) (s1_629 H) ⟨rfl, rfl, rfl⟩ rfl (gy qb3) fun q D =>
            j_ild (pc := 62) D rfl rfl rfl fun D =>
            j_ine (pc := 64) D rfl (fun q D =>
              j_ic (pc := 67) D rfl fun D =>
              j_goto (pc := 68) D rfl <|
              fk_jump cut_609_72 rfl rfl) (fun q =>
              fk_jump cut_609_71 rfl rfl)) (fun q =>
            fk_jump cut_609_71 rfl rfl)) (fun q =>
          fk_jump cut_609_71 rfl rfl)) (fun q =>
        fk_jump cut_609_71 rfl rfl))
/-! 610 StatuteHouseModel.ruleAt(III)I -/
theorem cd_610 : fi_code 610 = prog_69_method_92_code := rfl
theorem hx_610 : ∀ pc, fi_hat 610 pc = none := fun pc => by unfold fi_hat; rw [show fi_hh 610 = [] from rfl]; rfl
theorem rt_610 : fi_ret 610 = some .int := rfl
theorem nl_610 : fi_nl 610 = 6 := rfl
theorem ow_610 : fi_ow 610 = 29 := rfl
theorem cl_610 : fj_cutT.getD 610 [] = [(18, [0, 1, 4, 5]), (80, [0, 1, 4, 5])] := rfl
theorem cut_610_18 : fj_cut 610 18 = some [0, 1, 4, 5] := by decide +kernel
noncomputable def c_610_18 (d : Nat) (x1 x4 x5 : Int) (h : fi_H) : fk_R := gG (fj_run d) 610 18 [(0, (4, 602)), (1, (0, x1)), (4, (0, x4)), (5, (0, x5))] [] h
theorem cut_610_80 : fj_cut 610 80 = some [0, 1, 4, 5] := by decide +kernel
noncomputable def c_610_80 (d : Nat) (x1 x4 x5 : Int) (h : fi_H) : fk_R := gG (fj_run d) 610 80 [(0, (4, 602)), (1, (0, x1)), (4, (0, x4)), (5, (0, x5))] [] h
theorem e_610_18 (d : Nat) (x1 x4 x5 : Int) {h : fi_H} (H : Shp h) : c_610_18 d x1 x4 x5 h =
  if x5 < h 453 602 0 then
    if x4 = (-1) then
      some (.inl (some (0, x4)), h)
    else
      if 0 ≤ x5 ∧ x5 < 40 then
      if h 10 643 x5.toNat = x4 then
        if 0 ≤ x1 ∧ x1 < 16 then
        if h 10 648 x1.toNat < h 10 644 x5.toNat then
          c_610_80 d x1 x4 x5 h
        else
          if h 10 649 x1.toNat < h 10 645 x5.toNat then
            c_610_80 d x1 x4 x5 h
          else
            c_610_80 d x1 (-1) x5 h
        else none
      else
        c_610_80 d x1 x4 x5 h
      else none
  else
    some (.inl (some (0, x4)), h) := by
  unfold c_610_18
  exact
    have D : fk_D 610 [(18, some [0, 1, 4, 5], .iload 5, 2, 0, 0, 0), (20, none, .aload_n 0, 1, 0, 0, 0), (21, none, .getfield 833, 3, 453, 129, 10), (24, none, .if_icmp .ge 62, 3, 86, 0, 0), (27, none, .iload 4, 2, 0, 0, 0), (29, none, .iconst (-1), 1, 0, (-1), 0), (30, none, .if_icmp .eq 56, 3, 86, 0, 0), (33, none, .aload_n 0, 1, 0, 0, 0), (34, none, .getfield 144, 3, 450, 129, 12), (37, none, .iload 5, 2, 0, 0, 0), (39, none, .iaload, 1, 0, 0, 0), (40, none, .iload 4, 2, 0, 0, 0), (42, none, .if_icmp .ne 38, 3, 80, 0, 0), (45, none, .aload_n 0, 1, 0, 0, 0), (46, none, .getfield 147, 3, 451, 129, 12), (49, none, .iload 5, 2, 0, 0, 0), (51, none, .iaload, 1, 0, 0, 0), (52, none, .aload_n 0, 1, 0, 0, 0), (53, none, .getfield 159, 3, 456, 129, 12), (56, none, .iload_n 1, 1, 0, 0, 0)] := fq_of2 cd_610 ow_610 cl_610 rfl (pc := 18) (by decide +kernel)
    j_ild (pc := 18) D rfl rfl rfl fun D =>
    j_aldn (pc := 20) D rfl rfl rfl fun D =>
    j_gf (pc := 21) (a := 602) D rfl rfl (by decide) rfl (s0_602 H) rfl fun D =>
    j_ige (pc := 24) D rfl (fun q D =>
      j_ild (pc := 27) D rfl rfl rfl fun D =>
      j_ic (pc := 29) D rfl fun D =>
      j_ieq (pc := 30) D rfl (fun q =>
        have D : fk_D 610 [(86, none, .iload 4, 2, 0, 0, 0), (88, none, .ireturn, 1, 0, 0, 0)] := fq_of2 cd_610 ow_610 cl_610 rfl (pc := 86) (by decide +kernel)
        j_ild (pc := 86) D rfl rfl rfl fun D =>
        j_iret D rt_610) (fun q D =>
        j_aldn (pc := 33) D rfl rfl rfl fun D =>
        j_gfc (pc := 34) (a := 602) D rfl rfl (by decide) rfl (s0_602 H) rfl (sf_450_602 H) fun D =>
        j_ild (pc := 37) D rfl rfl rfl fun D =>
        j_al (pc := 39) (a := 643) (e := 10) D rfl rfl rfl (by decide) (s0_643 H) (s1_643 H) ⟨rfl, rfl, rfl⟩ rfl gn fun qb1 D =>
        j_ild (pc := 40) D rfl rfl rfl fun D =>
        j_ine (pc := 42) D rfl (fun q D =>
          j_aldn (pc := 45) D rfl rfl rfl fun D =>
          j_gfc (pc := 46) (a := 602) D rfl rfl (by decide) rfl (s0_602 H) rfl (sf_451_602 H) fun D =>
          j_ild (pc := 49) D rfl rfl rfl fun D =>
          j_al (pc := 51) (a := 644) (e := 10) D rfl rfl rfl (by decide) (s0_644 H) (s1_644 H) ⟨rfl, rfl, rfl⟩ rfl (gy qb1) fun q D =>
          j_aldn (pc := 52) D rfl rfl rfl fun D =>
          j_gfc (pc := 53) (a := 602) D rfl rfl (by decide) rfl (s0_602 H) rfl (sf_456_602 H) fun D =>
          j_ildn (pc := 56) D rfl rfl rfl fun D =>
          have D : fk_D 610 [(57, none, .iaload, 1, 0, 0, 0), (58, none, .if_icmp .gt 22, 3, 80, 0, 0), (61, none, .aload_n 0, 1, 0, 0, 0), (62, none, .getfield 150, 3, 452, 129, 12), (65, none, .iload 5, 2, 0, 0, 0), (67, none, .iaload, 1, 0, 0, 0), (68, none, .aload_n 0, 1, 0, 0, 0), (69, none, .getfield 162, 3, 457, 129, 12), (72, none, .iload_n 1, 1, 0, 0, 0), (73, none, .iaload, 1, 0, 0, 0), (74, none, .if_icmp .gt 6, 3, 80, 0, 0), (77, none, .iconst (-1), 1, 0, (-1), 0), (78, none, .istore 4, 2, 0, 0, 0)] := fq_of2 cd_610 ow_610 cl_610 rfl (pc := 57) (by decide +kernel)
          j_al (pc := 57) (a := 648) (e := 10) D rfl rfl rfl (by decide) (s0_648 H) (s1_648 H) ⟨rfl, rfl, rfl⟩ rfl gn fun qb2 D =>
          j_igt (pc := 58) D rfl (fun q =>
            fk_jump cut_610_80 rfl rfl) (fun q D =>
            j_aldn (pc := 61) D rfl rfl rfl fun D =>
            j_gfc (pc := 62) (a := 602) D rfl rfl (by decide) rfl (s0_602 H) rfl (sf_452_602 H) fun D =>
            j_ild (pc := 65) D rfl rfl rfl fun D =>
            j_al (pc := 67) (a := 645) (e := 10) D rfl rfl rfl (by decide) (s0_645 H) (s1_645 H) ⟨rfl, rfl, rfl⟩ rfl (gy qb1) fun q D =>
            j_aldn (pc := 68) D rfl rfl rfl fun D =>
            j_gfc (pc := 69) (a := 602) D rfl rfl (by decide) rfl (s0_602 H) rfl (sf_457_602 H) fun D =>
            j_ildn (pc := 72) D rfl rfl rfl fun D =>
            j_al (pc := 73) (a := 649) (e := 10) D rfl rfl rfl (by decide) (s0_649 H) (s1_649 H) ⟨rfl, rfl, rfl⟩ rfl (gy qb2) fun q D =>
            j_igt (pc := 74) D rfl (fun q =>
              fk_jump cut_610_80 rfl rfl) (fun q D =>
              j_ic (pc := 77) D rfl fun D =>
              j_ist (pc := 78) (L' := [(4, (0, (-1))), (0, (4, 602)), (1, (0, x1)), (5, (0, x5))]) D rfl nl_610 rfl rfl fun D =>
              fk_jump cut_610_80 rfl rfl))) (fun q =>
          fk_jump cut_610_80 rfl rfl))) (fun q =>
      have D : fk_D 610 [(86, none, .iload 4, 2, 0, 0, 0), (88, none, .ireturn, 1, 0, 0, 0)] := fq_of2 cd_610 ow_610 cl_610 rfl (pc := 86) (by decide +kernel)
      j_ild (pc := 86) D rfl rfl rfl fun D =>
      j_iret D rt_610)
theorem e_610_80 (d : Nat) (x1 x4 x5 : Int) {h : fi_H} (H : Shp h) : c_610_80 d x1 x4 x5 h =
  c_610_18 d x1 x4 (wI (x5 + 1)) h := by
  unfold c_610_80
  exact
    have D : fk_D 610 [(80, some [0, 1, 4, 5], .iinc 5 1, 3, 0, 1, 0), (83, none, .goto (-65), 3, 18, 0, 0)] := fq_of2 cd_610 ow_610 cl_610 rfl (pc := 80) (by decide +kernel)
    j_inc (pc := 80) (L' := [(5, (0, wI (x5 + 1))), (0, (4, 602)), (1, (0, x1)), (4, (0, x4))]) D rfl rfl rfl (by decide +kernel) rfl fun D =>
    j_goto (pc := 83) D rfl <|
    fk_jump cut_610_18 rfl rfl
theorem m_610 (d : Nat) (x1 x2 x3 : Int) {h : fi_H} (H : Shp h) : fj_run (d + 1) 610 h [(4, 602), (0, x1), (0, x2), (0, x3)] =
  if 0 ≤ wI ((wI ((wI (40 * x2)) + x3)) - 1) ∧ wI ((wI ((wI (40 * x2)) + x3)) - 1) < 9600 then
  lt_ (h 10 637 (wI ((wI ((wI (40 * x2)) + x3)) - 1)).toNat) fun y2 =>
  c_610_18 d x1 y2 0 h
  else none := by
  rw [fj_run_eq d (by decide) h [(4, 602), (0, x1), (0, x2), (0, x3)] (Nat.le_of_ble_eq_true (by rw [nl_610]; rfl))]
  show gG (fj_run d) 610 0 [(0, (4, 602)), (1, (0, x1)), (2, (0, x2)), (3, (0, x3))] [] h = _
  exact
    have D : fk_D 610 [(0, none, .aload_n 0, 1, 0, 0, 0), (1, none, .getfield 122, 3, 442, 129, 12), (4, none, .bipush 40, 2, 0, 40, 0), (6, none, .iload_n 2, 1, 0, 0, 0), (7, none, .imul, 1, 0, 0, 0), (8, none, .iload_n 3, 1, 0, 0, 0), (9, none, .iadd, 1, 0, 0, 0), (10, none, .iconst 1, 1, 0, 1, 0), (11, none, .isub, 1, 0, 0, 0), (12, none, .iaload, 1, 0, 0, 0), (13, none, .istore 4, 2, 0, 0, 0), (15, none, .iconst 0, 1, 0, 0, 0), (16, none, .istore 5, 2, 0, 0, 0)] := fq_of2 cd_610 ow_610 cl_610 rfl (pc := 0) (by decide +kernel)
    j_aldn (pc := 0) D rfl rfl rfl fun D =>
    j_gfc (pc := 1) (a := 602) D rfl rfl (by decide) rfl (s0_602 H) rfl (sf_442_602 H) fun D =>
    j_bp (pc := 4) D rfl fun D =>
    j_ildn (pc := 6) D rfl rfl rfl fun D =>
    j_imul (pc := 7) D rfl fun D =>
    j_ildn (pc := 8) D rfl rfl rfl fun D =>
    j_iadd (pc := 9) D rfl fun D =>
    j_ic (pc := 10) D rfl fun D =>
    j_isub (pc := 11) D rfl fun D =>
    j_al (pc := 12) (a := 637) (e := 10) D rfl rfl rfl (by decide) (s0_637 H) (s1_637 H) ⟨rfl, rfl, rfl⟩ rfl gn fun qb1 D =>
    j_stl (pc := 13) (L' := fun y2 => [(4, (0, y2)), (0, (4, 602)), (1, (0, x1)), (2, (0, x2)), (3, (0, x3))]) D rfl ⟨rfl, rfl, rfl, rfl⟩ nl_610 rfl (fun _ => rfl) fun y2 ey2 D =>
    j_ic (pc := 15) D rfl fun D =>
    j_ist (pc := 16) (L' := [(5, (0, 0)), (4, (0, y2)), (0, (4, 602)), (1, (0, x1)), (2, (0, x2)), (3, (0, x3))]) D rfl nl_610 rfl rfl fun D =>
    fk_jump cut_610_18 rfl rfl
/-! 611 StatuteHouseModel.holds(IIIII)Z -/
theorem cd_611 : fi_code 611 = prog_69_method_102_code := rfl
theorem hx_611 : ∀ pc, fi_hat 611 pc = none := fun pc => by unfold fi_hat; rw [show fi_hh 611 = [] from rfl]; rfl
theorem rt_611 : fi_ret 611 = some .boolean := rfl
theorem nl_611 : fi_nl 611 = 12 := rfl
theorem ow_611 : fi_ow 611 = 29 := rfl
theorem cl_611 : fj_cutT.getD 611 [] = [(12, [0, 1, 2, 3, 4, 5]), (81, [0, 2, 6, 7, 8]), (125, [0, 2, 6, 7, 8, 9]), (127, [0, 2, 6, 7, 8, 9, 10]), (191, [0, 6, 7, 8]), (194, [0, 6, 7, 8, 9]), (219, [9])] := rfl
theorem cut_611_12 : fj_cut 611 12 = some [0, 1, 2, 3, 4, 5] := by decide +kernel
noncomputable def c_611_12 (d : Nat) (x1 x2 x3 x4 x5 : Int) (h : fi_H) : fk_R := gG (fj_run d) 611 12 [(0, (4, 602)), (1, (0, x1)), (2, (0, x2)), (3, (0, x3)), (4, (0, x4)), (5, (0, x5))] [] h
theorem cut_611_81 : fj_cut 611 81 = some [0, 2, 6, 7, 8] := by decide +kernel
noncomputable def c_611_81 (d : Nat) (x2 x6 x7 x8 s0 : Int) (h : fi_H) : fk_R := gG (fj_run d) 611 81 [(0, (4, 602)), (2, (0, x2)), (6, (0, x6)), (7, (0, x7)), (8, (0, x8))] [(0, s0)] h
theorem cut_611_125 : fj_cut 611 125 = some [0, 2, 6, 7, 8, 9] := by decide +kernel
noncomputable def c_611_125 (d : Nat) (x2 x6 x7 x8 x9 s0 : Int) (h : fi_H) : fk_R := gG (fj_run d) 611 125 [(0, (4, 602)), (2, (0, x2)), (6, (0, x6)), (7, (0, x7)), (8, (0, x8)), (9, (0, x9))] [(0, s0)] h
theorem cut_611_127 : fj_cut 611 127 = some [0, 2, 6, 7, 8, 9, 10] := by decide +kernel
noncomputable def c_611_127 (d : Nat) (x2 x6 x7 x8 x9 x10 : Int) (h : fi_H) : fk_R := gG (fj_run d) 611 127 [(0, (4, 602)), (2, (0, x2)), (6, (0, x6)), (7, (0, x7)), (8, (0, x8)), (9, (0, x9)), (10, (0, x10))] [] h
theorem cut_611_191 : fj_cut 611 191 = some [0, 6, 7, 8] := by decide +kernel
noncomputable def c_611_191 (d : Nat) (x6 x7 x8 : Int) (h : fi_H) : fk_R := gG (fj_run d) 611 191 [(0, (4, 602)), (6, (0, x6)), (7, (0, x7)), (8, (0, x8))] [] h
theorem cut_611_194 : fj_cut 611 194 = some [0, 6, 7, 8, 9] := by decide +kernel
noncomputable def c_611_194 (d : Nat) (x6 x7 x8 x9 : Int) (h : fi_H) : fk_R := gG (fj_run d) 611 194 [(0, (4, 602)), (6, (0, x6)), (7, (0, x7)), (8, (0, x8)), (9, (0, x9))] [] h
theorem cut_611_219 : fj_cut 611 219 = some [9] := by decide +kernel
noncomputable def c_611_219 (d : Nat) (x9 : Int) (h : fi_H) : fk_R := gG (fj_run d) 611 219 [(9, (0, x9))] [] h
theorem e_611_12 (d : Nat) (x1 x2 x3 x4 x5 : Int) {h : fi_H} (H : Shp h) : c_611_12 d x1 x2 x3 x4 x5 h =
  cv_ (fj_run d 576 h [(4, 602)])
    (fun h1 =>
    if 0 ≤ x2 ∧ x2 < 560 then
    ca_ (fj_run d 606 h1 [(4, 602), (0, 2), (0, h1 10 625 x2.toNat), (0, x3), (0, x4)]) 0
      (fun v6 h5 =>
      lt_ (fi_upd h5 487 602 0 x3) fun h8 =>
      lt_ (fi_upd h8 488 602 0 x4) fun h9 =>
      ca_ (fj_run d 608 h9 [(4, 602), (0, x1), (0, h9 10 625 x2.toNat), (0, x3), (0, x4), (0, wI (x5 + 1))]) 0
        (fun v11 h10 =>
        if v11 = 0 then
          c_611_81 d x2 v6 (h5 487 602 0) (h5 488 602 0) 0 h10
        else
          c_611_81 d x2 v6 (h5 487 602 0) (h5 488 602 0) 2 h10)
        (fun q12 h10 => tx_ q12 h10))
      (fun q7 h5 => tx_ q7 h5)
    else none)
    (fun q3 h1 => tx_ q3 h1) := by
  unfold c_611_12
  exact
    have D : fk_D 611 [(12, some [0, 1, 2, 3, 4, 5], .aload_n 0, 1, 0, 0, 0), (13, none, .invokevirtual 910, 3, 0, 411, 0), (16, none, .aload_n 0, 1, 0, 0, 0), (17, none, .iconst 2, 1, 0, 2, 0), (18, none, .aload_n 0, 1, 0, 0, 0), (19, none, .getfield 86, 3, 428, 129, 12), (22, none, .iload_n 2, 1, 0, 0, 0), (23, none, .iaload, 1, 0, 0, 0), (24, none, .iload_n 3, 1, 0, 0, 0), (25, none, .iload 4, 2, 0, 0, 0), (27, none, .invokevirtual 884, 3, 4, 404, 1), (30, none, .istore 6, 2, 0, 0, 0), (32, none, .aload_n 0, 1, 0, 0, 0), (33, none, .getfield 224, 3, 487, 129, 10), (36, none, .istore 7, 2, 0, 0, 0), (38, none, .aload_n 0, 1, 0, 0, 0), (39, none, .getfield 845, 3, 488, 129, 10), (42, none, .istore 8, 2, 0, 0, 0), (44, none, .aload_n 0, 1, 0, 0, 0), (45, none, .iload_n 3, 1, 0, 0, 0)] := fq_of2 cd_611 ow_611 cl_611 rfl (pc := 12) (by decide +kernel)
    j_aldn (pc := 12) D rfl rfl rfl fun D =>
    j_ivv (pc := 13) (m := 576) (dd := 411) (a := []) (rest := []) D rfl rfl rfl rfl rfl (by decide) (s0_602 H) (by decide +kernel) (fun h1 e1 D =>
      have T := fj_run_ok _ _ _ _ _ _ H.1 e1
      have H := shp_st H T
      j_aldn (pc := 16) D rfl rfl rfl fun D =>
      j_ic (pc := 17) D rfl fun D =>
      j_aldn (pc := 18) D rfl rfl rfl fun D =>
      j_gfc (pc := 19) (a := 602) D rfl rfl (by decide) rfl (s0_602 H) rfl (sf_428_602 H) fun D =>
      j_ildn (pc := 22) D rfl rfl rfl fun D =>
      j_al (pc := 23) (a := 625) (e := 10) D rfl rfl rfl (by decide) (s0_625 H) (s1_625 H) ⟨rfl, rfl, rfl⟩ rfl gn fun qb4 D =>
      j_ildn (pc := 24) D rfl rfl rfl fun D =>
      j_ild (pc := 25) D rfl rfl rfl fun D =>
      j_iv (pc := 27) (m := 606) (dd := 404) (a := [(0, 2), (0, h1 10 625 x2.toNat), (0, x3), (0, x4)]) (rest := []) D rfl rfl rfl rfl rfl (by decide) (s0_602 H) (by decide +kernel) (fun v6 h5 e1 D =>
        have T := fj_run_ok _ _ _ _ _ _ H.1 e1
        have H := shp_st H T
        j_ist (pc := 30) (L' := [(6, (0, v6)), (0, (4, 602)), (1, (0, x1)), (2, (0, x2)), (3, (0, x3)), (4, (0, x4)), (5, (0, x5))]) D rfl nl_611 rfl rfl fun D =>
        j_aldn (pc := 32) D rfl rfl rfl fun D =>
        j_gf (pc := 33) (a := 602) D rfl rfl (by decide) rfl (s0_602 H) rfl fun D =>
        j_ist (pc := 36) (L' := [(7, (0, h5 487 602 0)), (6, (0, v6)), (0, (4, 602)), (1, (0, x1)), (2, (0, x2)), (3, (0, x3)), (4, (0, x4)), (5, (0, x5))]) D rfl nl_611 rfl rfl fun D =>
        j_aldn (pc := 38) D rfl rfl rfl fun D =>
        j_gf (pc := 39) (a := 602) D rfl rfl (by decide) rfl (s0_602 H) rfl fun D =>
        j_ist (pc := 42) (L' := [(8, (0, h5 488 602 0)), (7, (0, h5 487 602 0)), (6, (0, v6)), (0, (4, 602)), (1, (0, x1)), (2, (0, x2)), (3, (0, x3)), (4, (0, x4)), (5, (0, x5))]) D rfl nl_611 rfl rfl fun D =>
        j_aldn (pc := 44) D rfl rfl rfl fun D =>
        j_ildn (pc := 45) D rfl rfl rfl fun D =>
        have D : fk_D 611 [(46, none, .putfield 224, 3, 487, 129, 10), (49, none, .aload_n 0, 1, 0, 0, 0), (50, none, .iload 4, 2, 0, 0, 0), (52, none, .putfield 845, 3, 488, 129, 10), (55, none, .aload_n 0, 1, 0, 0, 0), (56, none, .iload_n 1, 1, 0, 0, 0), (57, none, .aload_n 0, 1, 0, 0, 0), (58, none, .getfield 86, 3, 428, 129, 12), (61, none, .iload_n 2, 1, 0, 0, 0), (62, none, .iaload, 1, 0, 0, 0), (63, none, .iload_n 3, 1, 0, 0, 0), (64, none, .iload 4, 2, 0, 0, 0), (66, none, .iload 5, 2, 0, 0, 0), (68, none, .iconst 1, 1, 0, 1, 0), (69, none, .iadd, 1, 0, 0, 0), (70, none, .invokevirtual 900, 3, 5, 408, 1), (73, none, .ifCond .eq 7, 3, 80, 0, 0), (76, none, .iconst 2, 1, 0, 2, 0), (77, none, .goto 4, 3, 81, 0, 0)] := fq_of2 cd_611 ow_611 cl_611 rfl (pc := 46) (by decide +kernel)
        j_pf (pc := 46) (a := 602) D rfl rfl rfl (s0_602 H) rfl rfl (gy (by decide)) (gy rfl) fun h8 eh8 S D =>
        have T := fj_hs_ok H.1 S
        have H := shp_st H T
        j_aldn (pc := 49) D rfl rfl rfl fun D =>
        j_ild (pc := 50) D rfl rfl rfl fun D =>
        j_pf (pc := 52) (a := 602) D rfl rfl rfl (s0_602 H) rfl rfl (gy (by decide)) (gy rfl) fun h9 eh9 S D =>
        have T := fj_hs_ok H.1 S
        have H := shp_st H T
        j_aldn (pc := 55) D rfl rfl rfl fun D =>
        j_ildn (pc := 56) D rfl rfl rfl fun D =>
        j_aldn (pc := 57) D rfl rfl rfl fun D =>
        j_gfc (pc := 58) (a := 602) D rfl rfl (by decide) rfl (s0_602 H) rfl (sf_428_602 H) fun D =>
        j_ildn (pc := 61) D rfl rfl rfl fun D =>
        j_al (pc := 62) (a := 625) (e := 10) D rfl rfl rfl (by decide) (s0_625 H) (s1_625 H) ⟨rfl, rfl, rfl⟩ rfl (gy qb4) fun q D =>
        j_ildn (pc := 63) D rfl rfl rfl fun D =>
        j_ild (pc := 64) D rfl rfl rfl fun D =>
        j_ild (pc := 66) D rfl rfl rfl fun D =>
        j_ic (pc := 68) D rfl fun D =>
        j_iadd (pc := 69) D rfl fun D =>
        j_iv (pc := 70) (m := 608) (dd := 408) (a := [(0, x1), (0, h9 10 625 x2.toNat), (0, x3), (0, x4), (0, wI (x5 + 1))]) (rest := []) D rfl rfl rfl rfl rfl (by decide) (s0_602 H) (by decide +kernel) (fun v11 h10 e1 D =>
          have T := fj_run_ok _ _ _ _ _ _ H.1 e1
          have H := shp_st H T
          j_ifeq (pc := 73) D rfl (fun q =>
            have D : fk_D 611 [(80, none, .iconst 0, 1, 0, 0, 0)] := fq_of2 cd_611 ow_611 cl_611 rfl (pc := 80) (by decide +kernel)
            j_ic (pc := 80) D rfl fun D =>
            fk_jump cut_611_81 rfl rfl) (fun q D =>
            j_ic (pc := 76) D rfl fun D =>
            j_goto (pc := 77) D rfl <|
            fk_jump cut_611_81 rfl rfl)) (fun q12 h10 e1 =>
          j_tx (hx_611 _))) (fun q7 h5 e1 =>
        j_tx (hx_611 _))) (fun q3 h1 e1 =>
      j_tx (hx_611 _))
theorem e_611_81 (d : Nat) (x2 x6 x7 x8 s0 : Int) {h : fi_H} (H : Shp h) : c_611_81 d x2 x6 x7 x8 s0 h =
  if s0 = 0 then
    if 0 ≤ x2 ∧ x2 < 560 then
    if h 10 627 x2.toNat = (-1) then
      c_611_127 d x2 x6 x7 x8 s0 1 h
    else
      cv_ (fj_run d 575 h [(4, 602), (0, h 10 627 x2.toNat)])
        (fun h2 =>
        if lc_ (h2 492 602 0) 1 = 0 then
          c_611_125 d x2 x6 x7 x8 s0 1 h2
        else
          c_611_125 d x2 x6 x7 x8 s0 0 h2)
        (fun q4 h2 => tx_ q4 h2)
    else none
  else
    c_611_194 d x6 x7 x8 s0 h := by
  unfold c_611_81
  exact
    have D : fk_D 611 [(81, some [0, 2, 6, 7, 8], .istore 9, 2, 0, 0, 0), (83, none, .iload 9, 2, 0, 0, 0), (85, none, .ifCond .ne 109, 3, 194, 0, 0), (88, none, .iconst 1, 1, 0, 1, 0), (89, none, .istore 10, 2, 0, 0, 0), (91, none, .aload_n 0, 1, 0, 0, 0), (92, none, .getfield 92, 3, 430, 129, 12), (95, none, .iload_n 2, 1, 0, 0, 0), (96, none, .iaload, 1, 0, 0, 0), (97, none, .iconst (-1), 1, 0, (-1), 0), (98, none, .if_icmp .eq 29, 3, 127, 0, 0), (101, none, .aload_n 0, 1, 0, 0, 0), (102, none, .aload_n 0, 1, 0, 0, 0), (103, none, .getfield 92, 3, 430, 129, 12), (106, none, .iload_n 2, 1, 0, 0, 0), (107, none, .iaload, 1, 0, 0, 0), (108, none, .invokevirtual 913, 3, 1, 412, 0), (111, none, .aload_n 0, 1, 0, 0, 0), (112, none, .getfield 869, 3, 492, 129, 11), (115, none, .lconst 1, 1, 0, 0, 0)] := fq_of2 cd_611 ow_611 cl_611 rfl (pc := 81) (by decide +kernel)
    j_ist (pc := 81) (L' := [(9, (0, s0)), (0, (4, 602)), (2, (0, x2)), (6, (0, x6)), (7, (0, x7)), (8, (0, x8))]) D rfl nl_611 rfl rfl fun D =>
    j_ild (pc := 83) D rfl rfl rfl fun D =>
    j_ifne (pc := 85) D rfl (fun q D =>
      j_ic (pc := 88) D rfl fun D =>
      j_ist (pc := 89) (L' := [(10, (0, 1)), (9, (0, s0)), (0, (4, 602)), (2, (0, x2)), (6, (0, x6)), (7, (0, x7)), (8, (0, x8))]) D rfl nl_611 rfl rfl fun D =>
      j_aldn (pc := 91) D rfl rfl rfl fun D =>
      j_gfc (pc := 92) (a := 602) D rfl rfl (by decide) rfl (s0_602 H) rfl (sf_430_602 H) fun D =>
      j_ildn (pc := 95) D rfl rfl rfl fun D =>
      j_al (pc := 96) (a := 627) (e := 10) D rfl rfl rfl (by decide) (s0_627 H) (s1_627 H) ⟨rfl, rfl, rfl⟩ rfl gn fun qb1 D =>
      j_ic (pc := 97) D rfl fun D =>
      j_ieq (pc := 98) D rfl (fun q =>
        fk_jump cut_611_127 rfl rfl) (fun q D =>
        j_aldn (pc := 101) D rfl rfl rfl fun D =>
        j_aldn (pc := 102) D rfl rfl rfl fun D =>
        j_gfc (pc := 103) (a := 602) D rfl rfl (by decide) rfl (s0_602 H) rfl (sf_430_602 H) fun D =>
        j_ildn (pc := 106) D rfl rfl rfl fun D =>
        j_al (pc := 107) (a := 627) (e := 10) D rfl rfl rfl (by decide) (s0_627 H) (s1_627 H) ⟨rfl, rfl, rfl⟩ rfl (gy qb1) fun q D =>
        j_ivv (pc := 108) (m := 575) (dd := 412) (a := [(0, h 10 627 x2.toNat)]) (rest := []) D rfl rfl rfl rfl rfl (by decide) (s0_602 H) (by decide +kernel) (fun h2 e1 D =>
          have T := fj_run_ok _ _ _ _ _ _ H.1 e1
          have H := shp_st H T
          j_aldn (pc := 111) D rfl rfl rfl fun D =>
          j_gf (pc := 112) (a := 602) D rfl rfl (by decide) rfl (s0_602 H) rfl fun D =>
          j_c0 (pc := 115) (v := (1, 1)) D rfl rfl (by decide +kernel) fun D =>
          have D : fk_D 611 [(116, none, .lcmp, 1, 0, 0, 0), (117, none, .ifCond .ne 7, 3, 124, 0, 0), (120, none, .iconst 1, 1, 0, 1, 0), (121, none, .goto 4, 3, 125, 0, 0)] := fq_of2 cd_611 ow_611 cl_611 rfl (pc := 116) (by decide +kernel)
          j_lcmp (pc := 116) D rfl fun D =>
          j_ifne (pc := 117) D rfl (fun q D =>
            j_ic (pc := 120) D rfl fun D =>
            j_goto (pc := 121) D rfl <|
            fk_jump cut_611_125 rfl rfl) (fun q =>
            have D : fk_D 611 [(124, none, .iconst 0, 1, 0, 0, 0)] := fq_of2 cd_611 ow_611 cl_611 rfl (pc := 124) (by decide +kernel)
            j_ic (pc := 124) D rfl fun D =>
            fk_jump cut_611_125 rfl rfl)) (fun q4 h2 e1 =>
          j_tx (hx_611 _)))) (fun q =>
      fk_jump cut_611_194 rfl rfl)
theorem e_611_125 (d : Nat) (x2 x6 x7 x8 x9 s0 : Int) {h : fi_H} (H : Shp h) : c_611_125 d x2 x6 x7 x8 x9 s0 h =
  c_611_127 d x2 x6 x7 x8 x9 s0 h := by
  unfold c_611_125
  exact
    have D : fk_D 611 [(125, some [0, 2, 6, 7, 8, 9], .istore 10, 2, 0, 0, 0)] := fq_of2 cd_611 ow_611 cl_611 rfl (pc := 125) (by decide +kernel)
    j_ist (pc := 125) (L' := [(10, (0, s0)), (0, (4, 602)), (2, (0, x2)), (6, (0, x6)), (7, (0, x7)), (8, (0, x8)), (9, (0, x9))]) D rfl nl_611 rfl rfl fun D =>
    fk_jump cut_611_127 rfl rfl
theorem e_611_127 (d : Nat) (x2 x6 x7 x8 x9 x10 : Int) {h : fi_H} (H : Shp h) : c_611_127 d x2 x6 x7 x8 x9 x10 h =
  if x10 = 0 then
    c_611_194 d x6 x7 x8 x9 h
  else
    if 0 ≤ x2 ∧ x2 < 560 then
    cv_ (fj_run d 575 h [(4, 602), (0, h 10 626 x2.toNat)])
      (fun h2 =>
      if 0 ≤ h2 10 625 x2.toNat ∧ h2 10 625 x2.toNat < 41 then
      if 0 < h2 10 612 (h2 10 625 x2.toNat).toNat then
        ca_ (fj_run d 602 h2 [(4, 602), (0, wI ((wI (48 + (h2 10 612 (h2 10 625 x2.toNat).toNat))) - 1)), (1, h2 492 602 0), (1, wI (h2 10 613 (h2 10 625 x2.toNat).toNat))]) 1
          (fun v7 h6 =>
          cv_ (fj_run d 586 h6 [(4, 602), (1, v7)])
            (fun h9 =>
            c_611_191 d x6 x7 x8 h9)
            (fun q11 h9 => tx_ q11 h9))
          (fun q8 h6 => tx_ q8 h6)
      else
        c_611_191 d x6 x7 x8 h2
      else none)
      (fun q4 h2 => tx_ q4 h2)
    else none := by
  unfold c_611_127
  exact
    have D : fk_D 611 [(127, some [0, 2, 6, 7, 8, 9, 10], .iload 10, 2, 0, 0, 0), (129, none, .ifCond .eq 65, 3, 194, 0, 0), (132, none, .aload_n 0, 1, 0, 0, 0), (133, none, .aload_n 0, 1, 0, 0, 0), (134, none, .getfield 89, 3, 429, 129, 12), (137, none, .iload_n 2, 1, 0, 0, 0), (138, none, .iaload, 1, 0, 0, 0), (139, none, .invokevirtual 913, 3, 1, 412, 0), (142, none, .aload_n 0, 1, 0, 0, 0), (143, none, .getfield 46, 3, 408, 129, 12), (146, none, .aload_n 0, 1, 0, 0, 0), (147, none, .getfield 86, 3, 428, 129, 12), (150, none, .iload_n 2, 1, 0, 0, 0), (151, none, .iaload, 1, 0, 0, 0), (152, none, .iaload, 1, 0, 0, 0), (153, none, .istore 11, 2, 0, 0, 0), (155, none, .iload 11, 2, 0, 0, 0), (157, none, .ifCond .le 34, 3, 191, 0, 0), (160, none, .aload_n 0, 1, 0, 0, 0), (161, none, .aload_n 0, 1, 0, 0, 0)] := fq_of2 cd_611 ow_611 cl_611 rfl (pc := 127) (by decide +kernel)
    j_ild (pc := 127) D rfl rfl rfl fun D =>
    j_ifeq (pc := 129) D rfl (fun q =>
      fk_jump cut_611_194 rfl rfl) (fun q D =>
      j_aldn (pc := 132) D rfl rfl rfl fun D =>
      j_aldn (pc := 133) D rfl rfl rfl fun D =>
      j_gfc (pc := 134) (a := 602) D rfl rfl (by decide) rfl (s0_602 H) rfl (sf_429_602 H) fun D =>
      j_ildn (pc := 137) D rfl rfl rfl fun D =>
      j_al (pc := 138) (a := 626) (e := 10) D rfl rfl rfl (by decide) (s0_626 H) (s1_626 H) ⟨rfl, rfl, rfl⟩ rfl gn fun qb1 D =>
      j_ivv (pc := 139) (m := 575) (dd := 412) (a := [(0, h 10 626 x2.toNat)]) (rest := []) D rfl rfl rfl rfl rfl (by decide) (s0_602 H) (by decide +kernel) (fun h2 e1 D =>
        have T := fj_run_ok _ _ _ _ _ _ H.1 e1
        have H := shp_st H T
        j_aldn (pc := 142) D rfl rfl rfl fun D =>
        j_gfc (pc := 143) (a := 602) D rfl rfl (by decide) rfl (s0_602 H) rfl (sf_408_602 H) fun D =>
        j_aldn (pc := 146) D rfl rfl rfl fun D =>
        j_gfc (pc := 147) (a := 602) D rfl rfl (by decide) rfl (s0_602 H) rfl (sf_428_602 H) fun D =>
        j_ildn (pc := 150) D rfl rfl rfl fun D =>
        j_al (pc := 151) (a := 625) (e := 10) D rfl rfl rfl (by decide) (s0_625 H) (s1_625 H) ⟨rfl, rfl, rfl⟩ rfl (gy qb1) fun q D =>
        j_al (pc := 152) (a := 612) (e := 10) D rfl rfl rfl (by decide) (s0_612 H) (s1_612 H) ⟨rfl, rfl, rfl⟩ rfl gn fun qb5 D =>
        j_ist (pc := 153) (L' := [(11, (0, h2 10 612 (h2 10 625 x2.toNat).toNat)), (0, (4, 602)), (2, (0, x2)), (6, (0, x6)), (7, (0, x7)), (8, (0, x8)), (9, (0, x9)), (10, (0, x10))]) D rfl nl_611 rfl rfl fun D =>
        j_ild (pc := 155) D rfl rfl rfl fun D =>
        j_ifle (pc := 157) D rfl (fun q D =>
          j_aldn (pc := 160) D rfl rfl rfl fun D =>
          j_aldn (pc := 161) D rfl rfl rfl fun D =>
          have D : fk_D 611 [(162, none, .bipush 48, 2, 0, 48, 0), (164, none, .iload 11, 2, 0, 0, 0), (166, none, .iadd, 1, 0, 0, 0), (167, none, .iconst 1, 1, 0, 1, 0), (168, none, .isub, 1, 0, 0, 0), (169, none, .aload_n 0, 1, 0, 0, 0), (170, none, .getfield 869, 3, 492, 129, 11), (173, none, .aload_n 0, 1, 0, 0, 0), (174, none, .getfield 49, 3, 409, 129, 12), (177, none, .aload_n 0, 1, 0, 0, 0), (178, none, .getfield 86, 3, 428, 129, 12), (181, none, .iload_n 2, 1, 0, 0, 0), (182, none, .iaload, 1, 0, 0, 0), (183, none, .iaload, 1, 0, 0, 0), (184, none, .i2l, 1, 0, 0, 0), (185, none, .invokevirtual 916, 3, 3, 413, 2), (188, none, .invokevirtual 920, 3, 1, 414, 0)] := fq_of2 cd_611 ow_611 cl_611 rfl (pc := 162) (by decide +kernel)
          j_bp (pc := 162) D rfl fun D =>
          j_ild (pc := 164) D rfl rfl rfl fun D =>
          j_iadd (pc := 166) D rfl fun D =>
          j_ic (pc := 167) D rfl fun D =>
          j_isub (pc := 168) D rfl fun D =>
          j_aldn (pc := 169) D rfl rfl rfl fun D =>
          j_gf (pc := 170) (a := 602) D rfl rfl (by decide) rfl (s0_602 H) rfl fun D =>
          j_aldn (pc := 173) D rfl rfl rfl fun D =>
          j_gfc (pc := 174) (a := 602) D rfl rfl (by decide) rfl (s0_602 H) rfl (sf_409_602 H) fun D =>
          j_aldn (pc := 177) D rfl rfl rfl fun D =>
          j_gfc (pc := 178) (a := 602) D rfl rfl (by decide) rfl (s0_602 H) rfl (sf_428_602 H) fun D =>
          j_ildn (pc := 181) D rfl rfl rfl fun D =>
          j_al (pc := 182) (a := 625) (e := 10) D rfl rfl rfl (by decide) (s0_625 H) (s1_625 H) ⟨rfl, rfl, rfl⟩ rfl (gy qb1) fun q D =>
          j_al (pc := 183) (a := 613) (e := 10) D rfl rfl rfl (by decide) (s0_613 H) (s1_613 H) ⟨rfl, rfl, rfl⟩ rfl (gy qb5) fun q D =>
          j_i2l (pc := 184) D rfl fun D =>
          j_iv (pc := 185) (m := 602) (dd := 413) (a := [(0, wI ((wI (48 + (h2 10 612 (h2 10 625 x2.toNat).toNat))) - 1)), (1, h2 492 602 0), (1, wI (h2 10 613 (h2 10 625 x2.toNat).toNat))]) (rest := [(4, 602)]) D rfl rfl rfl rfl rfl (by decide) (s0_602 H) (by decide +kernel) (fun v7 h6 e1 D =>
            have T := fj_run_ok _ _ _ _ _ _ H.1 e1
            have H := shp_st H T
            j_ivv (pc := 188) (m := 586) (dd := 414) (a := [(1, v7)]) (rest := []) D rfl rfl rfl rfl rfl (by decide) (s0_602 H) (by decide +kernel) (fun h9 e1 D =>
              have T := fj_run_ok _ _ _ _ _ _ H.1 e1
              have H := shp_st H T
              fk_jump cut_611_191 rfl rfl) (fun q11 h9 e1 =>
              j_tx (hx_611 _))) (fun q8 h6 e1 =>
            j_tx (hx_611 _))) (fun q =>
          fk_jump cut_611_191 rfl rfl)) (fun q4 h2 e1 =>
        j_tx (hx_611 _)))
theorem e_611_191 (d : Nat) (x6 x7 x8 : Int) {h : fi_H} (H : Shp h) : c_611_191 d x6 x7 x8 h =
  c_611_194 d x6 x7 x8 1 h := by
  unfold c_611_191
  exact
    have D : fk_D 611 [(191, some [0, 6, 7, 8], .iconst 1, 1, 0, 1, 0), (192, none, .istore 9, 2, 0, 0, 0)] := fq_of2 cd_611 ow_611 cl_611 rfl (pc := 191) (by decide +kernel)
    j_ic (pc := 191) D rfl fun D =>
    j_ist (pc := 192) (L' := [(9, (0, 1)), (0, (4, 602)), (6, (0, x6)), (7, (0, x7)), (8, (0, x8))]) D rfl nl_611 rfl rfl fun D =>
    fk_jump cut_611_194 rfl rfl
theorem e_611_194 (d : Nat) (x6 x7 x8 x9 : Int) {h : fi_H} (H : Shp h) : c_611_194 d x6 x7 x8 x9 h =
  lt_ (fi_upd h 487 602 0 x7) fun h1 =>
  lt_ (fi_upd h1 488 602 0 x8) fun h2 =>
  if 0 < x9 then
    cv_ (fj_run d 612 h2 [(4, 602), (0, x6), (0, x9)])
      (fun h3 =>
      c_611_219 d x9 h3)
      (fun q5 h3 => tx_ q5 h3)
  else
    c_611_219 d x9 h2 := by
  unfold c_611_194
  exact
    have D : fk_D 611 [(194, some [0, 6, 7, 8, 9], .aload_n 0, 1, 0, 0, 0), (195, none, .iload 7, 2, 0, 0, 0), (197, none, .putfield 224, 3, 487, 129, 10), (200, none, .aload_n 0, 1, 0, 0, 0), (201, none, .iload 8, 2, 0, 0, 0), (203, none, .putfield 845, 3, 488, 129, 10), (206, none, .iload 9, 2, 0, 0, 0), (208, none, .ifCond .le 11, 3, 219, 0, 0), (211, none, .aload_n 0, 1, 0, 0, 0), (212, none, .iload 6, 2, 0, 0, 0), (214, none, .iload 9, 2, 0, 0, 0), (216, none, .invokevirtual 890, 3, 2, 406, 0)] := fq_of2 cd_611 ow_611 cl_611 rfl (pc := 194) (by decide +kernel)
    j_aldn (pc := 194) D rfl rfl rfl fun D =>
    j_ild (pc := 195) D rfl rfl rfl fun D =>
    j_pf (pc := 197) (a := 602) D rfl rfl rfl (s0_602 H) rfl rfl (gy (by decide)) (gy rfl) fun h1 eh1 S D =>
    have T := fj_hs_ok H.1 S
    have H := shp_st H T
    j_aldn (pc := 200) D rfl rfl rfl fun D =>
    j_ild (pc := 201) D rfl rfl rfl fun D =>
    j_pf (pc := 203) (a := 602) D rfl rfl rfl (s0_602 H) rfl rfl (gy (by decide)) (gy rfl) fun h2 eh2 S D =>
    have T := fj_hs_ok H.1 S
    have H := shp_st H T
    j_ild (pc := 206) D rfl rfl rfl fun D =>
    j_ifle (pc := 208) D rfl (fun q D =>
      j_aldn (pc := 211) D rfl rfl rfl fun D =>
      j_ild (pc := 212) D rfl rfl rfl fun D =>
      j_ild (pc := 214) D rfl rfl rfl fun D =>
      j_ivv (pc := 216) (m := 612) (dd := 406) (a := [(0, x6), (0, x9)]) (rest := []) D rfl rfl rfl rfl rfl (by decide) (s0_602 H) (by decide +kernel) (fun h3 e1 D =>
        have T := fj_run_ok _ _ _ _ _ _ H.1 e1
        have H := shp_st H T
        fk_jump cut_611_219 rfl rfl) (fun q5 h3 e1 =>
        j_tx (hx_611 _))) (fun q =>
      fk_jump cut_611_219 rfl rfl)
theorem e_611_219 (d : Nat) (x9 : Int) {h : fi_H} (H : Shp h) : c_611_219 d x9 h =
  if 0 < x9 then
    some (.inl (some (0, 1)), h)
  else
    some (.inl (some (0, 0)), h) := by
  unfold c_611_219
  exact
    have D : fk_D 611 [(219, some [9], .iload 9, 2, 0, 0, 0), (221, none, .ifCond .le 7, 3, 228, 0, 0), (224, none, .iconst 1, 1, 0, 1, 0), (225, none, .goto 4, 3, 229, 0, 0)] := fq_of2 cd_611 ow_611 cl_611 rfl (pc := 219) (by decide +kernel)
    j_ild (pc := 219) D rfl rfl rfl fun D =>
    j_ifle (pc := 221) D rfl (fun q D =>
      j_ic (pc := 224) D rfl fun D =>
      j_goto (pc := 225) D rfl <|
      have D : fk_D 611 [(229, none, .ireturn, 1, 0, 0, 0)] := fq_of2 cd_611 ow_611 cl_611 rfl (pc := 229) (by decide +kernel)
      j_zret D rt_611 (gy (by decide))) (fun q =>
      have D : fk_D 611 [(228, none, .iconst 0, 1, 0, 0, 0), (229, none, .ireturn, 1, 0, 0, 0)] := fq_of2 cd_611 ow_611 cl_611 rfl (pc := 228) (by decide +kernel)
      j_ic (pc := 228) D rfl fun D =>
      j_zret D rt_611 (gy (by decide)))
theorem m_611 (d : Nat) (x1 x2 x3 x4 x5 : Int) {h : fi_H} (H : Shp h) : fj_run (d + 1) 611 h [(4, 602), (0, x1), (0, x2), (0, x3), (0, x4), (0, x5)] =
  if x5 = 7 then
    cv_ (fj_run d 577 h [(4, 602), (0, 4)])
      (fun h1 =>
      c_611_12 d x1 x2 x3 x4 x5 h1)
      (fun q3 h1 => tx_ q3 h1)
  else
    c_611_12 d x1 x2 x3 x4 x5 h := by
  rw [fj_run_eq d (by decide) h [(4, 602), (0, x1), (0, x2), (0, x3), (0, x4), (0, x5)] (Nat.le_of_ble_eq_true (by rw [nl_611]; rfl))]
  show gG (fj_run d) 611 0 [(0, (4, 602)), (1, (0, x1)), (2, (0, x2)), (3, (0, x3)), (4, (0, x4)), (5, (0, x5))] [] h = _
  exact
    have D : fk_D 611 [(0, none, .iload 5, 2, 0, 0, 0), (2, none, .bipush 7, 2, 0, 7, 0), (4, none, .if_icmp .ne 8, 3, 12, 0, 0), (7, none, .aload_n 0, 1, 0, 0, 0), (8, none, .iconst 4, 1, 0, 4, 0), (9, none, .invokevirtual 854, 3, 1, 403, 0)] := fq_of2 cd_611 ow_611 cl_611 rfl (pc := 0) (by decide +kernel)
    j_ild (pc := 0) D rfl rfl rfl fun D =>
    j_bp (pc := 2) D rfl fun D =>
    j_ine (pc := 4) D rfl (fun q D =>
      j_aldn (pc := 7) D rfl rfl rfl fun D =>
      j_ic (pc := 8) D rfl fun D =>
      j_ivv (pc := 9) (m := 577) (dd := 403) (a := [(0, 4)]) (rest := []) D rfl rfl rfl rfl rfl (by decide) (s0_602 H) (by decide +kernel) (fun h1 e1 D =>
        have T := fj_run_ok _ _ _ _ _ _ H.1 e1
        have H := shp_st H T
        fk_jump cut_611_12 rfl rfl) (fun q3 h1 e1 =>
        j_tx (hx_611 _))) (fun q =>
      fk_jump cut_611_12 rfl rfl)
/-! 612 StatuteHouseModel.lineIs(II)V -/
theorem cd_612 : fi_code 612 = prog_69_method_97_code := rfl
theorem hx_612 : ∀ pc, fi_hat 612 pc = none := fun pc => by unfold fi_hat; rw [show fi_hh 612 = [] from rfl]; rfl
theorem rt_612 : fi_ret 612 = none := rfl
theorem nl_612 : fi_nl 612 = 3 := rfl
theorem ow_612 : fi_ow 612 = 29 := rfl
theorem cl_612 : fj_cutT.getD 612 [] = [] := rfl
theorem m_612 (d : Nat) (x1 x2 : Int) {h : fi_H} (H : Shp h) : fj_run (d + 1) 612 h [(4, 602), (0, x1), (0, x2)] =
  if x1 = (-1) then
    some (.inl none, h)
  else
    if 0 ≤ x1 ∧ x1 < 300 then
    lt_ (fi_upd h 10 673 x1.toNat x2) fun h1 =>
    lt_ (fi_upd h1 11 674 x1.toNat (h1 492 602 0)) fun h3 =>
    lt_ (fi_upd h3 11 675 x1.toNat (h3 493 602 0)) fun h4 =>
    lt_ (fi_upd h4 4 676 x1.toNat 1) fun h5 =>
    some (.inl none, h5)
    else none := by
  rw [fj_run_eq d (by decide) h [(4, 602), (0, x1), (0, x2)] (Nat.le_of_ble_eq_true (by rw [nl_612]; rfl))]
  show gG (fj_run d) 612 0 [(0, (4, 602)), (1, (0, x1)), (2, (0, x2))] [] h = _
  exact
    have D : fk_D 612 [(0, none, .iload_n 1, 1, 0, 0, 0), (1, none, .iconst (-1), 1, 0, (-1), 0), (2, none, .if_icmp .ne 4, 3, 6, 0, 0), (5, none, .return_, 1, 0, 0, 0)] := fq_of2 cd_612 ow_612 cl_612 rfl (pc := 0) (by decide +kernel)
    j_ildn (pc := 0) D rfl rfl rfl fun D =>
    j_ic (pc := 1) D rfl fun D =>
    j_ine (pc := 2) D rfl (fun q D =>
      j_vret D rt_612) (fun q =>
      have D : fk_D 612 [(6, none, .aload_n 0, 1, 0, 0, 0), (7, none, .getfield 257, 3, 503, 129, 12), (10, none, .iload_n 1, 1, 0, 0, 0), (11, none, .iload_n 2, 1, 0, 0, 0), (12, none, .iastore, 1, 0, 0, 0), (13, none, .aload_n 0, 1, 0, 0, 0), (14, none, .getfield 260, 3, 504, 129, 12), (17, none, .iload_n 1, 1, 0, 0, 0), (18, none, .aload_n 0, 1, 0, 0, 0), (19, none, .getfield 869, 3, 492, 129, 11), (22, none, .lastore, 1, 0, 0, 0), (23, none, .aload_n 0, 1, 0, 0, 0), (24, none, .getfield 263, 3, 505, 129, 12), (27, none, .iload_n 1, 1, 0, 0, 0), (28, none, .aload_n 0, 1, 0, 0, 0), (29, none, .getfield 872, 3, 493, 129, 11), (32, none, .lastore, 1, 0, 0, 0), (33, none, .aload_n 0, 1, 0, 0, 0), (34, none, .getfield 266, 3, 506, 129, 12), (37, none, .iload_n 1, 1, 0, 0, 0)] := fq_of2 cd_612 ow_612 cl_612 rfl (pc := 6) (by decide +kernel)
      j_aldn (pc := 6) D rfl rfl rfl fun D =>
      j_gfc (pc := 7) (a := 602) D rfl rfl (by decide) rfl (s0_602 H) rfl (sf_503_602 H) fun D =>
      j_ildn (pc := 10) D rfl rfl rfl fun D =>
      j_ildn (pc := 11) D rfl rfl rfl fun D =>
      j_as (pc := 12) (a := 673) (e := 10) D rfl ⟨rfl, rfl⟩ rfl (by decide) (s0_673 H) (s1_673 H) ⟨rfl, rfl, rfl⟩ rfl gn (gy rfl) fun h1 eh1 S qb2 D =>
      have T := fj_hs_ok H.1 S
      have H := shp_st H T
      j_aldn (pc := 13) D rfl rfl rfl fun D =>
      j_gfc (pc := 14) (a := 602) D rfl rfl (by decide) rfl (s0_602 H) rfl (sf_504_602 H) fun D =>
      j_ildn (pc := 17) D rfl rfl rfl fun D =>
      j_aldn (pc := 18) D rfl rfl rfl fun D =>
      j_gf (pc := 19) (a := 602) D rfl rfl (by decide) rfl (s0_602 H) rfl fun D =>
      j_as (pc := 22) (a := 674) (e := 11) D rfl ⟨rfl, rfl⟩ rfl (by decide) (s0_674 H) (s1_674 H) ⟨rfl, rfl, rfl⟩ rfl (gy qb2) (gy rfl) fun h3 eh3 S q D =>
      have T := fj_hs_ok H.1 S
      have H := shp_st H T
      j_aldn (pc := 23) D rfl rfl rfl fun D =>
      j_gfc (pc := 24) (a := 602) D rfl rfl (by decide) rfl (s0_602 H) rfl (sf_505_602 H) fun D =>
      j_ildn (pc := 27) D rfl rfl rfl fun D =>
      j_aldn (pc := 28) D rfl rfl rfl fun D =>
      j_gf (pc := 29) (a := 602) D rfl rfl (by decide) rfl (s0_602 H) rfl fun D =>
      j_as (pc := 32) (a := 675) (e := 11) D rfl ⟨rfl, rfl⟩ rfl (by decide) (s0_675 H) (s1_675 H) ⟨rfl, rfl, rfl⟩ rfl (gy qb2) (gy rfl) fun h4 eh4 S q D =>
      have T := fj_hs_ok H.1 S
      have H := shp_st H T
      j_aldn (pc := 33) D rfl rfl rfl fun D =>
      j_gfc (pc := 34) (a := 602) D rfl rfl (by decide) rfl (s0_602 H) rfl (sf_506_602 H) fun D =>
      j_ildn (pc := 37) D rfl rfl rfl fun D =>
      have D : fk_D 612 [(38, none, .iconst 1, 1, 0, 1, 0), (39, none, .bastore, 1, 0, 0, 0), (40, none, .return_, 1, 0, 0, 0)] := fq_of2 cd_612 ow_612 cl_612 rfl (pc := 38) (by decide +kernel)
      j_ic (pc := 38) D rfl fun D =>
      j_as (pc := 39) (a := 676) (e := 4) D rfl ⟨rfl, rfl⟩ rfl (by decide) (s0_676 H) (s1_676 H) ⟨rfl, rfl, rfl⟩ rfl (gy qb2) (gy (by decide)) fun h5 eh5 S q D =>
      have T := fj_hs_ok H.1 S
      have H := shp_st H T
      j_vret D rt_612)
/-! 613 StatuteHouseModel.factValue(I)V -/
theorem cd_613 : fi_code 613 = prog_69_method_99_code := rfl
theorem hx_613 : ∀ pc, fi_hat 613 pc = none := fun pc => by unfold fi_hat; rw [show fi_hh 613 = [] from rfl]; rfl
theorem rt_613 : fi_ret 613 = none := rfl
theorem nl_613 : fi_nl 613 = 3 := rfl
theorem ow_613 : fi_ow 613 = 29 := rfl
theorem cl_613 : fj_cutT.getD 613 [] = [(36, [0, 1, 2]), (56, [0, 2])] := rfl
theorem cut_613_36 : fj_cut 613 36 = some [0, 1, 2] := by decide +kernel
noncomputable def c_613_36 (d : Nat) (x1 x2 : Int) (h : fi_H) : fk_R := gG (fj_run d) 613 36 [(0, (4, 602)), (1, (0, x1)), (2, (0, x2))] [] h
theorem cut_613_56 : fj_cut 613 56 = some [0, 2] := by decide +kernel
noncomputable def c_613_56 (d : Nat) (x2 : Int) (h : fi_H) : fk_R := gG (fj_run d) 613 56 [(0, (4, 602)), (2, (0, x2))] [] h
theorem e_613_36 (d : Nat) (x1 x2 : Int) {h : fi_H} (H : Shp h) : c_613_36 d x1 x2 h =
  if 0 ≤ x1 ∧ x1 < 41 then
  lt_ (fi_upd h 492 602 0 (h 11 615 x1.toNat)) fun h2 =>
  lt_ (fi_upd h2 493 602 0 (h2 11 616 x1.toNat)) fun h3 =>
  c_613_56 d x2 h3
  else none := by
  unfold c_613_36
  exact
    have D : fk_D 613 [(36, some [0, 1, 2], .aload_n 0, 1, 0, 0, 0), (37, none, .aload_n 0, 1, 0, 0, 0), (38, none, .getfield 56, 3, 411, 129, 12), (41, none, .iload_n 1, 1, 0, 0, 0), (42, none, .laload, 1, 0, 0, 0), (43, none, .putfield 869, 3, 492, 129, 11), (46, none, .aload_n 0, 1, 0, 0, 0), (47, none, .aload_n 0, 1, 0, 0, 0), (48, none, .getfield 59, 3, 412, 129, 12), (51, none, .iload_n 1, 1, 0, 0, 0), (52, none, .laload, 1, 0, 0, 0), (53, none, .putfield 872, 3, 493, 129, 11)] := fq_of2 cd_613 ow_613 cl_613 rfl (pc := 36) (by decide +kernel)
    j_aldn (pc := 36) D rfl rfl rfl fun D =>
    j_aldn (pc := 37) D rfl rfl rfl fun D =>
    j_gfc (pc := 38) (a := 602) D rfl rfl (by decide) rfl (s0_602 H) rfl (sf_411_602 H) fun D =>
    j_ildn (pc := 41) D rfl rfl rfl fun D =>
    j_al (pc := 42) (a := 615) (e := 11) D rfl rfl rfl (by decide) (s0_615 H) (s1_615 H) ⟨rfl, rfl, rfl⟩ rfl gn fun qb1 D =>
    j_pf (pc := 43) (a := 602) D rfl rfl rfl (s0_602 H) rfl rfl (gy (by decide)) (gy rfl) fun h2 eh2 S D =>
    have T := fj_hs_ok H.1 S
    have H := shp_st H T
    j_aldn (pc := 46) D rfl rfl rfl fun D =>
    j_aldn (pc := 47) D rfl rfl rfl fun D =>
    j_gfc (pc := 48) (a := 602) D rfl rfl (by decide) rfl (s0_602 H) rfl (sf_412_602 H) fun D =>
    j_ildn (pc := 51) D rfl rfl rfl fun D =>
    j_al (pc := 52) (a := 616) (e := 11) D rfl rfl rfl (by decide) (s0_616 H) (s1_616 H) ⟨rfl, rfl, rfl⟩ rfl (gy qb1) fun q D =>
    j_pf (pc := 53) (a := 602) D rfl rfl rfl (s0_602 H) rfl rfl (gy (by decide)) (gy rfl) fun h3 eh3 S D =>
    have T := fj_hs_ok H.1 S
    have H := shp_st H T
    fk_jump cut_613_56 rfl rfl
theorem e_613_56 (d : Nat) (x2 : Int) {h : fi_H} (H : Shp h) : c_613_56 d x2 h =
  cv_ (fj_run d 612 h [(4, 602), (0, x2), (0, 0)])
    (fun h1 =>
    some (.inl none, h1))
    (fun q3 h1 => tx_ q3 h1) := by
  unfold c_613_56
  exact
    have D : fk_D 613 [(56, some [0, 2], .aload_n 0, 1, 0, 0, 0), (57, none, .iload_n 2, 1, 0, 0, 0), (58, none, .iconst 0, 1, 0, 0, 0), (59, none, .invokevirtual 890, 3, 2, 406, 0), (62, none, .return_, 1, 0, 0, 0)] := fq_of2 cd_613 ow_613 cl_613 rfl (pc := 56) (by decide +kernel)
    j_aldn (pc := 56) D rfl rfl rfl fun D =>
    j_ildn (pc := 57) D rfl rfl rfl fun D =>
    j_ic (pc := 58) D rfl fun D =>
    j_ivv (pc := 59) (m := 612) (dd := 406) (a := [(0, x2), (0, 0)]) (rest := []) D rfl rfl rfl rfl rfl (by decide) (s0_602 H) (by decide +kernel) (fun h1 e1 D =>
      have T := fj_run_ok _ _ _ _ _ _ H.1 e1
      have H := shp_st H T
      j_vret D rt_613) (fun q3 h1 e1 =>
      j_tx (hx_613 _))
theorem m_613 (d : Nat) (x1 : Int) {h : fi_H} (H : Shp h) : fj_run (d + 1) 613 h [(4, 602), (0, x1)] =
  ca_ (fj_run d 606 h [(4, 602), (0, 3), (0, x1), (0, (-1)), (0, 0)]) 0
    (fun v2 h1 =>
    ca_ (fj_run d 580 h1 [(4, 602), (0, h1 484 602 0), (0, x1)]) 0
      (fun v5 h4 =>
      if v5 = 0 then
        if 0 ≤ x1 ∧ x1 < 41 then
        if h4 4 614 x1.toNat = 0 then
          cv_ (fj_run d 577 h4 [(4, 602), (0, 6)])
            (fun h8 =>
            c_613_36 d x1 v2 h8)
            (fun q10 h8 => tx_ q10 h8)
        else
          c_613_36 d x1 v2 h4
        else none
      else
        c_613_56 d v2 h4)
      (fun q6 h4 => tx_ q6 h4))
    (fun q3 h1 => tx_ q3 h1) := by
  rw [fj_run_eq d (by decide) h [(4, 602), (0, x1)] (Nat.le_of_ble_eq_true (by rw [nl_613]; rfl))]
  show gG (fj_run d) 613 0 [(0, (4, 602)), (1, (0, x1))] [] h = _
  exact
    have D : fk_D 613 [(0, none, .aload_n 0, 1, 0, 0, 0), (1, none, .iconst 3, 1, 0, 3, 0), (2, none, .iload_n 1, 1, 0, 0, 0), (3, none, .iconst (-1), 1, 0, (-1), 0), (4, none, .iconst 0, 1, 0, 0, 0), (5, none, .invokevirtual 884, 3, 4, 404, 1), (8, none, .istore_n 2, 1, 0, 0, 0), (9, none, .aload_n 0, 1, 0, 0, 0), (10, none, .aload_n 0, 1, 0, 0, 0), (11, none, .getfield 863, 3, 484, 129, 10), (14, none, .iload_n 1, 1, 0, 0, 0), (15, none, .invokevirtual 887, 3, 2, 405, 1), (18, none, .ifCond .ne 38, 3, 56, 0, 0), (21, none, .aload_n 0, 1, 0, 0, 0), (22, none, .getfield 52, 3, 410, 129, 12), (25, none, .iload_n 1, 1, 0, 0, 0), (26, none, .baload, 1, 0, 0, 0), (27, none, .ifCond .ne 9, 3, 36, 0, 0), (30, none, .aload_n 0, 1, 0, 0, 0), (31, none, .bipush 6, 2, 0, 6, 0)] := fq_of2 cd_613 ow_613 cl_613 rfl (pc := 0) (by decide +kernel)
    j_aldn (pc := 0) D rfl rfl rfl fun D =>
    j_ic (pc := 1) D rfl fun D =>
    j_ildn (pc := 2) D rfl rfl rfl fun D =>
    j_ic (pc := 3) D rfl fun D =>
    j_ic (pc := 4) D rfl fun D =>
    j_iv (pc := 5) (m := 606) (dd := 404) (a := [(0, 3), (0, x1), (0, (-1)), (0, 0)]) (rest := []) D rfl rfl rfl rfl rfl (by decide) (s0_602 H) (by decide +kernel) (fun v2 h1 e1 D =>
      have T := fj_run_ok _ _ _ _ _ _ H.1 e1
      have H := shp_st H T
      j_istn (pc := 8) (L' := [(2, (0, v2)), (0, (4, 602)), (1, (0, x1))]) D rfl nl_613 rfl rfl fun D =>
      j_aldn (pc := 9) D rfl rfl rfl fun D =>
      j_aldn (pc := 10) D rfl rfl rfl fun D =>
      j_gf (pc := 11) (a := 602) D rfl rfl (by decide) rfl (s0_602 H) rfl fun D =>
      j_ildn (pc := 14) D rfl rfl rfl fun D =>
      j_iv (pc := 15) (m := 580) (dd := 405) (a := [(0, h1 484 602 0), (0, x1)]) (rest := []) D rfl rfl rfl rfl rfl (by decide) (s0_602 H) (by decide +kernel) (fun v5 h4 e1 D =>
        have T := fj_run_ok _ _ _ _ _ _ H.1 e1
        have H := shp_st H T
        j_ifne (pc := 18) D rfl (fun q D =>
          j_aldn (pc := 21) D rfl rfl rfl fun D =>
          j_gfc (pc := 22) (a := 602) D rfl rfl (by decide) rfl (s0_602 H) rfl (sf_410_602 H) fun D =>
          j_ildn (pc := 25) D rfl rfl rfl fun D =>
          j_al (pc := 26) (a := 614) (e := 4) D rfl rfl rfl (by decide) (s0_614 H) (s1_614 H) ⟨rfl, rfl, rfl⟩ rfl gn fun qb7 D =>
          j_ifne (pc := 27) D rfl (fun q D =>
            j_aldn (pc := 30) D rfl rfl rfl fun D =>
            j_bp (pc := 31) D rfl fun D =>
            have D : fk_D 613 [(33, none, .invokevirtual 854, 3, 1, 403, 0)] := fq_of2 cd_613 ow_613 cl_613 rfl (pc := 33) (by decide +kernel)
            j_ivv (pc := 33) (m := 577) (dd := 403) (a := [(0, 6)]) (rest := []) D rfl rfl rfl rfl rfl (by decide) (s0_602 H) (by decide +kernel) (fun h8 e1 D =>
              have T := fj_run_ok _ _ _ _ _ _ H.1 e1
              have H := shp_st H T
              fk_jump cut_613_36 rfl rfl) (fun q10 h8 e1 =>
              j_tx (hx_613 _))) (fun q =>
            fk_jump cut_613_36 rfl rfl)) (fun q =>
          fk_jump cut_613_56 rfl rfl)) (fun q6 h4 e1 =>
        j_tx (hx_613 _))) (fun q3 h1 e1 =>
      j_tx (hx_613 _))
/-! 614 StatuteHouseModel.workOver(I)V -/
theorem cd_614 : fi_code 614 = prog_69_method_130_code := rfl
theorem hx_614 : ∀ pc, fi_hat 614 pc = none := fun pc => by unfold fi_hat; rw [show fi_hh 614 = [] from rfl]; rfl
theorem rt_614 : fi_ret 614 = none := rfl
theorem nl_614 : fi_nl 614 = 14 := rfl
theorem ow_614 : fi_ow 614 = 29 := rfl
theorem cl_614 : fj_cutT.getD 614 [] = [(54, [0, 1, 2, 3, 4, 5]), (90, [0, 1, 3, 4, 5, 7, 9, 10, 11]), (118, [0, 1, 3, 4, 5, 7, 9, 10, 11, 12, 13]), (136, [0, 1, 3, 4, 5, 7, 9, 10, 11, 12, 13]), (211, [0, 1, 3, 4, 5, 7, 9, 10, 11, 12, 13])] := rfl
theorem cut_614_54 : fj_cut 614 54 = some [0, 1, 2, 3, 4, 5] := by decide +kernel
noncomputable def c_614_54 (d : Nat) (x1 x2 x3 x4 x5 s0 : Int) (h : fi_H) : fk_R := gG (fj_run d) 614 54 [(0, (4, 602)), (1, (0, x1)), (2, (0, x2)), (3, (0, x3)), (4, (0, x4)), (5, (1, x5))] [(1, s0)] h
theorem cut_614_90 : fj_cut 614 90 = some [0, 1, 3, 4, 5, 7, 9, 10, 11] := by decide +kernel
noncomputable def c_614_90 (d : Nat) (x1 x3 x4 x5 x7 x9 x10 x11 : Int) (h : fi_H) : fk_R := gG (fj_run d) 614 90 [(0, (4, 602)), (1, (0, x1)), (3, (0, x3)), (4, (0, x4)), (5, (1, x5)), (7, (1, x7)), (9, (0, x9)), (10, (0, x10)), (11, (0, x11))] [] h
theorem cut_614_118 : fj_cut 614 118 = some [0, 1, 3, 4, 5, 7, 9, 10, 11, 12, 13] := by decide +kernel
noncomputable def c_614_118 (d : Nat) (x1 x3 x4 x5 x7 x9 x10 x11 x12 x13 : Int) (h : fi_H) : fk_R := gG (fj_run d) 614 118 [(0, (4, 602)), (1, (0, x1)), (3, (0, x3)), (4, (0, x4)), (5, (1, x5)), (7, (1, x7)), (9, (0, x9)), (10, (0, x10)), (11, (0, x11)), (12, (0, x12)), (13, (0, x13))] [] h
theorem cut_614_136 : fj_cut 614 136 = some [0, 1, 3, 4, 5, 7, 9, 10, 11, 12, 13] := by decide +kernel
noncomputable def c_614_136 (d : Nat) (x1 x3 x4 x5 x7 x9 x10 x11 x12 x13 : Int) (h : fi_H) : fk_R := gG (fj_run d) 614 136 [(0, (4, 602)), (1, (0, x1)), (3, (0, x3)), (4, (0, x4)), (5, (1, x5)), (7, (1, x7)), (9, (0, x9)), (10, (0, x10)), (11, (0, x11)), (12, (0, x12)), (13, (0, x13))] [] h
theorem cut_614_211 : fj_cut 614 211 = some [0, 1, 3, 4, 5, 7, 9, 10, 11, 12, 13] := by decide +kernel
noncomputable def c_614_211 (d : Nat) (x1 x3 x4 x5 x7 x9 x10 x11 x12 x13 : Int) (h : fi_H) : fk_R := gG (fj_run d) 614 211 [(0, (4, 602)), (1, (0, x1)), (3, (0, x3)), (4, (0, x4)), (5, (1, x5)), (7, (1, x7)), (9, (0, x9)), (10, (0, x10)), (11, (0, x11)), (12, (0, x12)), (13, (0, x13))] [] h
theorem e_614_54 (d : Nat) (x1 x2 x3 x4 x5 s0 : Int) {h : fi_H} (H : Shp h) : c_614_54 d x1 x2 x3 x4 x5 s0 h =
  cv_ (fj_run d 593 h [(4, 602), (0, x2)])
    (fun h1 =>
    if 1 < h1 386 602 0 then
      c_614_90 d x1 x3 x4 x5 s0 (h 485 602 0) (h1 384 602 0) (wI ((h1 385 602 0) + 1)) h1
    else
      c_614_90 d x1 x3 x4 x5 s0 (h 485 602 0) (h1 384 602 0) (h1 385 602 0) h1)
    (fun q3 h1 => tx_ q3 h1) := by
  unfold c_614_54
  exact
    have D : fk_D 614 [(54, some [0, 1, 2, 3, 4, 5], .lstore 7, 2, 0, 0, 0), (56, none, .aload_n 0, 1, 0, 0, 0), (57, none, .getfield 866, 3, 485, 129, 10), (60, none, .istore 9, 2, 0, 0, 0), (62, none, .aload_n 0, 1, 0, 0, 0), (63, none, .iload_n 2, 1, 0, 0, 0), (64, none, .invokevirtual 438, 3, 1, 335, 0), (67, none, .aload_n 0, 1, 0, 0, 0), (68, none, .getfield 423, 3, 384, 129, 10), (71, none, .istore 10, 2, 0, 0, 0), (73, none, .aload_n 0, 1, 0, 0, 0), (74, none, .getfield 426, 3, 385, 129, 10), (77, none, .istore 11, 2, 0, 0, 0), (79, none, .aload_n 0, 1, 0, 0, 0), (80, none, .getfield 429, 3, 386, 129, 10), (83, none, .iconst 1, 1, 0, 1, 0), (84, none, .if_icmp .le 6, 3, 90, 0, 0), (87, none, .iinc 11 1, 3, 0, 1, 0)] := fq_of2 cd_614 ow_614 cl_614 rfl (pc := 54) (by decide +kernel)
    j_lst (pc := 54) (L' := [(7, (1, s0)), (0, (4, 602)), (1, (0, x1)), (2, (0, x2)), (3, (0, x3)), (4, (0, x4)), (5, (1, x5))]) D rfl nl_614 rfl rfl fun D =>
    j_aldn (pc := 56) D rfl rfl rfl fun D =>
    j_gf (pc := 57) (a := 602) D rfl rfl (by decide) rfl (s0_602 H) rfl fun D =>
    j_ist (pc := 60) (L' := [(9, (0, h 485 602 0)), (7, (1, s0)), (0, (4, 602)), (1, (0, x1)), (2, (0, x2)), (3, (0, x3)), (4, (0, x4)), (5, (1, x5))]) D rfl nl_614 rfl rfl fun D =>
    j_aldn (pc := 62) D rfl rfl rfl fun D =>
    j_ildn (pc := 63) D rfl rfl rfl fun D =>
    j_ivv (pc := 64) (m := 593) (dd := 335) (a := [(0, x2)]) (rest := []) D rfl rfl rfl rfl rfl (by decide) (s0_602 H) (by decide +kernel) (fun h1 e1 D =>
      have T := fj_run_ok _ _ _ _ _ _ H.1 e1
      have H := shp_st H T
      j_aldn (pc := 67) D rfl rfl rfl fun D =>
      j_gf (pc := 68) (a := 602) D rfl rfl (by decide) rfl (s0_602 H) rfl fun D =>
      j_ist (pc := 71) (L' := [(10, (0, h1 384 602 0)), (9, (0, h 485 602 0)), (7, (1, s0)), (0, (4, 602)), (1, (0, x1)), (2, (0, x2)), (3, (0, x3)), (4, (0, x4)), (5, (1, x5))]) D rfl nl_614 rfl rfl fun D =>
      j_aldn (pc := 73) D rfl rfl rfl fun D =>
      j_gf (pc := 74) (a := 602) D rfl rfl (by decide) rfl (s0_602 H) rfl fun D =>
      j_ist (pc := 77) (L' := [(11, (0, h1 385 602 0)), (10, (0, h1 384 602 0)), (9, (0, h 485 602 0)), (7, (1, s0)), (0, (4, 602)), (1, (0, x1)), (2, (0, x2)), (3, (0, x3)), (4, (0, x4)), (5, (1, x5))]) D rfl nl_614 rfl rfl fun D =>
      j_aldn (pc := 79) D rfl rfl rfl fun D =>
      j_gf (pc := 80) (a := 602) D rfl rfl (by decide) rfl (s0_602 H) rfl fun D =>
      j_ic (pc := 83) D rfl fun D =>
      j_ile (pc := 84) D rfl (fun q D =>
        j_inc (pc := 87) (L' := [(11, (0, wI ((h1 385 602 0) + 1))), (10, (0, h1 384 602 0)), (9, (0, h 485 602 0)), (7, (1, s0)), (0, (4, 602)), (1, (0, x1)), (2, (0, x2)), (3, (0, x3)), (4, (0, x4)), (5, (1, x5))]) D rfl rfl rfl (by decide +kernel) rfl fun D =>
        fk_jump cut_614_90 rfl rfl) (fun q =>
        fk_jump cut_614_90 rfl rfl)) (fun q3 h1 e1 =>
      j_tx (hx_614 _))
theorem e_614_90 (d : Nat) (x1 x3 x4 x5 x7 x9 x10 x11 : Int) {h : fi_H} (H : Shp h) : c_614_90 d x1 x3 x4 x5 x7 x9 x10 x11 h =
  ca_ (fj_run d 518 h [(0, wI (x10 + (iq_ (wI (x11 - 1)) 12))), (0, wI ((ir_ (wI (x11 - 1)) 12) + 1)), (0, 1)]) 0
    (fun v2 h1 =>
    c_614_118 d x1 x3 x4 x5 x7 x9 x10 x11 0 v2 h1)
    (fun q3 h1 => tx_ q3 h1) := by
  unfold c_614_90
  exact
    have D : fk_D 614 [(90, some [0, 1, 3, 4, 5, 7, 9, 10, 11], .iconst 0, 1, 0, 0, 0), (91, none, .istore 12, 2, 0, 0, 0), (93, none, .iload 10, 2, 0, 0, 0), (95, none, .iload 11, 2, 0, 0, 0), (97, none, .iconst 1, 1, 0, 1, 0), (98, none, .isub, 1, 0, 0, 0), (99, none, .bipush 12, 2, 0, 12, 0), (101, none, .idiv, 1, 0, 0, 0), (102, none, .iadd, 1, 0, 0, 0), (103, none, .iload 11, 2, 0, 0, 0), (105, none, .iconst 1, 1, 0, 1, 0), (106, none, .isub, 1, 0, 0, 0), (107, none, .bipush 12, 2, 0, 12, 0), (109, none, .irem, 1, 0, 0, 0), (110, none, .iconst 1, 1, 0, 1, 0), (111, none, .iadd, 1, 0, 0, 0), (112, none, .iconst 1, 1, 0, 1, 0), (113, none, .invokestatic 449, 3, 3, 518, 1), (116, none, .istore 13, 2, 0, 0, 0)] := fq_of2 cd_614 ow_614 cl_614 rfl (pc := 90) (by decide +kernel)
    j_ic (pc := 90) D rfl fun D =>
    j_ist (pc := 91) (L' := [(12, (0, 0)), (0, (4, 602)), (1, (0, x1)), (3, (0, x3)), (4, (0, x4)), (5, (1, x5)), (7, (1, x7)), (9, (0, x9)), (10, (0, x10)), (11, (0, x11))]) D rfl nl_614 rfl rfl fun D =>
    j_ild (pc := 93) D rfl rfl rfl fun D =>
    j_ild (pc := 95) D rfl rfl rfl fun D =>
    j_ic (pc := 97) D rfl fun D =>
    j_isub (pc := 98) D rfl fun D =>
    j_bp (pc := 99) D rfl fun D =>
    j_idivk (pc := 101) D rfl (by decide) fun D =>
    j_iadd (pc := 102) D rfl fun D =>
    j_ild (pc := 103) D rfl rfl rfl fun D =>
    j_ic (pc := 105) D rfl fun D =>
    j_isub (pc := 106) D rfl fun D =>
    j_bp (pc := 107) D rfl fun D =>
    j_iremk (pc := 109) D rfl (by decide) fun D =>
    j_ic (pc := 110) D rfl fun D =>
    j_iadd (pc := 111) D rfl fun D =>
    j_ic (pc := 112) D rfl fun D =>
    j_is (pc := 113) (m := 518) (a := [(0, wI (x10 + (iq_ (wI (x11 - 1)) 12))), (0, wI ((ir_ (wI (x11 - 1)) 12) + 1)), (0, 1)]) (rest := []) D rfl rfl rfl rfl (fun v2 h1 e1 D =>
      have T := fj_run_ok _ _ _ _ _ _ H.1 e1
      have H := shp_st H T
      j_ist (pc := 116) (L' := [(13, (0, v2)), (12, (0, 0)), (0, (4, 602)), (1, (0, x1)), (3, (0, x3)), (4, (0, x4)), (5, (1, x5)), (7, (1, x7)), (9, (0, x9)), (10, (0, x10)), (11, (0, x11))]) D rfl nl_614 rfl rfl fun D =>
      fk_jump cut_614_118 rfl rfl) (fun q3 h1 e1 =>
      j_tx (hx_614 _))
theorem e_614_118 (d : Nat) (x1 x3 x4 x5 x7 x9 x10 x11 x12 x13 : Int) {h : fi_H} (H : Shp h) : c_614_118 d x1 x3 x4 x5 x7 x9 x10 x11 x12 x13 h =
  if x3 < x13 then
    lt_ (fi_upd h 492 602 0 x5) fun h1 =>
    lt_ (fi_upd h1 493 602 0 x7) fun h2 =>
    some (.inl none, h2)
  else
    if x12 = 60 then
      cv_ (fj_run d 577 h [(4, 602), (0, 5)])
        (fun h3 =>
        c_614_136 d x1 x3 x4 x5 x7 x9 x10 x11 x12 x13 h3)
        (fun q5 h3 => tx_ q5 h3)
    else
      c_614_136 d x1 x3 x4 x5 x7 x9 x10 x11 x12 x13 h := by
  unfold c_614_118
  exact
    have D : fk_D 614 [(118, some [0, 1, 3, 4, 5, 7, 9, 10, 11, 12, 13], .iload 13, 2, 0, 0, 0), (120, none, .iload_n 3, 1, 0, 0, 0), (121, none, .if_icmp .gt 93, 3, 214, 0, 0), (124, none, .iload 12, 2, 0, 0, 0), (126, none, .bipush 60, 2, 0, 60, 0), (128, none, .if_icmp .ne 8, 3, 136, 0, 0), (131, none, .aload_n 0, 1, 0, 0, 0), (132, none, .iconst 5, 1, 0, 5, 0), (133, none, .invokevirtual 854, 3, 1, 403, 0)] := fq_of2 cd_614 ow_614 cl_614 rfl (pc := 118) (by decide +kernel)
    j_ild (pc := 118) D rfl rfl rfl fun D =>
    j_ildn (pc := 120) D rfl rfl rfl fun D =>
    j_igt (pc := 121) D rfl (fun q =>
      have D : fk_D 614 [(214, none, .aload_n 0, 1, 0, 0, 0), (215, none, .lload 5, 2, 0, 0, 0), (217, none, .putfield 869, 3, 492, 129, 11), (220, none, .aload_n 0, 1, 0, 0, 0), (221, none, .lload 7, 2, 0, 0, 0), (223, none, .putfield 872, 3, 493, 129, 11), (226, none, .return_, 1, 0, 0, 0)] := fq_of2 cd_614 ow_614 cl_614 rfl (pc := 214) (by decide +kernel)
      j_aldn (pc := 214) D rfl rfl rfl fun D =>
      j_lld (pc := 215) D rfl rfl rfl fun D =>
      j_pf (pc := 217) (a := 602) D rfl rfl rfl (s0_602 H) rfl rfl (gy (by decide)) (gy rfl) fun h1 eh1 S D =>
      have T := fj_hs_ok H.1 S
      have H := shp_st H T
      j_aldn (pc := 220) D rfl rfl rfl fun D =>
      j_lld (pc := 221) D rfl rfl rfl fun D =>
      j_pf (pc := 223) (a := 602) D rfl rfl rfl (s0_602 H) rfl rfl (gy (by decide)) (gy rfl) fun h2 eh2 S D =>
      have T := fj_hs_ok H.1 S
      have H := shp_st H T
      j_vret D rt_614) (fun q D =>
      j_ild (pc := 124) D rfl rfl rfl fun D =>
      j_bp (pc := 126) D rfl fun D =>
      j_ine (pc := 128) D rfl (fun q D =>
        j_aldn (pc := 131) D rfl rfl rfl fun D =>
        j_ic (pc := 132) D rfl fun D =>
        j_ivv (pc := 133) (m := 577) (dd := 403) (a := [(0, 5)]) (rest := []) D rfl rfl rfl rfl rfl (by decide) (s0_602 H) (by decide +kernel) (fun h3 e1 D =>
          have T := fj_run_ok _ _ _ _ _ _ H.1 e1
          have H := shp_st H T
          fk_jump cut_614_136 rfl rfl) (fun q5 h3 e1 =>
          j_tx (hx_614 _))) (fun q =>
        fk_jump cut_614_136 rfl rfl))
theorem e_614_136 (d : Nat) (x1 x3 x4 x5 x7 x9 x10 x11 x12 x13 : Int) {h : fi_H} (H : Shp h) : c_614_136 d x1 x3 x4 x5 x7 x9 x10 x11 x12 x13 h =
  lt_ (fi_upd h 485 602 0 x13) fun h1 =>
  if 0 ≤ x1 ∧ x1 < 9300 then
  cv_ (fj_run d 575 h1 [(4, 602), (0, h1 10 619 x1.toNat)])
    (fun h3 =>
    lt_ (fi_upd h3 485 602 0 x9) fun h6 =>
    cv_ (fj_run d 581 h6 [(4, 602), (0, x4), (1, x5), (1, x7)])
      (fun h7 =>
      ca_ (fj_run d 518 h7 [(0, wI (x10 + (iq_ (wI ((wI (x11 + 1)) - 1)) 12))), (0, wI ((ir_ (wI ((wI (x11 + 1)) - 1)) 12) + 1)), (0, 1)]) 0
        (fun v11 h10 =>
        c_614_211 d x1 x3 x4 (h7 492 602 0) (h7 493 602 0) x9 x10 (wI (x11 + 1)) (wI (x12 + 1)) v11 h10)
        (fun q12 h10 => tx_ q12 h10))
      (fun q9 h7 => tx_ q9 h7))
    (fun q5 h3 => tx_ q5 h3)
  else none := by
  unfold c_614_136
  exact
    have D : fk_D 614 [(136, some [0, 1, 3, 4, 5, 7, 9, 10, 11, 12, 13], .iinc 12 1, 3, 0, 1, 0), (139, none, .aload_n 0, 1, 0, 0, 0), (140, none, .iload 13, 2, 0, 0, 0), (142, none, .putfield 866, 3, 485, 129, 10), (145, none, .aload_n 0, 1, 0, 0, 0), (146, none, .aload_n 0, 1, 0, 0, 0), (147, none, .getfield 68, 3, 420, 129, 12), (150, none, .iload_n 1, 1, 0, 0, 0), (151, none, .iaload, 1, 0, 0, 0), (152, none, .invokevirtual 913, 3, 1, 412, 0), (155, none, .aload_n 0, 1, 0, 0, 0), (156, none, .iload 9, 2, 0, 0, 0), (158, none, .putfield 866, 3, 485, 129, 10), (161, none, .aload_n 0, 1, 0, 0, 0), (162, none, .iload 4, 2, 0, 0, 0), (164, none, .lload 5, 2, 0, 0, 0), (166, none, .lload 7, 2, 0, 0, 0), (168, none, .invokevirtual 1070, 3, 3, 438, 0), (171, none, .aload_n 0, 1, 0, 0, 0), (172, none, .getfield 869, 3, 492, 129, 11)] := fq_of2 cd_614 ow_614 cl_614 rfl (pc := 136) (by decide +kernel)
    j_inc (pc := 136) (L' := [(12, (0, wI (x12 + 1))), (0, (4, 602)), (1, (0, x1)), (3, (0, x3)), (4, (0, x4)), (5, (1, x5)), (7, (1, x7)), (9, (0, x9)), (10, (0, x10)), (11, (0, x11)), (13, (0, x13))]) D rfl rfl rfl (by decide +kernel) rfl fun D =>
    j_aldn (pc := 139) D rfl rfl rfl fun D =>
    j_ild (pc := 140) D rfl rfl rfl fun D =>
    j_pf (pc := 142) (a := 602) D rfl rfl rfl (s0_602 H) rfl rfl (gy (by decide)) (gy rfl) fun h1 eh1 S D =>
    have T := fj_hs_ok H.1 S
    have H := shp_st H T
    j_aldn (pc := 145) D rfl rfl rfl fun D =>
    j_aldn (pc := 146) D rfl rfl rfl fun D =>
    j_gfc (pc := 147) (a := 602) D rfl rfl (by decide) rfl (s0_602 H) rfl (sf_420_602 H) fun D =>
    j_ildn (pc := 150) D rfl rfl rfl fun D =>
    j_al (pc := 151) (a := 619) (e := 10) D rfl rfl rfl (by decide) (s0_619 H) (s1_619 H) ⟨rfl, rfl, rfl⟩ rfl gn fun qb2 D =>
    j_ivv (pc := 152) (m := 575) (dd := 412) (a := [(0, h1 10 619 x1.toNat)]) (rest := []) D rfl rfl rfl rfl rfl (by decide) (s0_602 H) (by decide +kernel) (fun h3 e1 D =>
      have T := fj_run_ok _ _ _ _ _ _ H.1 e1
      have H := shp_st H T
      j_aldn (pc := 155) D rfl rfl rfl fun D =>
      j_ild (pc := 156) D rfl rfl rfl fun D =>
      j_pf (pc := 158) (a := 602) D rfl rfl rfl (s0_602 H) rfl rfl (gy (by decide)) (gy rfl) fun h6 eh6 S D =>
      have T := fj_hs_ok H.1 S
      have H := shp_st H T
      j_aldn (pc := 161) D rfl rfl rfl fun D =>
      j_ild (pc := 162) D rfl rfl rfl fun D =>
      j_lld (pc := 164) D rfl rfl rfl fun D =>
      j_lld (pc := 166) D rfl rfl rfl fun D =>
      j_ivv (pc := 168) (m := 581) (dd := 438) (a := [(0, x4), (1, x5), (1, x7)]) (rest := []) D rfl rfl rfl rfl rfl (by decide) (s0_602 H) (by decide +kernel) (fun h7 e1 D =>
        have T := fj_run_ok _ _ _ _ _ _ H.1 e1
        have H := shp_st H T
        j_aldn (pc := 171) D rfl rfl rfl fun D =>
        j_gf (pc := 172) (a := 602) D rfl rfl (by decide) rfl (s0_602 H) rfl fun D =>
        have D : fk_D 614 [(175, none, .lstore 5, 2, 0, 0, 0), (177, none, .aload_n 0, 1, 0, 0, 0), (178, none, .getfield 872, 3, 493, 129, 11), (181, none, .lstore 7, 2, 0, 0, 0), (183, none, .iinc 11 1, 3, 0, 1, 0), (186, none, .iload 10, 2, 0, 0, 0), (188, none, .iload 11, 2, 0, 0, 0), (190, none, .iconst 1, 1, 0, 1, 0), (191, none, .isub, 1, 0, 0, 0), (192, none, .bipush 12, 2, 0, 12, 0), (194, none, .idiv, 1, 0, 0, 0), (195, none, .iadd, 1, 0, 0, 0), (196, none, .iload 11, 2, 0, 0, 0), (198, none, .iconst 1, 1, 0, 1, 0), (199, none, .isub, 1, 0, 0, 0), (200, none, .bipush 12, 2, 0, 12, 0), (202, none, .irem, 1, 0, 0, 0), (203, none, .iconst 1, 1, 0, 1, 0), (204, none, .iadd, 1, 0, 0, 0), (205, none, .iconst 1, 1, 0, 1, 0)] := fq_of2 cd_614 ow_614 cl_614 rfl (pc := 175) (by decide +kernel)
        j_lst (pc := 175) (L' := [(5, (1, h7 492 602 0)), (12, (0, wI (x12 + 1))), (0, (4, 602)), (1, (0, x1)), (3, (0, x3)), (4, (0, x4)), (7, (1, x7)), (9, (0, x9)), (10, (0, x10)), (11, (0, x11)), (13, (0, x13))]) D rfl nl_614 rfl rfl fun D =>
        j_aldn (pc := 177) D rfl rfl rfl fun D =>
        j_gf (pc := 178) (a := 602) D rfl rfl (by decide) rfl (s0_602 H) rfl fun D =>
        j_lst (pc := 181) (L' := [(7, (1, h7 493 602 0)), (5, (1, h7 492 602 0)), (12, (0, wI (x12 + 1))), (0, (4, 602)), (1, (0, x1)), (3, (0, x3)), (4, (0, x4)), (9, (0, x9)), (10, (0, x10)), (11, (0, x11)), (13, (0, x13))]) D rfl nl_614 rfl rfl fun D =>
        j_inc (pc := 183) (L' := [(11, (0, wI (x11 + 1))), (7, (1, h7 493 602 0)), (5, (1, h7 492 602 0)), (12, (0, wI (x12 + 1))), (0, (4, 602)), (1, (0, x1)), (3, (0, x3)), (4, (0, x4)), (9, (0, x9)), (10, (0, x10)), (13, (0, x13))]) D rfl rfl rfl (by decide +kernel) rfl fun D =>
        j_ild (pc := 186) D rfl rfl rfl fun D =>
        j_ild (pc := 188) D rfl rfl rfl fun D =>
        j_ic (pc := 190) D rfl fun D =>
        j_isub (pc := 191) D rfl fun D =>
        j_bp (pc := 192) D rfl fun D =>
        j_idivk (pc := 194) D rfl (by decide) fun D =>
        j_iadd (pc := 195) D rfl fun D =>
        j_ild (pc := 196) D rfl rfl rfl fun D =>
        j_ic (pc := 198) D rfl fun D =>
        j_isub (pc := 199) D rfl fun D =>
        j_bp (pc := 200) D rfl fun D =>
        j_iremk (pc := 202) D rfl (by decide) fun D =>
        j_ic (pc := 203) D rfl fun D =>
        j_iadd (pc := 204) D rfl fun D =>
        j_ic (pc := 205) D rfl fun D =>
        have D : fk_D 614 [(206, none, .invokestatic 449, 3, 3, 518, 1), (209, none, .istore 13, 2, 0, 0, 0)] := fq_of2 cd_614 ow_614 cl_614 rfl (pc := 206) (by decide +kernel)
        j_is (pc := 206) (m := 518) (a := [(0, wI (x10 + (iq_ (wI ((wI (x11 + 1)) - 1)) 12))), (0, wI ((ir_ (wI ((wI (x11 + 1)) - 1)) 12) + 1)), (0, 1)]) (rest := []) D rfl rfl rfl rfl (fun v11 h10 e1 D =>
          have T := fj_run_ok _ _ _ _ _ _ H.1 e1
          have H := shp_st H T
          j_ist (pc := 209) (L' := [(13, (0, v11)), (11, (0, wI (x11 + 1))), (7, (1, h7 493 602 0)), (5, (1, h7 492 602 0)), (12, (0, wI (x12 + 1))), (0, (4, 602)), (1, (0, x1)), (3, (0, x3)), (4, (0, x4)), (9, (0, x9)), (10, (0, x10))]) D rfl nl_614 rfl rfl fun D =>
          fk_jump cut_614_211 rfl rfl) (fun q12 h10 e1 =>
          j_tx (hx_614 _))) (fun q9 h7 e1 =>
        j_tx (hx_614 _))) (fun q5 h3 e1 =>
      j_tx (hx_614 _))
theorem e_614_211 (d : Nat) (x1 x3 x4 x5 x7 x9 x10 x11 x12 x13 : Int) {h : fi_H} (H : Shp h) : c_614_211 d x1 x3 x4 x5 x7 x9 x10 x11 x12 x13 h =
  c_614_118 d x1 x3 x4 x5 x7 x9 x10 x11 x12 x13 h := by
  unfold c_614_211
  exact
    have D : fk_D 614 [(211, some [0, 1, 3, 4, 5, 7, 9, 10, 11, 12, 13], .goto (-93), 3, 118, 0, 0)] := fq_of2 cd_614 ow_614 cl_614 rfl (pc := 211) (by decide +kernel)
    j_goto (pc := 211) D rfl <|
    fk_jump cut_614_118 rfl rfl
theorem m_614 (d : Nat) (x1 : Int) {h : fi_H} (H : Shp h) : fj_run (d + 1) 614 h [(4, 602), (0, x1)] =
  if 0 ≤ x1 ∧ x1 < 9300 then
  cv_ (fj_run d 575 h [(4, 602), (0, h 10 620 x1.toNat)])
    (fun h2 =>
    cv_ (fj_run d 575 h2 [(4, 602), (0, h2 10 621 x1.toNat)])
      (fun h5 =>
      if h5 10 618 x1.toNat = 3 then
        c_614_54 d x1 (wI (h2 492 602 0)) (wI (h5 492 602 0)) (h5 10 618 x1.toNat) 0 1 h5
      else
        c_614_54 d x1 (wI (h2 492 602 0)) (wI (h5 492 602 0)) (h5 10 618 x1.toNat) 0 0 h5)
      (fun q7 h5 => tx_ q7 h5))
    (fun q4 h2 => tx_ q4 h2)
  else none := by
  rw [fj_run_eq d (by decide) h [(4, 602), (0, x1)] (Nat.le_of_ble_eq_true (by rw [nl_614]; rfl))]
  show gG (fj_run d) 614 0 [(0, (4, 602)), (1, (0, x1))] [] h = _
  exact
    have D : fk_D 614 [(0, none, .aload_n 0, 1, 0, 0, 0), (1, none, .aload_n 0, 1, 0, 0, 0), (2, none, .getfield 71, 3, 421, 129, 12), (5, none, .iload_n 1, 1, 0, 0, 0), (6, none, .iaload, 1, 0, 0, 0), (7, none, .invokevirtual 913, 3, 1, 412, 0), (10, none, .aload_n 0, 1, 0, 0, 0), (11, none, .getfield 869, 3, 492, 129, 11), (14, none, .l2i, 1, 0, 0, 0), (15, none, .istore_n 2, 1, 0, 0, 0), (16, none, .aload_n 0, 1, 0, 0, 0), (17, none, .aload_n 0, 1, 0, 0, 0), (18, none, .getfield 74, 3, 422, 129, 12), (21, none, .iload_n 1, 1, 0, 0, 0), (22, none, .iaload, 1, 0, 0, 0), (23, none, .invokevirtual 913, 3, 1, 412, 0), (26, none, .aload_n 0, 1, 0, 0, 0), (27, none, .getfield 869, 3, 492, 129, 11), (30, none, .l2i, 1, 0, 0, 0), (31, none, .istore_n 3, 1, 0, 0, 0)] := fq_of2 cd_614 ow_614 cl_614 rfl (pc := 0) (by decide +kernel)
    j_aldn (pc := 0) D rfl rfl rfl fun D =>
    j_aldn (pc := 1) D rfl rfl rfl fun D =>
    j_gfc (pc := 2) (a := 602) D rfl rfl (by decide) rfl (s0_602 H) rfl (sf_421_602 H) fun D =>
    j_ildn (pc := 5) D rfl rfl rfl fun D =>
    j_al (pc := 6) (a := 620) (e := 10) D rfl rfl rfl (by decide) (s0_620 H) (s1_620 H) ⟨rfl, rfl, rfl⟩ rfl gn fun qb1 D =>
    j_ivv (pc := 7) (m := 575) (dd := 412) (a := [(0, h 10 620 x1.toNat)]) (rest := []) D rfl rfl rfl rfl rfl (by decide) (s0_602 H) (by decide +kernel) (fun h2 e1 D =>
      have T := fj_run_ok _ _ _ _ _ _ H.1 e1
      have H := shp_st H T
      j_aldn (pc := 10) D rfl rfl rfl fun D =>
      j_gf (pc := 11) (a := 602) D rfl rfl (by decide) rfl (s0_602 H) rfl fun D =>
      j_l2i (pc := 14) D rfl fun D =>
      j_istn (pc := 15) (L' := [(2, (0, wI (h2 492 602 0))), (0, (4, 602)), (1, (0, x1))]) D rfl nl_614 rfl rfl fun D =>
      j_aldn (pc := 16) D rfl rfl rfl fun D =>
      j_aldn (pc := 17) D rfl rfl rfl fun D =>
      j_gfc (pc := 18) (a := 602) D rfl rfl (by decide) rfl (s0_602 H) rfl (sf_422_602 H) fun D =>
      j_ildn (pc := 21) D rfl rfl rfl fun D =>
      j_al (pc := 22) (a := 621) (e := 10) D rfl rfl rfl (by decide) (s0_621 H) (s1_621 H) ⟨rfl, rfl, rfl⟩ rfl (gy qb1) fun q D =>
      j_ivv (pc := 23) (m := 575) (dd := 412) (a := [(0, h2 10 621 x1.toNat)]) (rest := []) D rfl rfl rfl rfl rfl (by decide) (s0_602 H) (by decide +kernel) (fun h5 e1 D =>
        have T := fj_run_ok _ _ _ _ _ _ H.1 e1
        have H := shp_st H T
        j_aldn (pc := 26) D rfl rfl rfl fun D =>
        j_gf (pc := 27) (a := 602) D rfl rfl (by decide) rfl (s0_602 H) rfl fun D =>
        j_l2i (pc := 30) D rfl fun D =>
        j_istn (pc := 31) (L' := [(3, (0, wI (h5 492 602 0))), (2, (0, wI (h2 492 602 0))), (0, (4, 602)), (1, (0, x1))]) D rfl nl_614 rfl rfl fun D =>
        have D : fk_D 614 [(32, none, .aload_n 0, 1, 0, 0, 0), (33, none, .getfield 65, 3, 419, 129, 12), (36, none, .iload_n 1, 1, 0, 0, 0), (37, none, .iaload, 1, 0, 0, 0), (38, none, .istore 4, 2, 0, 0, 0), (40, none, .lconst 0, 1, 0, 0, 0), (41, none, .lstore 5, 2, 0, 0, 0), (43, none, .iload 4, 2, 0, 0, 0), (45, none, .iconst 3, 1, 0, 3, 0), (46, none, .if_icmp .ne 7, 3, 53, 0, 0), (49, none, .lconst 1, 1, 0, 0, 0), (50, none, .goto 4, 3, 54, 0, 0)] := fq_of2 cd_614 ow_614 cl_614 rfl (pc := 32) (by decide +kernel)
        j_aldn (pc := 32) D rfl rfl rfl fun D =>
        j_gfc (pc := 33) (a := 602) D rfl rfl (by decide) rfl (s0_602 H) rfl (sf_419_602 H) fun D =>
        j_ildn (pc := 36) D rfl rfl rfl fun D =>
        j_al (pc := 37) (a := 618) (e := 10) D rfl rfl rfl (by decide) (s0_618 H) (s1_618 H) ⟨rfl, rfl, rfl⟩ rfl (gy qb1) fun q D =>
        j_ist (pc := 38) (L' := [(4, (0, h5 10 618 x1.toNat)), (3, (0, wI (h5 492 602 0))), (2, (0, wI (h2 492 602 0))), (0, (4, 602)), (1, (0, x1))]) D rfl nl_614 rfl rfl fun D =>
        j_c0 (pc := 40) (v := (1, 0)) D rfl rfl (by decide +kernel) fun D =>
        j_lst (pc := 41) (L' := [(5, (1, 0)), (4, (0, h5 10 618 x1.toNat)), (3, (0, wI (h5 492 602 0))), (2, (0, wI (h2 492 602 0))), (0, (4, 602)), (1, (0, x1))]) D rfl nl_614 rfl rfl fun D =>
        j_ild (pc := 43) D rfl rfl rfl fun D =>
        j_ic (pc := 45) D rfl fun D =>
        j_ine (pc := 46) D rfl (fun q D =>
          j_c0 (pc := 49) (v := (1, 1)) D rfl rfl (by decide +kernel) fun D =>
          j_goto (pc := 50) D rfl <|
          fk_jump cut_614_54 rfl rfl) (fun q =>
          have D : fk_D 614 [(53, none, .lconst 0, 1, 0, 0, 0)] := fq_of2 cd_614 ow_614 cl_614 rfl (pc := 53) (by decide +kernel)
          j_c0 (pc := 53) (v := (1, 0)) D rfl rfl (by decide +kernel) fun D =>
          fk_jump cut_614_54 rfl rfl)) (fun q7 h5 e1 =>
        j_tx (hx_614 _))) (fun q4 h2 e1 =>
      j_tx (hx_614 _))
/-! 615 StatuteHouseModel.workTable(II)V -/
theorem cd_615 : fi_code 615 = prog_69_method_128_code := rfl
theorem hx_615 : ∀ pc, fi_hat 615 pc = none := fun pc => by unfold fi_hat; rw [show fi_hh 615 = [] from rfl]; rfl
theorem rt_615 : fi_ret 615 = none := rfl
theorem nl_615 : fi_nl 615 = 11 := rfl
theorem ow_615 : fi_ow 615 = 29 := rfl
theorem cl_615 : fj_cutT.getD 615 [] = [(39, [0, 1, 2, 3, 5, 6]), (67, [0, 1, 2, 3, 5, 6, 7, 8]), (128, [0, 1, 2, 3, 5, 6, 7, 8]), (151, [0, 1, 2, 3, 5]), (199, [0, 3, 6, 7]), (206, [0, 3, 7, 8]), (250, [0, 3, 7, 8]), (274, [0, 3, 7, 8]), (331, [0, 3, 7, 8]), (332, [0, 3, 7, 8]), (371, [0, 3, 7, 8]), (384, [0, 3, 7, 8]), (413, [0, 3, 7, 8]), (495, [0, 9])] := rfl
theorem cut_615_39 : fj_cut 615 39 = some [0, 1, 2, 3, 5, 6] := by decide +kernel
noncomputable def c_615_39 (d : Nat) (x1 x2 x3 x5 x6 : Int) (h : fi_H) : fk_R := gG (fj_run d) 615 39 [(0, (4, 602)), (1, (0, x1)), (2, (0, x2)), (3, (1, x3)), (5, (0, x5)), (6, (0, x6))] [] h
theorem cut_615_67 : fj_cut 615 67 = some [0, 1, 2, 3, 5, 6, 7, 8] := by decide +kernel
noncomputable def c_615_67 (d : Nat) (x1 x2 x3 x5 x6 x7 x8 : Int) (h : fi_H) : fk_R := gG (fj_run d) 615 67 [(0, (4, 602)), (1, (0, x1)), (2, (0, x2)), (3, (1, x3)), (5, (0, x5)), (6, (0, x6)), (7, (0, x7)), (8, (0, x8))] [] h
theorem cut_615_128 : fj_cut 615 128 = some [0, 1, 2, 3, 5, 6, 7, 8] := by decide +kernel
noncomputable def c_615_128 (d : Nat) (x1 x2 x3 x5 x6 x7 x8 : Int) (h : fi_H) : fk_R := gG (fj_run d) 615 128 [(0, (4, 602)), (1, (0, x1)), (2, (0, x2)), (3, (1, x3)), (5, (0, x5)), (6, (0, x6)), (7, (0, x7)), (8, (0, x8))] [] h
theorem cut_615_151 : fj_cut 615 151 = some [0, 1, 2, 3, 5] := by decide +kernel
noncomputable def c_615_151 (d : Nat) (x1 x2 x3 x5 : Int) (h : fi_H) : fk_R := gG (fj_run d) 615 151 [(0, (4, 602)), (1, (0, x1)), (2, (0, x2)), (3, (1, x3)), (5, (0, x5))] [] h
theorem cut_615_199 : fj_cut 615 199 = some [0, 3, 6, 7] := by decide +kernel
noncomputable def c_615_199 (d : Nat) (x3 x6 x7 s0 s1 : Int) (h : fi_H) : fk_R := gG (fj_run d) 615 199 [(0, (4, 602)), (3, (1, x3)), (6, (0, x6)), (7, (0, x7))] [(1, s1), (4, s0)] h
theorem cut_615_206 : fj_cut 615 206 = some [0, 3, 7, 8] := by decide +kernel
noncomputable def c_615_206 (d : Nat) (x3 x7 x8 : Int) (h : fi_H) : fk_R := gG (fj_run d) 615 206 [(0, (4, 602)), (3, (1, x3)), (7, (0, x7)), (8, (0, x8))] [] h
theorem cut_615_250 : fj_cut 615 250 = some [0, 3, 7, 8] := by decide +kernel
noncomputable def c_615_250 (d : Nat) (x3 x7 x8 : Int) (h : fi_H) : fk_R := gG (fj_run d) 615 250 [(0, (4, 602)), (3, (1, x3)), (7, (0, x7)), (8, (0, x8))] [] h
theorem cut_615_274 : fj_cut 615 274 = some [0, 3, 7, 8] := by decide +kernel
noncomputable def c_615_274 (d : Nat) (x3 x7 x8 : Int) (h : fi_H) : fk_R := gG (fj_run d) 615 274 [(0, (4, 602)), (3, (1, x3)), (7, (0, x7)), (8, (0, x8))] [] h
theorem cut_615_331 : fj_cut 615 331 = some [0, 3, 7, 8] := by decide +kernel
noncomputable def c_615_331 (d : Nat) (x3 x7 x8 : Int) (h : fi_H) : fk_R := gG (fj_run d) 615 331 [(0, (4, 602)), (3, (1, x3)), (7, (0, x7)), (8, (0, x8))] [] h
theorem cut_615_332 : fj_cut 615 332 = some [0, 3, 7, 8] := by decide +kernel
noncomputable def c_615_332 (d : Nat) (x3 x7 x8 s0 : Int) (h : fi_H) : fk_R := gG (fj_run d) 615 332 [(0, (4, 602)), (3, (1, x3)), (7, (0, x7)), (8, (0, x8))] [(1, s0)] h
theorem cut_615_371 : fj_cut 615 371 = some [0, 3, 7, 8] := by decide +kernel
noncomputable def c_615_371 (d : Nat) (x3 x7 x8 : Int) (h : fi_H) : fk_R := gG (fj_run d) 615 371 [(0, (4, 602)), (3, (1, x3)), (7, (0, x7)), (8, (0, x8))] [] h
theorem cut_615_384 : fj_cut 615 384 = some [0, 3, 7, 8] := by decide +kernel
noncomputable def c_615_384 (d : Nat) (x3 x7 x8 : Int) (h : fi_H) : fk_R := gG (fj_run d) 615 384 [(0, (4, 602)), (3, (1, x3)), (7, (0, x7)), (8, (0, x8))] [] h
theorem cut_615_413 : fj_cut 615 413 = some [0, 3, 7, 8] := by decide +kernel
noncomputable def c_615_413 (d : Nat) (x3 x7 x8 : Int) (h : fi_H) : fk_R := gG (fj_run d) 615 413 [(0, (4, 602)), (3, (1, x3)), (7, (0, x7)), (8, (0, x8))] [] h
theorem cut_615_495 : fj_cut 615 495 = some [0, 9] := by decide +kernel
noncomputable def c_615_495 (d : Nat) (x9 : Int) (h : fi_H) : fk_R := gG (fj_run d) 615 495 [(0, (4, 602)), (9, (1, x9))] [] h
theorem e_615_39 (d : Nat) (x1 x2 x3 x5 x6 : Int) {h : fi_H} (H : Shp h) : c_615_39 d x1 x2 x3 x5 x6 h =
  if x6 < h 10 647 14 then
    if 0 ≤ wI (2800 + x6) ∧ wI (2800 + x6) < 3200 then
    c_615_67 d x1 x2 x3 x5 x6 (h 10 646 (wI (2800 + x6)).toNat) 1 h
    else none
  else
    if x5 = (-1) then
      cv_ (fj_run d 577 h [(4, 602), (0, 1)])
        (fun h2 =>
        c_615_151 d x1 x2 x3 x5 h2)
        (fun q4 h2 => tx_ q4 h2)
    else
      c_615_151 d x1 x2 x3 x5 h := by
  unfold c_615_39
  exact
    have D : fk_D 615 [(39, some [0, 1, 2, 3, 5, 6], .iload 6, 2, 0, 0, 0), (41, none, .aload_n 0, 1, 0, 0, 0), (42, none, .getfield 156, 3, 455, 129, 12), (45, none, .bipush 14, 2, 0, 14, 0), (47, none, .iaload, 1, 0, 0, 0), (48, none, .if_icmp .ge 92, 3, 140, 0, 0), (51, none, .aload_n 0, 1, 0, 0, 0), (52, none, .getfield 153, 3, 454, 129, 12), (55, none, .sipush 2800, 3, 0, 2800, 0), (58, none, .iload 6, 2, 0, 0, 0), (60, none, .iadd, 1, 0, 0, 0), (61, none, .iaload, 1, 0, 0, 0), (62, none, .istore 7, 2, 0, 0, 0), (64, none, .iconst 1, 1, 0, 1, 0), (65, none, .istore 8, 2, 0, 0, 0)] := fq_of2 cd_615 ow_615 cl_615 rfl (pc := 39) (by decide +kernel)
    j_ild (pc := 39) D rfl rfl rfl fun D =>
    j_aldn (pc := 41) D rfl rfl rfl fun D =>
    j_gfc (pc := 42) (a := 602) D rfl rfl (by decide) rfl (s0_602 H) rfl (sf_455_602 H) fun D =>
    j_bp (pc := 45) D rfl fun D =>
    j_al (pc := 47) (a := 647) (e := 10) D rfl rfl rfl (by decide) (s0_647 H) (s1_647 H) ⟨rfl, rfl, rfl⟩ rfl (gy (by decide)) fun q D =>
    j_ige (pc := 48) D rfl (fun q D =>
      j_aldn (pc := 51) D rfl rfl rfl fun D =>
      j_gfc (pc := 52) (a := 602) D rfl rfl (by decide) rfl (s0_602 H) rfl (sf_454_602 H) fun D =>
      j_sp (pc := 55) D rfl fun D =>
      j_ild (pc := 58) D rfl rfl rfl fun D =>
      j_iadd (pc := 60) D rfl fun D =>
      j_al (pc := 61) (a := 646) (e := 10) D rfl rfl rfl (by decide) (s0_646 H) (s1_646 H) ⟨rfl, rfl, rfl⟩ rfl gn fun qb1 D =>
      j_ist (pc := 62) (L' := [(7, (0, h 10 646 (wI (2800 + x6)).toNat)), (0, (4, 602)), (1, (0, x1)), (2, (0, x2)), (3, (1, x3)), (5, (0, x5)), (6, (0, x6))]) D rfl nl_615 rfl rfl fun D =>
      j_ic (pc := 64) D rfl fun D =>
      j_ist (pc := 65) (L' := [(8, (0, 1)), (7, (0, h 10 646 (wI (2800 + x6)).toNat)), (0, (4, 602)), (1, (0, x1)), (2, (0, x2)), (3, (1, x3)), (5, (0, x5)), (6, (0, x6))]) D rfl nl_615 rfl rfl fun D =>
      fk_jump cut_615_67 rfl rfl) (fun q =>
      have D : fk_D 615 [(140, none, .iload 5, 2, 0, 0, 0), (142, none, .iconst (-1), 1, 0, (-1), 0), (143, none, .if_icmp .ne 8, 3, 151, 0, 0), (146, none, .aload_n 0, 1, 0, 0, 0), (147, none, .iconst 1, 1, 0, 1, 0), (148, none, .invokevirtual 854, 3, 1, 403, 0)] := fq_of2 cd_615 ow_615 cl_615 rfl (pc := 140) (by decide +kernel)
      j_ild (pc := 140) D rfl rfl rfl fun D =>
      j_ic (pc := 142) D rfl fun D =>
      j_ine (pc := 143) D rfl (fun q D =>
        j_aldn (pc := 146) D rfl rfl rfl fun D =>
        j_ic (pc := 147) D rfl fun D =>
        j_ivv (pc := 148) (m := 577) (dd := 403) (a := [(0, 1)]) (rest := []) D rfl rfl rfl rfl rfl (by decide) (s0_602 H) (by decide +kernel) (fun h2 e1 D =>
          have T := fj_run_ok _ _ _ _ _ _ H.1 e1
          have H := shp_st H T
          fk_jump cut_615_151 rfl rfl) (fun q4 h2 e1 =>
          j_tx (hx_615 _))) (fun q =>
        fk_jump cut_615_151 rfl rfl))
theorem e_615_67 (d : Nat) (x1 x2 x3 x5 x6 x7 x8 : Int) {h : fi_H} (H : Shp h) : c_615_67 d x1 x2 x3 x5 x6 x7 x8 h =
  if 0 ≤ x7 ∧ x7 < 240 then
  if h 10 638 x7.toNat < x8 then
    c_615_39 d x1 x2 x3 x5 (wI (x6 + 1)) h
  else
    ca_ (fj_run d 610 h [(4, 602), (0, 14), (0, x7), (0, x8)]) 0
      (fun v3 h2 =>
      if v3 = (-1) then
        c_615_128 d x1 x2 x3 x5 x6 x7 x8 h2
      else
        if 0 ≤ v3 ∧ v3 < 560 then
        if h2 4 630 v3.toNat = 0 then
          c_615_128 d x1 x2 x3 x5 x6 x7 x8 h2
        else
          if 0 ≤ x1 ∧ x1 < 9300 then
          if h2 10 625 v3.toNat = wI (h2 11 623 x1.toNat) then
            c_615_128 d x1 x2 x3 v3 x6 x7 x8 h2
          else
            c_615_128 d x1 x2 x3 x5 x6 x7 x8 h2
          else none
        else none)
      (fun q4 h2 => tx_ q4 h2)
  else none := by
  unfold c_615_67
  exact
    have D : fk_D 615 [(67, some [0, 1, 2, 3, 5, 6, 7, 8], .iload 8, 2, 0, 0, 0), (69, none, .aload_n 0, 1, 0, 0, 0), (70, none, .getfield 125, 3, 443, 129, 12), (73, none, .iload 7, 2, 0, 0, 0), (75, none, .iaload, 1, 0, 0, 0), (76, none, .if_icmp .gt 58, 3, 134, 0, 0), (79, none, .aload_n 0, 1, 0, 0, 0), (80, none, .bipush 14, 2, 0, 14, 0), (82, none, .iload 7, 2, 0, 0, 0), (84, none, .iload 8, 2, 0, 0, 0), (86, none, .invokevirtual 836, 3, 3, 402, 1), (89, none, .istore 9, 2, 0, 0, 0), (91, none, .iload 9, 2, 0, 0, 0), (93, none, .iconst (-1), 1, 0, (-1), 0), (94, none, .if_icmp .eq 34, 3, 128, 0, 0), (97, none, .aload_n 0, 1, 0, 0, 0), (98, none, .getfield 101, 3, 433, 129, 12), (101, none, .iload 9, 2, 0, 0, 0), (103, none, .baload, 1, 0, 0, 0), (104, none, .ifCond .eq 24, 3, 128, 0, 0)] := fq_of2 cd_615 ow_615 cl_615 rfl (pc := 67) (by decide +kernel)
    j_ild (pc := 67) D rfl rfl rfl fun D =>
    j_aldn (pc := 69) D rfl rfl rfl fun D =>
    j_gfc (pc := 70) (a := 602) D rfl rfl (by decide) rfl (s0_602 H) rfl (sf_443_602 H) fun D =>
    j_ild (pc := 73) D rfl rfl rfl fun D =>
    j_al (pc := 75) (a := 638) (e := 10) D rfl rfl rfl (by decide) (s0_638 H) (s1_638 H) ⟨rfl, rfl, rfl⟩ rfl gn fun qb1 D =>
    j_igt (pc := 76) D rfl (fun q =>
      have D : fk_D 615 [(134, none, .iinc 6 1, 3, 0, 1, 0), (137, none, .goto (-98), 3, 39, 0, 0)] := fq_of2 cd_615 ow_615 cl_615 rfl (pc := 134) (by decide +kernel)
      j_inc (pc := 134) (L' := [(6, (0, wI (x6 + 1))), (0, (4, 602)), (1, (0, x1)), (2, (0, x2)), (3, (1, x3)), (5, (0, x5)), (7, (0, x7)), (8, (0, x8))]) D rfl rfl rfl (by decide +kernel) rfl fun D =>
      j_goto (pc := 137) D rfl <|
      fk_jump cut_615_39 rfl rfl) (fun q D =>
      j_aldn (pc := 79) D rfl rfl rfl fun D =>
      j_bp (pc := 80) D rfl fun D =>
      j_ild (pc := 82) D rfl rfl rfl fun D =>
      j_ild (pc := 84) D rfl rfl rfl fun D =>
      j_iv (pc := 86) (m := 610) (dd := 402) (a := [(0, 14), (0, x7), (0, x8)]) (rest := []) D rfl rfl rfl rfl rfl (by decide) (s0_602 H) (by decide +kernel) (fun v3 h2 e1 D =>
        have T := fj_run_ok _ _ _ _ _ _ H.1 e1
        have H := shp_st H T
        j_ist (pc := 89) (L' := [(9, (0, v3)), (0, (4, 602)), (1, (0, x1)), (2, (0, x2)), (3, (1, x3)), (5, (0, x5)), (6, (0, x6)), (7, (0, x7)), (8, (0, x8))]) D rfl nl_615 rfl rfl fun D =>
        j_ild (pc := 91) D rfl rfl rfl fun D =>
        j_ic (pc := 93) D rfl fun D =>
        j_ieq (pc := 94) D rfl (fun q =>
          fk_jump cut_615_128 rfl rfl) (fun q D =>
          j_aldn (pc := 97) D rfl rfl rfl fun D =>
          j_gfc (pc := 98) (a := 602) D rfl rfl (by decide) rfl (s0_602 H) rfl (sf_433_602 H) fun D =>
          j_ild (pc := 101) D rfl rfl rfl fun D =>
          j_al (pc := 103) (a := 630) (e := 4) D rfl rfl rfl (by decide) (s0_630 H) (s1_630 H) ⟨rfl, rfl, rfl⟩ rfl gn fun qb5 D =>
          j_ifeq (pc := 104) D rfl (fun q =>
            fk_jump cut_615_128 rfl rfl) (fun q D =>
            have D : fk_D 615 [(107, none, .aload_n 0, 1, 0, 0, 0), (108, none, .getfield 86, 3, 428, 129, 12), (111, none, .iload 9, 2, 0, 0, 0), (113, none, .iaload, 1, 0, 0, 0), (114, none, .aload_n 0, 1, 0, 0, 0), (115, none, .getfield 80, 3, 424, 129, 12), (118, none, .iload_n 1, 1, 0, 0, 0), (119, none, .laload, 1, 0, 0, 0), (120, none, .l2i, 1, 0, 0, 0), (121, none, .if_icmp .ne 7, 3, 128, 0, 0), (124, none, .iload 9, 2, 0, 0, 0), (126, none, .istore 5, 2, 0, 0, 0)] := fq_of2 cd_615 ow_615 cl_615 rfl (pc := 107) (by decide +kernel)
            j_aldn (pc := 107) D rfl rfl rfl fun D =>
            j_gfc (pc := 108) (a := 602) D rfl rfl (by decide) rfl (s0_602 H) rfl (sf_428_602 H) fun D =>
            j_ild (pc := 111) D rfl rfl rfl fun D =>
            j_al (pc := 113) (a := 625) (e := 10) D rfl rfl rfl (by decide) (s0_625 H) (s1_625 H) ⟨rfl, rfl, rfl⟩ rfl (gy qb5) fun q D =>
            j_aldn (pc := 114) D rfl rfl rfl fun D =>
            j_gfc (pc := 115) (a := 602) D rfl rfl (by decide) rfl (s0_602 H) rfl (sf_424_602 H) fun D =>
            j_ildn (pc := 118) D rfl rfl rfl fun D =>
            j_al (pc := 119) (a := 623) (e := 11) D rfl rfl rfl (by decide) (s0_623 H) (s1_623 H) ⟨rfl, rfl, rfl⟩ rfl gn fun qb6 D =>
            j_l2i (pc := 120) D rfl fun D =>
            j_ine (pc := 121) D rfl (fun q D =>
              j_ild (pc := 124) D rfl rfl rfl fun D =>
              j_ist (pc := 126) (L' := [(5, (0, v3)), (9, (0, v3)), (0, (4, 602)), (1, (0, x1)), (2, (0, x2)), (3, (1, x3)), (6, (0, x6)), (7, (0, x7)), (8, (0, x8))]) D rfl nl_615 rfl rfl fun D =>
              fk_jump cut_615_128 rfl rfl) (fun q =>
              fk_jump cut_615_128 rfl rfl)))) (fun q4 h2 e1 =>
        j_tx (hx_615 _)))
theorem e_615_128 (d : Nat) (x1 x2 x3 x5 x6 x7 x8 : Int) {h : fi_H} (H : Shp h) : c_615_128 d x1 x2 x3 x5 x6 x7 x8 h =
  c_615_67 d x1 x2 x3 x5 x6 x7 (wI (x8 + 1)) h := by
  unfold c_615_128
  exact
    have D : fk_D 615 [(128, some [0, 1, 2, 3, 5, 6, 7, 8], .iinc 8 1, 3, 0, 1, 0), (131, none, .goto (-64), 3, 67, 0, 0)] := fq_of2 cd_615 ow_615 cl_615 rfl (pc := 128) (by decide +kernel)
    j_inc (pc := 128) (L' := [(8, (0, wI (x8 + 1))), (0, (4, 602)), (1, (0, x1)), (2, (0, x2)), (3, (1, x3)), (5, (0, x5)), (6, (0, x6)), (7, (0, x7))]) D rfl rfl rfl (by decide +kernel) rfl fun D =>
    j_goto (pc := 131) D rfl <|
    fk_jump cut_615_67 rfl rfl
theorem e_615_151 (d : Nat) (x1 x2 x3 x5 : Int) {h : fi_H} (H : Shp h) : c_615_151 d x1 x2 x3 x5 h =
  if 0 ≤ x5 ∧ x5 < 560 then
  lt_ (wI ((h 10 626 x5.toNat) + (h 10 627 x5.toNat))) fun y2 =>
  if x2 = 25 then
    lt_ (fi_upd h 492 602 0 0) fun h3 =>
    if 0 ≤ x1 ∧ x1 < 9300 then
    if h3 10 618 x1.toNat = 3 then
      c_615_199 d x3 (h 10 626 x5.toNat) y2 602 1 h3
    else
      c_615_199 d x3 (h 10 626 x5.toNat) y2 602 0 h3
    else none
  else
    if x2 = 26 then
      cv_ (fj_run d 586 h [(4, 602), (1, 0)])
        (fun h5 =>
        c_615_274 d x3 y2 (h 10 626 x5.toNat) h5)
        (fun q7 h5 => tx_ q7 h5)
    else
      c_615_384 d x3 y2 (h 10 626 x5.toNat) h
  else none := by
  unfold c_615_151
  exact
    have D : fk_D 615 [(151, some [0, 1, 2, 3, 5], .aload_n 0, 1, 0, 0, 0), (152, none, .getfield 89, 3, 429, 129, 12), (155, none, .iload 5, 2, 0, 0, 0), (157, none, .iaload, 1, 0, 0, 0), (158, none, .istore 6, 2, 0, 0, 0), (160, none, .iload 6, 2, 0, 0, 0), (162, none, .aload_n 0, 1, 0, 0, 0), (163, none, .getfield 92, 3, 430, 129, 12), (166, none, .iload 5, 2, 0, 0, 0), (168, none, .iaload, 1, 0, 0, 0), (169, none, .iadd, 1, 0, 0, 0), (170, none, .istore 7, 2, 0, 0, 0), (172, none, .iload_n 2, 1, 0, 0, 0), (173, none, .bipush 25, 2, 0, 25, 0), (175, none, .if_icmp .ne 84, 3, 259, 0, 0), (178, none, .aload_n 0, 1, 0, 0, 0), (179, none, .lconst 0, 1, 0, 0, 0), (180, none, .putfield 869, 3, 492, 129, 11), (183, none, .aload_n 0, 1, 0, 0, 0), (184, none, .aload_n 0, 1, 0, 0, 0)] := fq_of2 cd_615 ow_615 cl_615 rfl (pc := 151) (by decide +kernel)
    j_aldn (pc := 151) D rfl rfl rfl fun D =>
    j_gfc (pc := 152) (a := 602) D rfl rfl (by decide) rfl (s0_602 H) rfl (sf_429_602 H) fun D =>
    j_ild (pc := 155) D rfl rfl rfl fun D =>
    j_al (pc := 157) (a := 626) (e := 10) D rfl rfl rfl (by decide) (s0_626 H) (s1_626 H) ⟨rfl, rfl, rfl⟩ rfl gn fun qb1 D =>
    j_ist (pc := 158) (L' := [(6, (0, h 10 626 x5.toNat)), (0, (4, 602)), (1, (0, x1)), (2, (0, x2)), (3, (1, x3)), (5, (0, x5))]) D rfl nl_615 rfl rfl fun D =>
    j_ild (pc := 160) D rfl rfl rfl fun D =>
    j_aldn (pc := 162) D rfl rfl rfl fun D =>
    j_gfc (pc := 163) (a := 602) D rfl rfl (by decide) rfl (s0_602 H) rfl (sf_430_602 H) fun D =>
    j_ild (pc := 166) D rfl rfl rfl fun D =>
    j_al (pc := 168) (a := 627) (e := 10) D rfl rfl rfl (by decide) (s0_627 H) (s1_627 H) ⟨rfl, rfl, rfl⟩ rfl (gy qb1) fun q D =>
    j_iadd (pc := 169) D rfl fun D =>
    j_stl (pc := 170) (L' := fun y2 => [(7, (0, y2)), (6, (0, h 10 626 x5.toNat)), (0, (4, 602)), (1, (0, x1)), (2, (0, x2)), (3, (1, x3)), (5, (0, x5))]) D rfl ⟨rfl, rfl, rfl, rfl⟩ nl_615 rfl (fun _ => rfl) fun y2 ey2 D =>
    j_ildn (pc := 172) D rfl rfl rfl fun D =>
    j_bp (pc := 173) D rfl fun D =>
    j_ine (pc := 175) D rfl (fun q D =>
      j_aldn (pc := 178) D rfl rfl rfl fun D =>
      j_c0 (pc := 179) (v := (1, 0)) D rfl rfl (by decide +kernel) fun D =>
      j_pf (pc := 180) (a := 602) D rfl rfl rfl (s0_602 H) rfl rfl (gy (by decide)) (gy rfl) fun h3 eh3 S D =>
      have T := fj_hs_ok H.1 S
      have H := shp_st H T
      j_aldn (pc := 183) D rfl rfl rfl fun D =>
      j_aldn (pc := 184) D rfl rfl rfl fun D =>
      have D : fk_D 615 [(185, none, .getfield 65, 3, 419, 129, 12), (188, none, .iload_n 1, 1, 0, 0, 0), (189, none, .iaload, 1, 0, 0, 0), (190, none, .iconst 3, 1, 0, 3, 0), (191, none, .if_icmp .ne 7, 3, 198, 0, 0), (194, none, .lconst 1, 1, 0, 0, 0), (195, none, .goto 4, 3, 199, 0, 0)] := fq_of2 cd_615 ow_615 cl_615 rfl (pc := 185) (by decide +kernel)
      j_gfc (pc := 185) (a := 602) D rfl rfl (by decide) rfl (s0_602 H) rfl (sf_419_602 H) fun D =>
      j_ildn (pc := 188) D rfl rfl rfl fun D =>
      j_al (pc := 189) (a := 618) (e := 10) D rfl rfl rfl (by decide) (s0_618 H) (s1_618 H) ⟨rfl, rfl, rfl⟩ rfl gn fun qb4 D =>
      j_ic (pc := 190) D rfl fun D =>
      j_ine (pc := 191) D rfl (fun q D =>
        j_c0 (pc := 194) (v := (1, 1)) D rfl rfl (by decide +kernel) fun D =>
        j_goto (pc := 195) D rfl <|
        fk_jump cut_615_199 rfl rfl) (fun q =>
        have D : fk_D 615 [(198, none, .lconst 0, 1, 0, 0, 0)] := fq_of2 cd_615 ow_615 cl_615 rfl (pc := 198) (by decide +kernel)
        j_c0 (pc := 198) (v := (1, 0)) D rfl rfl (by decide +kernel) fun D =>
        fk_jump cut_615_199 rfl rfl)) (fun q =>
      have D : fk_D 615 [(259, none, .iload_n 2, 1, 0, 0, 0), (260, none, .bipush 26, 2, 0, 26, 0), (262, none, .if_icmp .ne 118, 3, 380, 0, 0), (265, none, .aload_n 0, 1, 0, 0, 0), (266, none, .lconst 0, 1, 0, 0, 0), (267, none, .invokevirtual 920, 3, 1, 414, 0), (270, none, .iload 6, 2, 0, 0, 0), (272, none, .istore 8, 2, 0, 0, 0)] := fq_of2 cd_615 ow_615 cl_615 rfl (pc := 259) (by decide +kernel)
      j_ildn (pc := 259) D rfl rfl rfl fun D =>
      j_bp (pc := 260) D rfl fun D =>
      j_ine (pc := 262) D rfl (fun q D =>
        j_aldn (pc := 265) D rfl rfl rfl fun D =>
        j_c0 (pc := 266) (v := (1, 0)) D rfl rfl (by decide +kernel) fun D =>
        j_ivv (pc := 267) (m := 586) (dd := 414) (a := [(1, 0)]) (rest := []) D rfl rfl rfl rfl rfl (by decide) (s0_602 H) (by decide +kernel) (fun h5 e1 D =>
          have T := fj_run_ok _ _ _ _ _ _ H.1 e1
          have H := shp_st H T
          j_ild (pc := 270) D rfl rfl rfl fun D =>
          j_ist (pc := 272) (L' := [(8, (0, h 10 626 x5.toNat)), (7, (0, y2)), (6, (0, h 10 626 x5.toNat)), (0, (4, 602)), (1, (0, x1)), (2, (0, x2)), (3, (1, x3)), (5, (0, x5))]) D rfl nl_615 rfl rfl fun D =>
          fk_jump cut_615_274 rfl rfl) (fun q7 h5 e1 =>
          j_tx (hx_615 _))) (fun q =>
        have D : fk_D 615 [(380, none, .iload 6, 2, 0, 0, 0), (382, none, .istore 8, 2, 0, 0, 0)] := fq_of2 cd_615 ow_615 cl_615 rfl (pc := 380) (by decide +kernel)
        j_ild (pc := 380) D rfl rfl rfl fun D =>
        j_ist (pc := 382) (L' := [(8, (0, h 10 626 x5.toNat)), (7, (0, y2)), (6, (0, h 10 626 x5.toNat)), (0, (4, 602)), (1, (0, x1)), (2, (0, x2)), (3, (1, x3)), (5, (0, x5))]) D rfl nl_615 rfl rfl fun D =>
        fk_jump cut_615_384 rfl rfl))
theorem e_615_199 (d : Nat) (x3 x6 x7 s0 s1 : Int) {h : fi_H} (H : Shp h) : c_615_199 d x3 x6 x7 s0 s1 h =
  if h 0 s0.toNat 0 = 129 then
  if 302 < s0 then
  lt_ (fi_upd h 493 s0.toNat 0 s1) fun h1 =>
  c_615_206 d x3 x7 x6 h1
  else none
  else none := by
  unfold c_615_199
  exact
    have D : fk_D 615 [(199, some [0, 3, 6, 7], .putfield 872, 3, 493, (-129), 11), (202, none, .iload 6, 2, 0, 0, 0), (204, none, .istore 8, 2, 0, 0, 0)] := fq_of2 cd_615 ow_615 cl_615 rfl (pc := 199) (by decide +kernel)
    j_pfo (pc := 199) D rfl rfl rfl rfl rfl gn gn (gy rfl) fun h1 eh1 S kc2 D =>
    have T := fj_hs_ok H.1 S
    have H := shp_st H T
    j_ild (pc := 202) D rfl rfl rfl fun D =>
    j_ist (pc := 204) (L' := [(8, (0, x6)), (0, (4, 602)), (3, (1, x3)), (6, (0, x6)), (7, (0, x7))]) D rfl nl_615 rfl rfl fun D =>
    fk_jump cut_615_206 rfl rfl
theorem e_615_206 (d : Nat) (x3 x7 x8 : Int) {h : fi_H} (H : Shp h) : c_615_206 d x3 x7 x8 h =
  if x8 < x7 then
    if 0 ≤ x8 ∧ x8 < 440 then
    if 0 < lc_ (h 11 631 x8.toNat) x3 then
      c_615_250 d x3 x7 x8 h
    else
      lt_ (fi_upd h 492 602 0 (h 11 632 x8.toNat)) fun h2 =>
      lt_ (fi_upd h2 493 602 0 (h2 11 633 x8.toNat)) fun h3 =>
      c_615_250 d x3 x7 x8 h3
    else none
  else
    some (.inl none, h) := by
  unfold c_615_206
  exact
    have D : fk_D 615 [(206, some [0, 3, 7, 8], .iload 8, 2, 0, 0, 0), (208, none, .iload 7, 2, 0, 0, 0), (210, none, .if_icmp .ge 46, 3, 256, 0, 0), (213, none, .aload_n 0, 1, 0, 0, 0), (214, none, .getfield 104, 3, 435, 129, 12), (217, none, .iload 8, 2, 0, 0, 0), (219, none, .laload, 1, 0, 0, 0), (220, none, .lload_n 3, 1, 0, 0, 0), (221, none, .lcmp, 1, 0, 0, 0), (222, none, .ifCond .le 6, 3, 228, 0, 0), (225, none, .goto 25, 3, 250, 0, 0)] := fq_of2 cd_615 ow_615 cl_615 rfl (pc := 206) (by decide +kernel)
    j_ild (pc := 206) D rfl rfl rfl fun D =>
    j_ild (pc := 208) D rfl rfl rfl fun D =>
    j_ige (pc := 210) D rfl (fun q D =>
      j_aldn (pc := 213) D rfl rfl rfl fun D =>
      j_gfc (pc := 214) (a := 602) D rfl rfl (by decide) rfl (s0_602 H) rfl (sf_435_602 H) fun D =>
      j_ild (pc := 217) D rfl rfl rfl fun D =>
      j_al (pc := 219) (a := 631) (e := 11) D rfl rfl rfl (by decide) (s0_631 H) (s1_631 H) ⟨rfl, rfl, rfl⟩ rfl gn fun qb1 D =>
      j_lldn (pc := 220) D rfl rfl rfl fun D =>
      j_lcmp (pc := 221) D rfl fun D =>
      j_ifle (pc := 222) D rfl (fun q D =>
        j_goto (pc := 225) D rfl <|
        fk_jump cut_615_250 rfl rfl) (fun q =>
        have D : fk_D 615 [(228, none, .aload_n 0, 1, 0, 0, 0), (229, none, .aload_n 0, 1, 0, 0, 0), (230, none, .getfield 107, 3, 436, 129, 12), (233, none, .iload 8, 2, 0, 0, 0), (235, none, .laload, 1, 0, 0, 0), (236, none, .putfield 869, 3, 492, 129, 11), (239, none, .aload_n 0, 1, 0, 0, 0), (240, none, .aload_n 0, 1, 0, 0, 0), (241, none, .getfield 110, 3, 437, 129, 12), (244, none, .iload 8, 2, 0, 0, 0), (246, none, .laload, 1, 0, 0, 0), (247, none, .putfield 872, 3, 493, 129, 11)] := fq_of2 cd_615 ow_615 cl_615 rfl (pc := 228) (by decide +kernel)
        j_aldn (pc := 228) D rfl rfl rfl fun D =>
        j_aldn (pc := 229) D rfl rfl rfl fun D =>
        j_gfc (pc := 230) (a := 602) D rfl rfl (by decide) rfl (s0_602 H) rfl (sf_436_602 H) fun D =>
        j_ild (pc := 233) D rfl rfl rfl fun D =>
        j_al (pc := 235) (a := 632) (e := 11) D rfl rfl rfl (by decide) (s0_632 H) (s1_632 H) ⟨rfl, rfl, rfl⟩ rfl (gy qb1) fun q D =>
        j_pf (pc := 236) (a := 602) D rfl rfl rfl (s0_602 H) rfl rfl (gy (by decide)) (gy rfl) fun h2 eh2 S D =>
        have T := fj_hs_ok H.1 S
        have H := shp_st H T
        j_aldn (pc := 239) D rfl rfl rfl fun D =>
        j_aldn (pc := 240) D rfl rfl rfl fun D =>
        j_gfc (pc := 241) (a := 602) D rfl rfl (by decide) rfl (s0_602 H) rfl (sf_437_602 H) fun D =>
        j_ild (pc := 244) D rfl rfl rfl fun D =>
        j_al (pc := 246) (a := 633) (e := 11) D rfl rfl rfl (by decide) (s0_633 H) (s1_633 H) ⟨rfl, rfl, rfl⟩ rfl (gy qb1) fun q D =>
        j_pf (pc := 247) (a := 602) D rfl rfl rfl (s0_602 H) rfl rfl (gy (by decide)) (gy rfl) fun h3 eh3 S D =>
        have T := fj_hs_ok H.1 S
        have H := shp_st H T
        fk_jump cut_615_250 rfl rfl)) (fun q =>
      have D : fk_D 615 [(256, none, .goto 245, 3, 501, 0, 0)] := fq_of2 cd_615 ow_615 cl_615 rfl (pc := 256) (by decide +kernel)
      j_goto (pc := 256) D rfl <|
      have D : fk_D 615 [(501, none, .return_, 1, 0, 0, 0)] := fq_of2 cd_615 ow_615 cl_615 rfl (pc := 501) (by decide +kernel)
      j_vret D rt_615)
theorem e_615_250 (d : Nat) (x3 x7 x8 : Int) {h : fi_H} (H : Shp h) : c_615_250 d x3 x7 x8 h =
  c_615_206 d x3 x7 (wI (x8 + 1)) h := by
  unfold c_615_250
  exact
    have D : fk_D 615 [(250, some [0, 3, 7, 8], .iinc 8 1, 3, 0, 1, 0), (253, none, .goto (-47), 3, 206, 0, 0)] := fq_of2 cd_615 ow_615 cl_615 rfl (pc := 250) (by decide +kernel)
    j_inc (pc := 250) (L' := [(8, (0, wI (x8 + 1))), (0, (4, 602)), (3, (1, x3)), (7, (0, x7))]) D rfl rfl rfl (by decide +kernel) rfl fun D =>
    j_goto (pc := 253) D rfl <|
    fk_jump cut_615_206 rfl rfl
theorem e_615_274 (d : Nat) (x3 x7 x8 : Int) {h : fi_H} (H : Shp h) : c_615_274 d x3 x7 x8 h =
  if x8 < x7 then
    if 0 ≤ x8 ∧ x8 < 440 then
    if lc_ (h 11 631 x8.toNat) x3 < 0 then
      if wI (x8 + 1) < x7 then
        if 0 ≤ wI (x8 + 1) ∧ wI (x8 + 1) < 440 then
        if lc_ (h 11 631 (wI (x8 + 1)).toNat) x3 < 0 then
          c_615_332 d x3 x7 x8 (h 11 631 (wI (x8 + 1)).toNat) h
        else
          c_615_331 d x3 x7 x8 h
        else none
      else
        c_615_331 d x3 x7 x8 h
    else
      c_615_371 d x3 x7 x8 h
    else none
  else
    some (.inl none, h) := by
  unfold c_615_274
  exact
    have D : fk_D 615 [(274, some [0, 3, 7, 8], .iload 8, 2, 0, 0, 0), (276, none, .iload 7, 2, 0, 0, 0), (278, none, .if_icmp .ge 99, 3, 377, 0, 0), (281, none, .aload_n 0, 1, 0, 0, 0), (282, none, .getfield 104, 3, 435, 129, 12), (285, none, .iload 8, 2, 0, 0, 0), (287, none, .laload, 1, 0, 0, 0), (288, none, .lload_n 3, 1, 0, 0, 0), (289, none, .lcmp, 1, 0, 0, 0), (290, none, .ifCond .lt 6, 3, 296, 0, 0), (293, none, .goto 78, 3, 371, 0, 0)] := fq_of2 cd_615 ow_615 cl_615 rfl (pc := 274) (by decide +kernel)
    j_ild (pc := 274) D rfl rfl rfl fun D =>
    j_ild (pc := 276) D rfl rfl rfl fun D =>
    j_ige (pc := 278) D rfl (fun q D =>
      j_aldn (pc := 281) D rfl rfl rfl fun D =>
      j_gfc (pc := 282) (a := 602) D rfl rfl (by decide) rfl (s0_602 H) rfl (sf_435_602 H) fun D =>
      j_ild (pc := 285) D rfl rfl rfl fun D =>
      j_al (pc := 287) (a := 631) (e := 11) D rfl rfl rfl (by decide) (s0_631 H) (s1_631 H) ⟨rfl, rfl, rfl⟩ rfl gn fun qb1 D =>
      j_lldn (pc := 288) D rfl rfl rfl fun D =>
      j_lcmp (pc := 289) D rfl fun D =>
      j_iflt (pc := 290) D rfl (fun q =>
        have D : fk_D 615 [(296, none, .iload 8, 2, 0, 0, 0), (298, none, .iconst 1, 1, 0, 1, 0), (299, none, .iadd, 1, 0, 0, 0), (300, none, .iload 7, 2, 0, 0, 0), (302, none, .if_icmp .ge 29, 3, 331, 0, 0), (305, none, .aload_n 0, 1, 0, 0, 0), (306, none, .getfield 104, 3, 435, 129, 12), (309, none, .iload 8, 2, 0, 0, 0), (311, none, .iconst 1, 1, 0, 1, 0), (312, none, .iadd, 1, 0, 0, 0), (313, none, .laload, 1, 0, 0, 0), (314, none, .lload_n 3, 1, 0, 0, 0), (315, none, .lcmp, 1, 0, 0, 0), (316, none, .ifCond .ge 15, 3, 331, 0, 0), (319, none, .aload_n 0, 1, 0, 0, 0), (320, none, .getfield 104, 3, 435, 129, 12), (323, none, .iload 8, 2, 0, 0, 0), (325, none, .iconst 1, 1, 0, 1, 0), (326, none, .iadd, 1, 0, 0, 0), (327, none, .laload, 1, 0, 0, 0)] := fq_of2 cd_615 ow_615 cl_615 rfl (pc := 296) (by decide +kernel)
        j_ild (pc := 296) D rfl rfl rfl fun D =>
        j_ic (pc := 298) D rfl fun D =>
        j_iadd (pc := 299) D rfl fun D =>
        j_ild (pc := 300) D rfl rfl rfl fun D =>
        j_ige (pc := 302) D rfl (fun q D =>
          j_aldn (pc := 305) D rfl rfl rfl fun D =>
          j_gfc (pc := 306) (a := 602) D rfl rfl (by decide) rfl (s0_602 H) rfl (sf_435_602 H) fun D =>
          j_ild (pc := 309) D rfl rfl rfl fun D =>
          j_ic (pc := 311) D rfl fun D =>
          j_iadd (pc := 312) D rfl fun D =>
          j_al (pc := 313) (a := 631) (e := 11) D rfl rfl rfl (by decide) (s0_631 H) (s1_631 H) ⟨rfl, rfl, rfl⟩ rfl gn fun qb2 D =>
          j_lldn (pc := 314) D rfl rfl rfl fun D =>
          j_lcmp (pc := 315) D rfl fun D =>
          j_ifge (pc := 316) D rfl (fun q D =>
            j_aldn (pc := 319) D rfl rfl rfl fun D =>
            j_gfc (pc := 320) (a := 602) D rfl rfl (by decide) rfl (s0_602 H) rfl (sf_435_602 H) fun D =>
            j_ild (pc := 323) D rfl rfl rfl fun D =>
            j_ic (pc := 325) D rfl fun D =>
            j_iadd (pc := 326) D rfl fun D =>
            j_al (pc := 327) (a := 631) (e := 11) D rfl rfl rfl (by decide) (s0_631 H) (s1_631 H) ⟨rfl, rfl, rfl⟩ rfl (gy qb2) fun q D =>
            have D : fk_D 615 [(328, none, .goto 4, 3, 332, 0, 0)] := fq_of2 cd_615 ow_615 cl_615 rfl (pc := 328) (by decide +kernel)
            j_goto (pc := 328) D rfl <|
            fk_jump cut_615_332 rfl rfl) (fun q =>
            fk_jump cut_615_331 rfl rfl)) (fun q =>
          fk_jump cut_615_331 rfl rfl)) (fun q D =>
        j_goto (pc := 293) D rfl <|
        fk_jump cut_615_371 rfl rfl)) (fun q =>
      have D : fk_D 615 [(377, none, .goto 124, 3, 501, 0, 0)] := fq_of2 cd_615 ow_615 cl_615 rfl (pc := 377) (by decide +kernel)
      j_goto (pc := 377) D rfl <|
      have D : fk_D 615 [(501, none, .return_, 1, 0, 0, 0)] := fq_of2 cd_615 ow_615 cl_615 rfl (pc := 501) (by decide +kernel)
      j_vret D rt_615)
theorem e_615_331 (d : Nat) (x3 x7 x8 : Int) {h : fi_H} (H : Shp h) : c_615_331 d x3 x7 x8 h =
  c_615_332 d x3 x7 x8 x3 h := by
  unfold c_615_331
  exact
    have D : fk_D 615 [(331, some [0, 3, 7, 8], .lload_n 3, 1, 0, 0, 0)] := fq_of2 cd_615 ow_615 cl_615 rfl (pc := 331) (by decide +kernel)
    j_lldn (pc := 331) D rfl rfl rfl fun D =>
    fk_jump cut_615_332 rfl rfl
theorem e_615_332 (d : Nat) (x3 x7 x8 s0 : Int) {h : fi_H} (H : Shp h) : c_615_332 d x3 x7 x8 s0 h =
  if 0 ≤ x8 ∧ x8 < 440 then
  ca_ (fj_run d 603 h [(1, wJ ((wJ (s0 - (h 11 631 x8.toNat))) * (h 11 632 x8.toNat))), (1, h 11 633 x8.toNat)]) 1
    (fun v3 h2 =>
    cv_ (fj_run d 586 h2 [(4, 602), (1, wJ ((h 492 602 0) + v3))])
      (fun h5 =>
      c_615_371 d x3 x7 x8 h5)
      (fun q7 h5 => tx_ q7 h5))
    (fun q4 h2 => tx_ q4 h2)
  else none := by
  unfold c_615_332
  exact
    have D : fk_D 615 [(332, some [0, 3, 7, 8], .lstore 9, 2, 0, 0, 0), (334, none, .aload_n 0, 1, 0, 0, 0), (335, none, .aload_n 0, 1, 0, 0, 0), (336, none, .getfield 869, 3, 492, 129, 11), (339, none, .lload 9, 2, 0, 0, 0), (341, none, .aload_n 0, 1, 0, 0, 0), (342, none, .getfield 104, 3, 435, 129, 12), (345, none, .iload 8, 2, 0, 0, 0), (347, none, .laload, 1, 0, 0, 0), (348, none, .lsub, 1, 0, 0, 0), (349, none, .aload_n 0, 1, 0, 0, 0), (350, none, .getfield 107, 3, 436, 129, 12), (353, none, .iload 8, 2, 0, 0, 0), (355, none, .laload, 1, 0, 0, 0), (356, none, .lmul, 1, 0, 0, 0), (357, none, .aload_n 0, 1, 0, 0, 0), (358, none, .getfield 110, 3, 437, 129, 12), (361, none, .iload 8, 2, 0, 0, 0), (363, none, .laload, 1, 0, 0, 0), (364, none, .invokestatic 957, 3, 2, 603, 2)] := fq_of2 cd_615 ow_615 cl_615 rfl (pc := 332) (by decide +kernel)
    j_lst (pc := 332) (L' := [(9, (1, s0)), (0, (4, 602)), (3, (1, x3)), (7, (0, x7)), (8, (0, x8))]) D rfl nl_615 rfl rfl fun D =>
    j_aldn (pc := 334) D rfl rfl rfl fun D =>
    j_aldn (pc := 335) D rfl rfl rfl fun D =>
    j_gf (pc := 336) (a := 602) D rfl rfl (by decide) rfl (s0_602 H) rfl fun D =>
    j_lld (pc := 339) D rfl rfl rfl fun D =>
    j_aldn (pc := 341) D rfl rfl rfl fun D =>
    j_gfc (pc := 342) (a := 602) D rfl rfl (by decide) rfl (s0_602 H) rfl (sf_435_602 H) fun D =>
    j_ild (pc := 345) D rfl rfl rfl fun D =>
    j_al (pc := 347) (a := 631) (e := 11) D rfl rfl rfl (by decide) (s0_631 H) (s1_631 H) ⟨rfl, rfl, rfl⟩ rfl gn fun qb1 D =>
    j_lsub (pc := 348) D rfl fun D =>
    j_aldn (pc := 349) D rfl rfl rfl fun D =>
    j_gfc (pc := 350) (a := 602) D rfl rfl (by decide) rfl (s0_602 H) rfl (sf_436_602 H) fun D =>
    j_ild (pc := 353) D rfl rfl rfl fun D =>
    j_al (pc := 355) (a := 632) (e := 11) D rfl rfl rfl (by decide) (s0_632 H) (s1_632 H) ⟨rfl, rfl, rfl⟩ rfl (gy qb1) fun q D =>
    j_lmul (pc := 356) D rfl fun D =>
    j_aldn (pc := 357) D rfl rfl rfl fun D =>
    j_gfc (pc := 358) (a := 602) D rfl rfl (by decide) rfl (s0_602 H) rfl (sf_437_602 H) fun D =>
    j_ild (pc := 361) D rfl rfl rfl fun D =>
    j_al (pc := 363) (a := 633) (e := 11) D rfl rfl rfl (by decide) (s0_633 H) (s1_633 H) ⟨rfl, rfl, rfl⟩ rfl (gy qb1) fun q D =>
    j_is (pc := 364) (m := 603) (a := [(1, wJ ((wJ (s0 - (h 11 631 x8.toNat))) * (h 11 632 x8.toNat))), (1, h 11 633 x8.toNat)]) (rest := [(1, h 492 602 0), (4, 602)]) D rfl rfl rfl rfl (fun v3 h2 e1 D =>
      have T := fj_run_ok _ _ _ _ _ _ H.1 e1
      have H := shp_st H T
      have D : fk_D 615 [(367, none, .ladd, 1, 0, 0, 0), (368, none, .invokevirtual 920, 3, 1, 414, 0)] := fq_of2 cd_615 ow_615 cl_615 rfl (pc := 367) (by decide +kernel)
      j_ladd (pc := 367) D rfl fun D =>
      j_ivv (pc := 368) (m := 586) (dd := 414) (a := [(1, wJ ((h 492 602 0) + v3))]) (rest := []) D rfl rfl rfl rfl rfl (by decide) (s0_602 H) (by decide +kernel) (fun h5 e1 D =>
        have T := fj_run_ok _ _ _ _ _ _ H.1 e1
        have H := shp_st H T
        fk_jump cut_615_371 rfl rfl) (fun q7 h5 e1 =>
        j_tx (hx_615 _))) (fun q4 h2 e1 =>
      j_tx (hx_615 _))
theorem e_615_371 (d : Nat) (x3 x7 x8 : Int) {h : fi_H} (H : Shp h) : c_615_371 d x3 x7 x8 h =
  c_615_274 d x3 x7 (wI (x8 + 1)) h := by
  unfold c_615_371
  exact
    have D : fk_D 615 [(371, some [0, 3, 7, 8], .iinc 8 1, 3, 0, 1, 0), (374, none, .goto (-100), 3, 274, 0, 0)] := fq_of2 cd_615 ow_615 cl_615 rfl (pc := 371) (by decide +kernel)
    j_inc (pc := 371) (L' := [(8, (0, wI (x8 + 1))), (0, (4, 602)), (3, (1, x3)), (7, (0, x7))]) D rfl rfl rfl (by decide +kernel) rfl fun D =>
    j_goto (pc := 374) D rfl <|
    fk_jump cut_615_274 rfl rfl
theorem e_615_384 (d : Nat) (x3 x7 x8 : Int) {h : fi_H} (H : Shp h) : c_615_384 d x3 x7 x8 h =
  if wI (x8 + 1) < x7 then
    if 0 ≤ wI (x8 + 1) ∧ wI (x8 + 1) < 440 then
    if 0 < lc_ (h 11 631 (wI (x8 + 1)).toNat) x3 then
      c_615_413 d x3 x7 x8 h
    else
      c_615_384 d x3 x7 (wI (x8 + 1)) h
    else none
  else
    c_615_413 d x3 x7 x8 h := by
  unfold c_615_384
  exact
    have D : fk_D 615 [(384, some [0, 3, 7, 8], .iload 8, 2, 0, 0, 0), (386, none, .iconst 1, 1, 0, 1, 0), (387, none, .iadd, 1, 0, 0, 0), (388, none, .iload 7, 2, 0, 0, 0), (390, none, .if_icmp .ge 23, 3, 413, 0, 0), (393, none, .aload_n 0, 1, 0, 0, 0), (394, none, .getfield 104, 3, 435, 129, 12), (397, none, .iload 8, 2, 0, 0, 0), (399, none, .iconst 1, 1, 0, 1, 0), (400, none, .iadd, 1, 0, 0, 0), (401, none, .laload, 1, 0, 0, 0), (402, none, .lload_n 3, 1, 0, 0, 0), (403, none, .lcmp, 1, 0, 0, 0), (404, none, .ifCond .gt 9, 3, 413, 0, 0), (407, none, .iinc 8 1, 3, 0, 1, 0), (410, none, .goto (-26), 3, 384, 0, 0)] := fq_of2 cd_615 ow_615 cl_615 rfl (pc := 384) (by decide +kernel)
    j_ild (pc := 384) D rfl rfl rfl fun D =>
    j_ic (pc := 386) D rfl fun D =>
    j_iadd (pc := 387) D rfl fun D =>
    j_ild (pc := 388) D rfl rfl rfl fun D =>
    j_ige (pc := 390) D rfl (fun q D =>
      j_aldn (pc := 393) D rfl rfl rfl fun D =>
      j_gfc (pc := 394) (a := 602) D rfl rfl (by decide) rfl (s0_602 H) rfl (sf_435_602 H) fun D =>
      j_ild (pc := 397) D rfl rfl rfl fun D =>
      j_ic (pc := 399) D rfl fun D =>
      j_iadd (pc := 400) D rfl fun D =>
      j_al (pc := 401) (a := 631) (e := 11) D rfl rfl rfl (by decide) (s0_631 H) (s1_631 H) ⟨rfl, rfl, rfl⟩ rfl gn fun qb1 D =>
      j_lldn (pc := 402) D rfl rfl rfl fun D =>
      j_lcmp (pc := 403) D rfl fun D =>
      j_ifgt (pc := 404) D rfl (fun q =>
        fk_jump cut_615_413 rfl rfl) (fun q D =>
        j_inc (pc := 407) (L' := [(8, (0, wI (x8 + 1))), (0, (4, 602)), (3, (1, x3)), (7, (0, x7))]) D rfl rfl rfl (by decide +kernel) rfl fun D =>
        j_goto (pc := 410) D rfl <|
        fk_jump cut_615_384 rfl rfl)) (fun q =>
      fk_jump cut_615_413 rfl rfl)
theorem e_615_413 (d : Nat) (x3 x7 x8 : Int) {h : fi_H} (H : Shp h) : c_615_413 d x3 x7 x8 h =
  if 0 ≤ x8 ∧ x8 < 440 then
  if wI (x8 + 1) < x7 then
    if 0 < lc_ x3 (h 11 631 x8.toNat) then
      if 0 ≤ wI (x8 + 1) ∧ wI (x8 + 1) < 440 then
      ca_ (fj_run d 603 h [(1, wJ ((wJ ((h 11 632 (wI (x8 + 1)).toNat) - (h 11 632 x8.toNat))) * (wJ (x3 - (h 11 631 x8.toNat))))), (1, wJ ((h 11 631 (wI (x8 + 1)).toNat) - (h 11 631 x8.toNat)))]) 1
        (fun v4 h3 =>
        c_615_495 d (wJ ((h 11 632 x8.toNat) + v4)) h3)
        (fun q5 h3 => tx_ q5 h3)
      else none
    else
      c_615_495 d (h 11 632 x8.toNat) h
  else
    c_615_495 d (h 11 632 x8.toNat) h
  else none := by
  unfold c_615_413
  exact
    have D : fk_D 615 [(413, some [0, 3, 7, 8], .aload_n 0, 1, 0, 0, 0), (414, none, .getfield 107, 3, 436, 129, 12), (417, none, .iload 8, 2, 0, 0, 0), (419, none, .laload, 1, 0, 0, 0), (420, none, .lstore 9, 2, 0, 0, 0), (422, none, .iload 8, 2, 0, 0, 0), (424, none, .iconst 1, 1, 0, 1, 0), (425, none, .iadd, 1, 0, 0, 0), (426, none, .iload 7, 2, 0, 0, 0), (428, none, .if_icmp .ge 67, 3, 495, 0, 0), (431, none, .lload_n 3, 1, 0, 0, 0), (432, none, .aload_n 0, 1, 0, 0, 0), (433, none, .getfield 104, 3, 435, 129, 12), (436, none, .iload 8, 2, 0, 0, 0), (438, none, .laload, 1, 0, 0, 0), (439, none, .lcmp, 1, 0, 0, 0), (440, none, .ifCond .le 55, 3, 495, 0, 0), (443, none, .lload 9, 2, 0, 0, 0), (445, none, .aload_n 0, 1, 0, 0, 0), (446, none, .getfield 107, 3, 436, 129, 12)] := fq_of2 cd_615 ow_615 cl_615 rfl (pc := 413) (by decide +kernel)
    j_aldn (pc := 413) D rfl rfl rfl fun D =>
    j_gfc (pc := 414) (a := 602) D rfl rfl (by decide) rfl (s0_602 H) rfl (sf_436_602 H) fun D =>
    j_ild (pc := 417) D rfl rfl rfl fun D =>
    j_al (pc := 419) (a := 632) (e := 11) D rfl rfl rfl (by decide) (s0_632 H) (s1_632 H) ⟨rfl, rfl, rfl⟩ rfl gn fun qb1 D =>
    j_lst (pc := 420) (L' := [(9, (1, h 11 632 x8.toNat)), (0, (4, 602)), (3, (1, x3)), (7, (0, x7)), (8, (0, x8))]) D rfl nl_615 rfl rfl fun D =>
    j_ild (pc := 422) D rfl rfl rfl fun D =>
    j_ic (pc := 424) D rfl fun D =>
    j_iadd (pc := 425) D rfl fun D =>
    j_ild (pc := 426) D rfl rfl rfl fun D =>
    j_ige (pc := 428) D rfl (fun q D =>
      j_lldn (pc := 431) D rfl rfl rfl fun D =>
      j_aldn (pc := 432) D rfl rfl rfl fun D =>
      j_gfc (pc := 433) (a := 602) D rfl rfl (by decide) rfl (s0_602 H) rfl (sf_435_602 H) fun D =>
      j_ild (pc := 436) D rfl rfl rfl fun D =>
      j_al (pc := 438) (a := 631) (e := 11) D rfl rfl rfl (by decide) (s0_631 H) (s1_631 H) ⟨rfl, rfl, rfl⟩ rfl (gy qb1) fun q D =>
      j_lcmp (pc := 439) D rfl fun D =>
      j_ifle (pc := 440) D rfl (fun q D =>
        j_lld (pc := 443) D rfl rfl rfl fun D =>
        j_aldn (pc := 445) D rfl rfl rfl fun D =>
        j_gfc (pc := 446) (a := 602) D rfl rfl (by decide) rfl (s0_602 H) rfl (sf_436_602 H) fun D =>
        have D : fk_D 615 [(449, none, .iload 8, 2, 0, 0, 0), (451, none, .iconst 1, 1, 0, 1, 0), (452, none, .iadd, 1, 0, 0, 0), (453, none, .laload, 1, 0, 0, 0), (454, none, .aload_n 0, 1, 0, 0, 0), (455, none, .getfield 107, 3, 436, 129, 12), (458, none, .iload 8, 2, 0, 0, 0), (460, none, .laload, 1, 0, 0, 0), (461, none, .lsub, 1, 0, 0, 0), (462, none, .lload_n 3, 1, 0, 0, 0), (463, none, .aload_n 0, 1, 0, 0, 0), (464, none, .getfield 104, 3, 435, 129, 12), (467, none, .iload 8, 2, 0, 0, 0), (469, none, .laload, 1, 0, 0, 0), (470, none, .lsub, 1, 0, 0, 0), (471, none, .lmul, 1, 0, 0, 0), (472, none, .aload_n 0, 1, 0, 0, 0), (473, none, .getfield 104, 3, 435, 129, 12), (476, none, .iload 8, 2, 0, 0, 0), (478, none, .iconst 1, 1, 0, 1, 0)] := fq_of2 cd_615 ow_615 cl_615 rfl (pc := 449) (by decide +kernel)
        j_ild (pc := 449) D rfl rfl rfl fun D =>
        j_ic (pc := 451) D rfl fun D =>
        j_iadd (pc := 452) D rfl fun D =>
        j_al (pc := 453) (a := 632) (e := 11) D rfl rfl rfl (by decide) (s0_632 H) (s1_632 H) ⟨rfl, rfl, rfl⟩ rfl gn fun qb2 D =>
        j_aldn (pc := 454) D rfl rfl rfl fun D =>
        j_gfc (pc := 455) (a := 602) D rfl rfl (by decide) rfl (s0_602 H) rfl (sf_436_602 H) fun D =>
        j_ild (pc := 458) D rfl rfl rfl fun D =>
        j_al (pc := 460) (a := 632) (e := 11) D rfl rfl rfl (by decide) (s0_632 H) (s1_632 H) ⟨rfl, rfl, rfl⟩ rfl (gy qb1) fun q D =>
        j_lsub (pc := 461) D rfl fun D =>
        j_lldn (pc := 462) D rfl rfl rfl fun D =>
        j_aldn (pc := 463) D rfl rfl rfl fun D =>
        j_gfc (pc := 464) (a := 602) D rfl rfl (by decide) rfl (s0_602 H) rfl (sf_435_602 H) fun D =>
        j_ild (pc := 467) D rfl rfl rfl fun D =>
        j_al (pc := 469) (a := 631) (e := 11) D rfl rfl rfl (by decide) (s0_631 H) (s1_631 H) ⟨rfl, rfl, rfl⟩ rfl (gy qb1) fun q D =>
        j_lsub (pc := 470) D rfl fun D =>
        j_lmul (pc := 471) D rfl fun D =>
        j_aldn (pc := 472) D rfl rfl rfl fun D =>
        j_gfc (pc := 473) (a := 602) D rfl rfl (by decide) rfl (s0_602 H) rfl (sf_435_602 H) fun D =>
        j_ild (pc := 476) D rfl rfl rfl fun D =>
        j_ic (pc := 478) D rfl fun D =>
        have D : fk_D 615 [(479, none, .iadd, 1, 0, 0, 0), (480, none, .laload, 1, 0, 0, 0), (481, none, .aload_n 0, 1, 0, 0, 0), (482, none, .getfield 104, 3, 435, 129, 12), (485, none, .iload 8, 2, 0, 0, 0), (487, none, .laload, 1, 0, 0, 0), (488, none, .lsub, 1, 0, 0, 0), (489, none, .invokestatic 957, 3, 2, 603, 2), (492, none, .ladd, 1, 0, 0, 0), (493, none, .lstore 9, 2, 0, 0, 0)] := fq_of2 cd_615 ow_615 cl_615 rfl (pc := 479) (by decide +kernel)
        j_iadd (pc := 479) D rfl fun D =>
        j_al (pc := 480) (a := 631) (e := 11) D rfl rfl rfl (by decide) (s0_631 H) (s1_631 H) ⟨rfl, rfl, rfl⟩ rfl (gy qb2) fun q D =>
        j_aldn (pc := 481) D rfl rfl rfl fun D =>
        j_gfc (pc := 482) (a := 602) D rfl rfl (by decide) rfl (s0_602 H) rfl (sf_435_602 H) fun D =>
        j_ild (pc := 485) D rfl rfl rfl fun D =>
        j_al (pc := 487) (a := 631) (e := 11) D rfl rfl rfl (by decide) (s0_631 H) (s1_631 H) ⟨rfl, rfl, rfl⟩ rfl (gy qb1) fun q D =>
        j_lsub (pc := 488) D rfl fun D =>
        j_is (pc := 489) (m := 603) (a := [(1, wJ ((wJ ((h 11 632 (wI (x8 + 1)).toNat) - (h 11 632 x8.toNat))) * (wJ (x3 - (h 11 631 x8.toNat))))), (1, wJ ((h 11 631 (wI (x8 + 1)).toNat) - (h 11 631 x8.toNat)))]) (rest := [(1, h 11 632 x8.toNat)]) D rfl rfl rfl rfl (fun v4 h3 e1 D =>
          have T := fj_run_ok _ _ _ _ _ _ H.1 e1
          have H := shp_st H T
          j_ladd (pc := 492) D rfl fun D =>
          j_lst (pc := 493) (L' := [(9, (1, wJ ((h 11 632 x8.toNat) + v4))), (0, (4, 602)), (3, (1, x3)), (7, (0, x7)), (8, (0, x8))]) D rfl nl_615 rfl rfl fun D =>
          fk_jump cut_615_495 rfl rfl) (fun q5 h3 e1 =>
          j_tx (hx_615 _))) (fun q =>
        fk_jump cut_615_495 rfl rfl)) (fun q =>
      fk_jump cut_615_495 rfl rfl)
theorem e_615_495 (d : Nat) (x9 : Int) {h : fi_H} (H : Shp h) : c_615_495 d x9 h =
  cv_ (fj_run d 586 h [(4, 602), (1, x9)])
    (fun h1 =>
    some (.inl none, h1))
    (fun q3 h1 => tx_ q3 h1) := by
  unfold c_615_495
  exact
    have D : fk_D 615 [(495, some [0, 9], .aload_n 0, 1, 0, 0, 0), (496, none, .lload 9, 2, 0, 0, 0), (498, none, .invokevirtual 920, 3, 1, 414, 0), (501, none, .return_, 1, 0, 0, 0)] := fq_of2 cd_615 ow_615 cl_615 rfl (pc := 495) (by decide +kernel)
    j_aldn (pc := 495) D rfl rfl rfl fun D =>
    j_lld (pc := 496) D rfl rfl rfl fun D =>
    j_ivv (pc := 498) (m := 586) (dd := 414) (a := [(1, x9)]) (rest := []) D rfl rfl rfl rfl rfl (by decide) (s0_602 H) (by decide +kernel) (fun h1 e1 D =>
      have T := fj_run_ok _ _ _ _ _ _ H.1 e1
      have H := shp_st H T
      j_vret D rt_615) (fun q3 h1 e1 =>
      j_tx (hx_615 _))
theorem m_615 (d : Nat) (x1 x2 : Int) {h : fi_H} (H : Shp h) : fj_run (d + 1) 615 h [(4, 602), (0, x1), (0, x2)] =
  if 0 ≤ x1 ∧ x1 < 9300 then
  cv_ (fj_run d 575 h [(4, 602), (0, h 10 619 x1.toNat)])
    (fun h2 =>
    cv_ (fj_run d 607 h2 [(4, 602), (0, 14), (0, h2 482 602 0), (0, h2 485 602 0), (0, h2 483 602 0)])
      (fun h5 =>
      c_615_39 d x1 x2 (h2 492 602 0) (-1) 0 h5)
      (fun q7 h5 => tx_ q7 h5))
    (fun q4 h2 => tx_ q4 h2)
  else none := by
  rw [fj_run_eq d (by decide) h [(4, 602), (0, x1), (0, x2)] (Nat.le_of_ble_eq_true (by rw [nl_615]; rfl))]
  show gG (fj_run d) 615 0 [(0, (4, 602)), (1, (0, x1)), (2, (0, x2))] [] h = _
  exact
    have D : fk_D 615 [(0, none, .aload_n 0, 1, 0, 0, 0), (1, none, .aload_n 0, 1, 0, 0, 0), (2, none, .getfield 68, 3, 420, 129, 12), (5, none, .iload_n 1, 1, 0, 0, 0), (6, none, .iaload, 1, 0, 0, 0), (7, none, .invokevirtual 913, 3, 1, 412, 0), (10, none, .aload_n 0, 1, 0, 0, 0), (11, none, .getfield 869, 3, 492, 129, 11), (14, none, .lstore_n 3, 1, 0, 0, 0), (15, none, .aload_n 0, 1, 0, 0, 0), (16, none, .bipush 14, 2, 0, 14, 0), (18, none, .aload_n 0, 1, 0, 0, 0), (19, none, .getfield 893, 3, 482, 129, 10), (22, none, .aload_n 0, 1, 0, 0, 0), (23, none, .getfield 866, 3, 485, 129, 10), (26, none, .aload_n 0, 1, 0, 0, 0), (27, none, .getfield 881, 3, 483, 129, 10), (30, none, .invokevirtual 896, 3, 4, 407, 0), (33, none, .iconst (-1), 1, 0, (-1), 0), (34, none, .istore 5, 2, 0, 0, 0)] := fq_of2 cd_615 ow_615 cl_615 rfl (pc := 0) (by decide +kernel)
    j_aldn (pc := 0) D rfl rfl rfl fun D =>
    j_aldn (pc := 1) D rfl rfl rfl fun D =>
    j_gfc (pc := 2) (a := 602) D rfl rfl (by decide) rfl (s0_602 H) rfl (sf_420_602 H) fun D =>
    j_ildn (pc := 5) D rfl rfl rfl fun D =>
    j_al (pc := 6) (a := 619) (e := 10) D rfl rfl rfl (by decide) (s0_619 H) (s1_619 H) ⟨rfl, rfl, rfl⟩ rfl gn fun qb1 D =>
    j_ivv (pc := 7) (m := 575) (dd := 412) (a := [(0, h 10 619 x1.toNat)]) (rest := []) D rfl rfl rfl rfl rfl (by decide) (s0_602 H) (by decide +kernel) (fun h2 e1 D =>
      have T := fj_run_ok _ _ _ _ _ _ H.1 e1
      have H := shp_st H T
      j_aldn (pc := 10) D rfl rfl rfl fun D =>
      j_gf (pc := 11) (a := 602) D rfl rfl (by decide) rfl (s0_602 H) rfl fun D =>
      j_lstn (pc := 14) (L' := [(3, (1, h2 492 602 0)), (0, (4, 602)), (1, (0, x1)), (2, (0, x2))]) D rfl nl_615 rfl rfl fun D =>
      j_aldn (pc := 15) D rfl rfl rfl fun D =>
      j_bp (pc := 16) D rfl fun D =>
      j_aldn (pc := 18) D rfl rfl rfl fun D =>
      j_gf (pc := 19) (a := 602) D rfl rfl (by decide) rfl (s0_602 H) rfl fun D =>
      j_aldn (pc := 22) D rfl rfl rfl fun D =>
      j_gf (pc := 23) (a := 602) D rfl rfl (by decide) rfl (s0_602 H) rfl fun D =>
      j_aldn (pc := 26) D rfl rfl rfl fun D =>
      j_gf (pc := 27) (a := 602) D rfl rfl (by decide) rfl (s0_602 H) rfl fun D =>
      j_ivv (pc := 30) (m := 607) (dd := 407) (a := [(0, 14), (0, h2 482 602 0), (0, h2 485 602 0), (0, h2 483 602 0)]) (rest := []) D rfl rfl rfl rfl rfl (by decide) (s0_602 H) (by decide +kernel) (fun h5 e1 D =>
        have T := fj_run_ok _ _ _ _ _ _ H.1 e1
        have H := shp_st H T
        j_ic (pc := 33) D rfl fun D =>
        j_ist (pc := 34) (L' := [(5, (0, (-1))), (3, (1, h2 492 602 0)), (0, (4, 602)), (1, (0, x1)), (2, (0, x2))]) D rfl nl_615 rfl rfl fun D =>
        have D : fk_D 615 [(36, none, .iconst 0, 1, 0, 0, 0), (37, none, .istore 6, 2, 0, 0, 0)] := fq_of2 cd_615 ow_615 cl_615 rfl (pc := 36) (by decide +kernel)
        j_ic (pc := 36) D rfl fun D =>
        j_ist (pc := 37) (L' := [(6, (0, 0)), (5, (0, (-1))), (3, (1, h2 492 602 0)), (0, (4, 602)), (1, (0, x1)), (2, (0, x2))]) D rfl nl_615 rfl rfl fun D =>
        fk_jump cut_615_39 rfl rfl) (fun q7 h5 e1 =>
        j_tx (hx_615 _))) (fun q4 h2 e1 =>
      j_tx (hx_615 _))
