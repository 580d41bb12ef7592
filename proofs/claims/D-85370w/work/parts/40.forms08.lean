/-! forms of methods 223..250, printed by gen/forms.py -/
set_option maxRecDepth 100000
/-! 223 StatuteHouse$Reader.rule(III)LStatuteHouse$Rule; -/
theorem cd_223 : fi_code 223 = prog_53_method_58_code := rfl
theorem hx_223 : ∀ pc, fi_hat 223 pc = none := fun pc => by unfold fi_hat; rw [show fi_hh 223 = [] from rfl]; rfl
theorem rt_223 : fj_ft (fi_ret 223) = 5 := rfl
theorem nl_223 : fi_nl 223 = 8 := rfl
theorem ow_223 : fi_ow 223 = 15 := rfl
theorem cl_223 : fj_cutT.getD 223 [] = [(110, [0, 1, 2, 3, 4, 5]), (127, [0, 1, 2, 4, 5, 6]), (200, [0, 7])] := rfl
theorem cut_223_110 : fj_cut 223 110 = some [0, 1, 2, 3, 4, 5] := by decide +kernel
noncomputable def c_223_110 (d : Nat) (x1 x2 x3 x4 x5 : Int) (h : fi_H) : fk_R := gG (fj_run d) 223 110 [(0, (4, 377)), (1, (0, x1)), (2, (0, x2)), (3, (0, x3)), (4, (0, x4)), (5, (0, x5))] [] h
theorem cut_223_127 : fj_cut 223 127 = some [0, 1, 2, 4, 5, 6] := by decide +kernel
noncomputable def c_223_127 (d : Nat) (x1 x2 x4 x5 x6 : Int) (h : fi_H) : fk_R := gG (fj_run d) 223 127 [(0, (4, 377)), (1, (0, x1)), (2, (0, x2)), (4, (0, x4)), (5, (0, x5)), (6, (0, x6))] [] h
theorem cut_223_200 : fj_cut 223 200 = some [0, 7] := by decide +kernel
noncomputable def c_223_200 (d : Nat) (x7 : Int) (h : fi_H) : fk_R := gG (fj_run d) 223 200 [(0, (4, 377)), (7, (4, x7))] [] h
theorem e_223_110 (d : Nat) (x1 x2 x3 x4 x5 : Int) {h : fi_H} (H : Shp h) : c_223_110 d x1 x2 x3 x4 x5 h =
  ca_ (fj_run d 229 h [(4, 377)]) 0
    (fun v2 h1 =>
    if x4 = (-1) then
      cv_ (fj_run d 225 h1 [(4, 377), (0, x3)])
        (fun h4 =>
        c_223_127 d x1 x2 x4 x5 v2 h4)
        (fun q6 h4 => tx_ q6 h4)
    else
      c_223_127 d x1 x2 x4 x5 v2 h1)
    (fun q3 h1 => tx_ q3 h1) := by
  unfold c_223_110
  exact
    have D : fk_D 223 [(110, some [0, 1, 2, 3, 4, 5], .aload_n 0, 1, 0, 0, 0), (111, none, .invokevirtual 675, 3, 0, 299, 1), (114, none, .istore 6, 2, 0, 0, 0), (116, none, .iload 4, 2, 0, 0, 0), (118, none, .iconst (-1), 1, 0, (-1), 0), (119, none, .if_icmp .ne 8, 3, 127, 0, 0), (122, none, .aload_n 0, 1, 0, 0, 0), (123, none, .iload_n 3, 1, 0, 0, 0), (124, none, .invokevirtual 645, 3, 1, 294, 0)] := fq_of2 cd_223 ow_223 cl_223 rfl (pc := 110) (by decide +kernel)
    j_aldn (pc := 110) D rfl rfl rfl fun D =>
    j_iv (pc := 111) (m := 229) (dd := 299) (a := []) (rest := []) D rfl rfl rfl rfl rfl (by decide) (s0_377 H) (by decide +kernel) (fun v2 h1 e1 D =>
      have T := fj_run_ok _ _ _ _ _ _ H.1 e1
      have H := shp_st H T
      j_ist (pc := 114) (L' := [(6, (0, v2)), (0, (4, 377)), (1, (0, x1)), (2, (0, x2)), (3, (0, x3)), (4, (0, x4)), (5, (0, x5))]) D rfl nl_223 rfl rfl fun D =>
      j_ild (pc := 116) D rfl rfl rfl fun D =>
      j_ic (pc := 118) D rfl fun D =>
      j_ine (pc := 119) D rfl (fun q D =>
        j_aldn (pc := 122) D rfl rfl rfl fun D =>
        j_ildn (pc := 123) D rfl rfl rfl fun D =>
        j_ivv (pc := 124) (m := 225) (dd := 294) (a := [(0, x3)]) (rest := []) D rfl rfl rfl rfl rfl (by decide) (s0_377 H) (by decide +kernel) (fun h4 e1 D =>
          have T := fj_run_ok _ _ _ _ _ _ H.1 e1
          have H := shp_st H T
          fk_jump cut_223_127 rfl rfl) (fun q6 h4 e1 =>
          j_tx (hx_223 _))) (fun q =>
        fk_jump cut_223_127 rfl rfl)) (fun q3 h1 e1 =>
      j_tx (hx_223 _))
theorem e_223_127 (d : Nat) (x1 x2 x4 x5 x6 : Int) {h : fi_H} (H : Shp h) : c_223_127 d x1 x2 x4 x5 x6 h =
  cv_ (fj_run d 166 h [(4, 377)])
    (fun h1 =>
    cv_ (fj_run d 205 h1 [(4, 377), (4, 219)])
      (fun h4 =>
      ca_ (fj_run d 226 h4 [(4, 377), (0, x1), (0, x2), (0, x6), (0, x4), (0, x5)]) 4
        (fun v8 h7 =>
        if 0 ≤ x6 ∧ x6 < 40 then
        if h7 0 (h7 12 320 x6.toNat).toNat 0 = 124 then
        ca_ (fj_run d 230 h7 [(4, 377), (4, h7 324 (h7 12 320 x6.toNat).toNat 0)]) 4
          (fun v13 h12 =>
          if h12 0 v8.toNat 0 = 117 then
          if 302 < v8 then
          lt_ (fi_upd h12 140 v8.toNat 0 v13) fun h15 =>
          ca_ (fj_run d 162 h15 [(4, 377), (4, 221)]) 0
            (fun v18 h17 =>
            if v18 = 0 then
              c_223_200 d v8 h17
            else
              cv_ (fj_run d 166 h17 [(4, 377)])
                (fun h20 =>
                ca_ (fj_run d 230 h20 [(4, 377), (4, 2)]) 4
                  (fun v24 h23 =>
                  if 302 < v8 then
                  lt_ (fi_upd h23 141 v8.toNat 0 v24) fun h26 =>
                  c_223_200 d v8 h26
                  else none)
                  (fun q25 h23 => tx_ q25 h23))
                (fun q22 h20 => tx_ q22 h20))
            (fun q19 h17 => tx_ q19 h17)
          else none
          else none)
          (fun q14 h12 => tx_ q14 h12)
        else none
        else none)
        (fun q9 h7 => tx_ q9 h7))
      (fun q6 h4 => tx_ q6 h4))
    (fun q3 h1 => tx_ q3 h1) := by
  unfold c_223_127
  exact
    have D : fk_D 223 [(127, some [0, 1, 2, 4, 5, 6], .aload_n 0, 1, 0, 0, 0), (128, none, .invokevirtual 206, 3, 0, 261, 0), (131, none, .aload_n 0, 1, 0, 0, 0), (132, none, .ldc_w 296, 3, 4, 219, 0), (135, none, .invokevirtual 524, 3, 1, 280, 0), (138, none, .aload_n 0, 1, 0, 0, 0), (139, none, .iload_n 1, 1, 0, 0, 0), (140, none, .iload_n 2, 1, 0, 0, 0), (141, none, .iload 6, 2, 0, 0, 0), (143, none, .iload 4, 2, 0, 0, 0), (145, none, .iload 5, 2, 0, 0, 0), (147, none, .invokevirtual 651, 3, 5, 295, 5), (150, none, .astore 7, 2, 0, 0, 0), (152, none, .aload 7, 2, 0, 0, 0), (154, none, .aload_n 0, 1, 0, 0, 0), (155, none, .aload_n 0, 1, 0, 0, 0), (156, none, .getfield 3, 3, 182, 115, 12), (159, none, .getfield 368, 3, 214, 100, 12), (162, none, .iload 6, 2, 0, 0, 0), (164, none, .aaload, 1, 0, 0, 0)] := fq_of2 cd_223 ow_223 cl_223 rfl (pc := 127) (by decide +kernel)
    j_aldn (pc := 127) D rfl rfl rfl fun D =>
    j_ivv (pc := 128) (m := 166) (dd := 261) (a := []) (rest := []) D rfl rfl rfl rfl rfl (by decide) (s0_377 H) (by decide +kernel) (fun h1 e1 D =>
      have T := fj_run_ok _ _ _ _ _ _ H.1 e1
      have H := shp_st H T
      j_aldn (pc := 131) D rfl rfl rfl fun D =>
      j_ldcw (pc := 132) D rfl fun D =>
      j_ivv (pc := 135) (m := 205) (dd := 280) (a := [(4, 219)]) (rest := []) D rfl rfl rfl rfl rfl (by decide) (s0_377 H) (by decide +kernel) (fun h4 e1 D =>
        have T := fj_run_ok _ _ _ _ _ _ H.1 e1
        have H := shp_st H T
        j_aldn (pc := 138) D rfl rfl rfl fun D =>
        j_ildn (pc := 139) D rfl rfl rfl fun D =>
        j_ildn (pc := 140) D rfl rfl rfl fun D =>
        j_ild (pc := 141) D rfl rfl rfl fun D =>
        j_ild (pc := 143) D rfl rfl rfl fun D =>
        j_ild (pc := 145) D rfl rfl rfl fun D =>
        j_iv (pc := 147) (m := 226) (dd := 295) (a := [(0, x1), (0, x2), (0, x6), (0, x4), (0, x5)]) (rest := []) D rfl rfl rfl rfl rfl (by decide) (s0_377 H) (by decide +kernel) (fun v8 h7 e1 D =>
          have T := fj_run_ok _ _ _ _ _ _ H.1 e1
          have H := shp_st H T
          j_ast (pc := 150) (L' := [(7, (4, v8)), (0, (4, 377)), (1, (0, x1)), (2, (0, x2)), (4, (0, x4)), (5, (0, x5)), (6, (0, x6))]) D rfl nl_223 rfl rfl fun D =>
          j_ald (pc := 152) D rfl rfl rfl fun D =>
          j_aldn (pc := 154) D rfl rfl rfl fun D =>
          j_aldn (pc := 155) D rfl rfl rfl fun D =>
          j_gfc (pc := 156) (a := 377) D rfl rfl (by decide) rfl (s0_377 H) rfl (sf_182_377 H) fun D =>
          j_gfc (pc := 159) (a := 303) D rfl rfl (by decide) rfl (s0_303 H) rfl (sf_214_303 H) fun D =>
          j_ild (pc := 162) D rfl rfl rfl fun D =>
          j_al (pc := 164) (a := 320) (e := 12) D rfl rfl rfl (by decide) (s0_320 H) (s1_320 H) ⟨rfl, rfl, rfl⟩ rfl gn fun qb10 D =>
          have D : fk_D 223 [(165, none, .getfield 448, 3, 324, (-124), 12), (168, none, .invokevirtual 678, 3, 1, 300, 5), (171, none, .putfield 682, 3, 140, (-117), 12), (174, none, .aload_n 0, 1, 0, 0, 0), (175, none, .ldc_w 298, 3, 4, 221, 0), (178, none, .invokevirtual 209, 3, 1, 262, 1), (181, none, .ifCond .eq 19, 3, 200, 0, 0), (184, none, .aload_n 0, 1, 0, 0, 0), (185, none, .invokevirtual 206, 3, 0, 261, 0), (188, none, .aload 7, 2, 0, 0, 0), (190, none, .aload_n 0, 1, 0, 0, 0), (191, none, .getstatic 439, 3, 4, 2, 0), (194, none, .invokevirtual 678, 3, 1, 300, 5), (197, none, .putfield 686, 3, 141, 117, 12)] := fq_of2 cd_223 ow_223 cl_223 rfl (pc := 165) (by decide +kernel)
          j_gfo (pc := 165) H.2.1 D rfl rfl rfl rfl fun kc11 D =>
          j_iv (pc := 168) (m := 230) (dd := 300) (a := [(4, h7 324 (h7 12 320 x6.toNat).toNat 0)]) (rest := [(4, v8)]) D rfl rfl rfl rfl rfl (by decide) (s0_377 H) (by decide +kernel) (fun v13 h12 e1 D =>
            have T := fj_run_ok _ _ _ _ _ _ H.1 e1
            have H := shp_st H T
            j_pfo (pc := 171) D rfl rfl rfl rfl rfl gn gn (gy rfl) fun h15 eh15 S kc16 D =>
            have T := fj_hs_ok H.1 S
            have kc16 := cls_st H.1 T.2 kc16 (by decide)
            have H := shp_st H T
            j_aldn (pc := 174) D rfl rfl rfl fun D =>
            j_ldcw (pc := 175) D rfl fun D =>
            j_iv (pc := 178) (m := 162) (dd := 262) (a := [(4, 221)]) (rest := []) D rfl rfl rfl rfl rfl (by decide) (s0_377 H) (by decide +kernel) (fun v18 h17 e1 D =>
              have T := fj_run_ok _ _ _ _ _ _ H.1 e1
              have kc16 := cls_st H.1 T.2 kc16 (by decide)
              have H := shp_st H T
              j_ifeq (pc := 181) D rfl (fun q =>
                fk_jump cut_223_200 rfl rfl) (fun q D =>
                j_aldn (pc := 184) D rfl rfl rfl fun D =>
                j_ivv (pc := 185) (m := 166) (dd := 261) (a := []) (rest := []) D rfl rfl rfl rfl rfl (by decide) (s0_377 H) (by decide +kernel) (fun h20 e1 D =>
                  have T := fj_run_ok _ _ _ _ _ _ H.1 e1
                  have kc16 := cls_st H.1 T.2 kc16 (by decide)
                  have H := shp_st H T
                  j_ald (pc := 188) D rfl rfl rfl fun D =>
                  j_aldn (pc := 190) D rfl rfl rfl fun D =>
                  j_gs (pc := 191) D rfl fun D =>
                  j_iv (pc := 194) (m := 230) (dd := 300) (a := [(4, 2)]) (rest := [(4, v8)]) D rfl rfl rfl rfl rfl (by decide) (s0_377 H) (by decide +kernel) (fun v24 h23 e1 D =>
                    have T := fj_run_ok _ _ _ _ _ _ H.1 e1
                    have kc16 := cls_st H.1 T.2 kc16 (by decide)
                    have H := shp_st H T
                    j_pf (pc := 197) (a := v8.toNat) D rfl rfl rfl kc16 rfl rfl gn (gy rfl) fun h26 eh26 S D =>
                    have T := fj_hs_ok H.1 S
                    have kc16 := cls_st H.1 T.2 kc16 (by decide)
                    have H := shp_st H T
                    fk_jump cut_223_200 rfl rfl) (fun q25 h23 e1 =>
                    j_tx (hx_223 _))) (fun q22 h20 e1 =>
                  j_tx (hx_223 _)))) (fun q19 h17 e1 =>
              j_tx (hx_223 _))) (fun q14 h12 e1 =>
            j_tx (hx_223 _))) (fun q9 h7 e1 =>
          j_tx (hx_223 _))) (fun q6 h4 e1 =>
        j_tx (hx_223 _))) (fun q3 h1 e1 =>
      j_tx (hx_223 _))
theorem e_223_200 (d : Nat) (x7 : Int) {h : fi_H} (H : Shp h) : c_223_200 d x7 h =
  cv_ (fj_run d 182 h [(4, 377), (0, 59)])
    (fun h1 =>
    some (.inl (some (4, x7)), h1))
    (fun q3 h1 => tx_ q3 h1) := by
  unfold c_223_200
  exact
    have D : fk_D 223 [(200, some [0, 7], .aload_n 0, 1, 0, 0, 0), (201, none, .bipush 59, 2, 0, 59, 0), (203, none, .invokevirtual 216, 3, 1, 264, 0), (206, none, .aload 7, 2, 0, 0, 0), (208, none, .areturn, 1, 0, 0, 0)] := fq_of2 cd_223 ow_223 cl_223 rfl (pc := 200) (by decide +kernel)
    j_aldn (pc := 200) D rfl rfl rfl fun D =>
    j_bp (pc := 201) D rfl fun D =>
    j_ivv (pc := 203) (m := 182) (dd := 264) (a := [(0, 59)]) (rest := []) D rfl rfl rfl rfl rfl (by decide) (s0_377 H) (by decide +kernel) (fun h1 e1 D =>
      have T := fj_run_ok _ _ _ _ _ _ H.1 e1
      have H := shp_st H T
      j_ald (pc := 206) D rfl rfl rfl fun D =>
      j_aret D rt_223) (fun q3 h1 e1 =>
      j_tx (hx_223 _))
theorem m_223 (d : Nat) (x1 x2 x3 : Int) {h : fi_H} (H : Shp h) : fj_run (d + 1) 223 h [(4, 377), (0, x1), (0, x2), (0, x3)] =
  ca_ (fj_run d 162 h [(4, 377), (4, 245)]) 0
    (fun v2 h1 =>
    if v2 = 0 then
      ca_ (fj_run d 162 h1 [(4, 377), (4, 169)]) 0
        (fun v5 h4 =>
        if v5 = 0 then
          ca_ (fj_run d 162 h4 [(4, 377), (4, 217)]) 0
            (fun v8 h7 =>
            if v8 = 0 then
              c_223_110 d x1 x2 x3 (-1) 0 h7
            else
              cv_ (fj_run d 225 h7 [(4, 377), (0, x3)])
                (fun h10 =>
                cv_ (fj_run d 166 h10 [(4, 377)])
                  (fun h13 =>
                  ca_ (fj_run d 219 h13 [(4, 377)]) 0
                    (fun v17 h16 =>
                    cv_ (fj_run d 182 h16 [(4, 377), (0, 47)])
                      (fun h19 =>
                      ca_ (fj_run d 188 h19 [(4, 377), (0, 1), (0, 99)]) 0
                        (fun v23 h22 =>
                        cv_ (fj_run d 182 h22 [(4, 377), (0, 58)])
                          (fun h25 =>
                          c_223_110 d x1 x2 x3 v17 v23 h25)
                          (fun q27 h25 => tx_ q27 h25))
                        (fun q24 h22 => tx_ q24 h22))
                      (fun q21 h19 => tx_ q21 h19))
                    (fun q18 h16 => tx_ q18 h16))
                  (fun q15 h13 => tx_ q15 h13))
                (fun q12 h10 => tx_ q12 h10))
            (fun q9 h7 => tx_ q9 h7)
        else
          ca_ (fj_run d 224 h4 [(4, 377), (0, x1), (0, x2), (0, x3)]) 4
            (fun v29 h28 =>
            some (.inl (some (4, v29)), h28))
            (fun q30 h28 => tx_ q30 h28))
        (fun q6 h4 => tx_ q6 h4)
    else
      if x3 = 40 then
        ca_ (fj_run d 164 h1 [(4, 377), (0, 4)]) 4
          (fun v32 h31 =>
          if v32 ≠ 0 then
          tx_ v32.toNat h31
          else none)
          (fun q33 h31 => tx_ q33 h31)
      else
        cv_ (fj_run d 166 h1 [(4, 377)])
          (fun h34 =>
          cv_ (fj_run d 182 h34 [(4, 377), (0, 59)])
            (fun h37 =>
            some (.inl (some (4, 356)), h37))
            (fun q39 h37 => tx_ q39 h37))
          (fun q36 h34 => tx_ q36 h34))
    (fun q3 h1 => tx_ q3 h1) := by
  rw [fj_run_eq d (by decide) h [(4, 377), (0, x1), (0, x2), (0, x3)] (Nat.le_of_ble_eq_true (by rw [nl_223]; rfl))]
  show gG (fj_run d) 223 0 [(0, (4, 377)), (1, (0, x1)), (2, (0, x2)), (3, (0, x3))] [] h = _
  exact
    have D : fk_D 223 [(0, none, .aload_n 0, 1, 0, 0, 0), (1, none, .ldc_w 334, 3, 4, 245, 0), (4, none, .invokevirtual 209, 3, 1, 262, 1), (7, none, .ifCond .eq 33, 3, 40, 0, 0), (10, none, .iload_n 3, 1, 0, 0, 0), (11, none, .bipush 40, 2, 0, 40, 0), (13, none, .if_icmp .ne 9, 3, 22, 0, 0), (16, none, .aload_n 0, 1, 0, 0, 0), (17, none, .iconst 4, 1, 0, 4, 0), (18, none, .invokevirtual 190, 3, 1, 258, 5), (21, none, .athrow, 1, 0, 0, 0)] := fq_of2 cd_223 ow_223 cl_223 rfl (pc := 0) (by decide +kernel)
    j_aldn (pc := 0) D rfl rfl rfl fun D =>
    j_ldcw (pc := 1) D rfl fun D =>
    j_iv (pc := 4) (m := 162) (dd := 262) (a := [(4, 245)]) (rest := []) D rfl rfl rfl rfl rfl (by decide) (s0_377 H) (by decide +kernel) (fun v2 h1 e1 D =>
      have T := fj_run_ok _ _ _ _ _ _ H.1 e1
      have H := shp_st H T
      j_ifeq (pc := 7) D rfl (fun q =>
        have D : fk_D 223 [(40, none, .aload_n 0, 1, 0, 0, 0), (41, none, .ldc_w 330, 3, 4, 169, 0), (44, none, .invokevirtual 209, 3, 1, 262, 1), (47, none, .ifCond .eq 11, 3, 58, 0, 0), (50, none, .aload_n 0, 1, 0, 0, 0), (51, none, .iload_n 1, 1, 0, 0, 0), (52, none, .iload_n 2, 1, 0, 0, 0), (53, none, .iload_n 3, 1, 0, 0, 0), (54, none, .invokevirtual 673, 3, 3, 298, 5), (57, none, .areturn, 1, 0, 0, 0)] := fq_of2 cd_223 ow_223 cl_223 rfl (pc := 40) (by decide +kernel)
        j_aldn (pc := 40) D rfl rfl rfl fun D =>
        j_ldcw (pc := 41) D rfl fun D =>
        j_iv (pc := 44) (m := 162) (dd := 262) (a := [(4, 169)]) (rest := []) D rfl rfl rfl rfl rfl (by decide) (s0_377 H) (by decide +kernel) (fun v5 h4 e1 D =>
          have T := fj_run_ok _ _ _ _ _ _ H.1 e1
          have H := shp_st H T
          j_ifeq (pc := 47) D rfl (fun q =>
            have D : fk_D 223 [(58, none, .iconst (-1), 1, 0, (-1), 0), (59, none, .istore 4, 2, 0, 0, 0), (61, none, .iconst 0, 1, 0, 0, 0), (62, none, .istore 5, 2, 0, 0, 0), (64, none, .aload_n 0, 1, 0, 0, 0), (65, none, .ldc_w 294, 3, 4, 217, 0), (68, none, .invokevirtual 209, 3, 1, 262, 1), (71, none, .ifCond .eq 39, 3, 110, 0, 0), (74, none, .aload_n 0, 1, 0, 0, 0), (75, none, .iload_n 3, 1, 0, 0, 0), (76, none, .invokevirtual 645, 3, 1, 294, 0), (79, none, .aload_n 0, 1, 0, 0, 0), (80, none, .invokevirtual 206, 3, 0, 261, 0), (83, none, .aload_n 0, 1, 0, 0, 0), (84, none, .invokevirtual 613, 3, 0, 290, 1), (87, none, .istore 4, 2, 0, 0, 0), (89, none, .aload_n 0, 1, 0, 0, 0), (90, none, .bipush 47, 2, 0, 47, 0), (92, none, .invokevirtual 216, 3, 1, 264, 0), (95, none, .aload_n 0, 1, 0, 0, 0)] := fq_of2 cd_223 ow_223 cl_223 rfl (pc := 58) (by decide +kernel)
            j_ic (pc := 58) D rfl fun D =>
            j_ist (pc := 59) (L' := [(4, (0, (-1))), (0, (4, 377)), (1, (0, x1)), (2, (0, x2)), (3, (0, x3))]) D rfl nl_223 rfl rfl fun D =>
            j_ic (pc := 61) D rfl fun D =>
            j_ist (pc := 62) (L' := [(5, (0, 0)), (4, (0, (-1))), (0, (4, 377)), (1, (0, x1)), (2, (0, x2)), (3, (0, x3))]) D rfl nl_223 rfl rfl fun D =>
            j_aldn (pc := 64) D rfl rfl rfl fun D =>
            j_ldcw (pc := 65) D rfl fun D =>
            j_iv (pc := 68) (m := 162) (dd := 262) (a := [(4, 217)]) (rest := []) D rfl rfl rfl rfl rfl (by decide) (s0_377 H) (by decide +kernel) (fun v8 h7 e1 D =>
              have T := fj_run_ok _ _ _ _ _ _ H.1 e1
              have H := shp_st H T
              j_ifeq (pc := 71) D rfl (fun q =>
                fk_jump cut_223_110 rfl rfl) (fun q D =>
                j_aldn (pc := 74) D rfl rfl rfl fun D =>
                j_ildn (pc := 75) D rfl rfl rfl fun D =>
                j_ivv (pc := 76) (m := 225) (dd := 294) (a := [(0, x3)]) (rest := []) D rfl rfl rfl rfl rfl (by decide) (s0_377 H) (by decide +kernel) (fun h10 e1 D =>
                  have T := fj_run_ok _ _ _ _ _ _ H.1 e1
                  have H := shp_st H T
                  j_aldn (pc := 79) D rfl rfl rfl fun D =>
                  j_ivv (pc := 80) (m := 166) (dd := 261) (a := []) (rest := []) D rfl rfl rfl rfl rfl (by decide) (s0_377 H) (by decide +kernel) (fun h13 e1 D =>
                    have T := fj_run_ok _ _ _ _ _ _ H.1 e1
                    have H := shp_st H T
                    j_aldn (pc := 83) D rfl rfl rfl fun D =>
                    j_iv (pc := 84) (m := 219) (dd := 290) (a := []) (rest := []) D rfl rfl rfl rfl rfl (by decide) (s0_377 H) (by decide +kernel) (fun v17 h16 e1 D =>
                      have T := fj_run_ok _ _ _ _ _ _ H.1 e1
                      have H := shp_st H T
                      j_ist (pc := 87) (L' := [(4, (0, v17)), (5, (0, 0)), (0, (4, 377)), (1, (0, x1)), (2, (0, x2)), (3, (0, x3))]) D rfl nl_223 rfl rfl fun D =>
                      j_aldn (pc := 89) D rfl rfl rfl fun D =>
                      j_bp (pc := 90) D rfl fun D =>
                      j_ivv (pc := 92) (m := 182) (dd := 264) (a := [(0, 47)]) (rest := []) D rfl rfl rfl rfl rfl (by decide) (s0_377 H) (by decide +kernel) (fun h19 e1 D =>
                        have T := fj_run_ok _ _ _ _ _ _ H.1 e1
                        have H := shp_st H T
                        j_aldn (pc := 95) D rfl rfl rfl fun D =>
                        have D : fk_D 223 [(96, none, .iconst 1, 1, 0, 1, 0), (97, none, .bipush 99, 2, 0, 99, 0), (99, none, .invokevirtual 508, 3, 2, 277, 1), (102, none, .istore 5, 2, 0, 0, 0), (104, none, .aload_n 0, 1, 0, 0, 0), (105, none, .bipush 58, 2, 0, 58, 0), (107, none, .invokevirtual 216, 3, 1, 264, 0)] := fq_of2 cd_223 ow_223 cl_223 rfl (pc := 96) (by decide +kernel)
                        j_ic (pc := 96) D rfl fun D =>
                        j_bp (pc := 97) D rfl fun D =>
                        j_iv (pc := 99) (m := 188) (dd := 277) (a := [(0, 1), (0, 99)]) (rest := []) D rfl rfl rfl rfl rfl (by decide) (s0_377 H) (by decide +kernel) (fun v23 h22 e1 D =>
                          have T := fj_run_ok _ _ _ _ _ _ H.1 e1
                          have H := shp_st H T
                          j_ist (pc := 102) (L' := [(5, (0, v23)), (4, (0, v17)), (0, (4, 377)), (1, (0, x1)), (2, (0, x2)), (3, (0, x3))]) D rfl nl_223 rfl rfl fun D =>
                          j_aldn (pc := 104) D rfl rfl rfl fun D =>
                          j_bp (pc := 105) D rfl fun D =>
                          j_ivv (pc := 107) (m := 182) (dd := 264) (a := [(0, 58)]) (rest := []) D rfl rfl rfl rfl rfl (by decide) (s0_377 H) (by decide +kernel) (fun h25 e1 D =>
                            have T := fj_run_ok _ _ _ _ _ _ H.1 e1
                            have H := shp_st H T
                            fk_jump cut_223_110 rfl rfl) (fun q27 h25 e1 =>
                            j_tx (hx_223 _))) (fun q24 h22 e1 =>
                          j_tx (hx_223 _))) (fun q21 h19 e1 =>
                        j_tx (hx_223 _))) (fun q18 h16 e1 =>
                      j_tx (hx_223 _))) (fun q15 h13 e1 =>
                    j_tx (hx_223 _))) (fun q12 h10 e1 =>
                  j_tx (hx_223 _)))) (fun q9 h7 e1 =>
              j_tx (hx_223 _))) (fun q D =>
            j_aldn (pc := 50) D rfl rfl rfl fun D =>
            j_ildn (pc := 51) D rfl rfl rfl fun D =>
            j_ildn (pc := 52) D rfl rfl rfl fun D =>
            j_ildn (pc := 53) D rfl rfl rfl fun D =>
            j_iv (pc := 54) (m := 224) (dd := 298) (a := [(0, x1), (0, x2), (0, x3)]) (rest := []) D rfl rfl rfl rfl rfl (by decide) (s0_377 H) (by decide +kernel) (fun v29 h28 e1 D =>
              have T := fj_run_ok _ _ _ _ _ _ H.1 e1
              have H := shp_st H T
              j_aret D rt_223) (fun q30 h28 e1 =>
              j_tx (hx_223 _)))) (fun q6 h4 e1 =>
          j_tx (hx_223 _))) (fun q D =>
        j_ildn (pc := 10) D rfl rfl rfl fun D =>
        j_bp (pc := 11) D rfl fun D =>
        j_ine (pc := 13) D rfl (fun q D =>
          j_aldn (pc := 16) D rfl rfl rfl fun D =>
          j_ic (pc := 17) D rfl fun D =>
          j_iv (pc := 18) (m := 164) (dd := 258) (a := [(0, 4)]) (rest := []) D rfl rfl rfl rfl rfl (by decide) (s0_377 H) (by decide +kernel) (fun v32 h31 e1 D =>
            have T := fj_run_ok _ _ _ _ _ _ H.1 e1
            have H := shp_st H T
            j_at (pc := 21) D gn <|
            j_tx (hx_223 _)) (fun q33 h31 e1 =>
            j_tx (hx_223 _))) (fun q =>
          have D : fk_D 223 [(22, none, .aload_n 0, 1, 0, 0, 0), (23, none, .invokevirtual 206, 3, 0, 261, 0), (26, none, .aload_n 0, 1, 0, 0, 0), (27, none, .bipush 59, 2, 0, 59, 0), (29, none, .invokevirtual 216, 3, 1, 264, 0), (32, none, .aload_n 0, 1, 0, 0, 0), (33, none, .getfield 3, 3, 182, 115, 12), (36, none, .getfield 599, 3, 234, 100, 12), (39, none, .areturn, 1, 0, 0, 0)] := fq_of2 cd_223 ow_223 cl_223 rfl (pc := 22) (by decide +kernel)
          j_aldn (pc := 22) D rfl rfl rfl fun D =>
          j_ivv (pc := 23) (m := 166) (dd := 261) (a := []) (rest := []) D rfl rfl rfl rfl rfl (by decide) (s0_377 H) (by decide +kernel) (fun h34 e1 D =>
            have T := fj_run_ok _ _ _ _ _ _ H.1 e1
            have H := shp_st H T
            j_aldn (pc := 26) D rfl rfl rfl fun D =>
            j_bp (pc := 27) D rfl fun D =>
            j_ivv (pc := 29) (m := 182) (dd := 264) (a := [(0, 59)]) (rest := []) D rfl rfl rfl rfl rfl (by decide) (s0_377 H) (by decide +kernel) (fun h37 e1 D =>
              have T := fj_run_ok _ _ _ _ _ _ H.1 e1
              have H := shp_st H T
              j_aldn (pc := 32) D rfl rfl rfl fun D =>
              j_gfc (pc := 33) (a := 377) D rfl rfl (by decide) rfl (s0_377 H) rfl (sf_182_377 H) fun D =>
              j_gfc (pc := 36) (a := 303) D rfl rfl (by decide) rfl (s0_303 H) rfl (sf_234_303 H) fun D =>
              j_aret D rt_223) (fun q39 h37 e1 =>
              j_tx (hx_223 _))) (fun q36 h34 e1 =>
            j_tx (hx_223 _))))) (fun q3 h1 e1 =>
      j_tx (hx_223 _))
/-! 224 StatuteHouse$Reader.table(III)LStatuteHouse$Rule; -/
theorem cd_224 : fi_code 224 = prog_53_method_55_code := rfl
theorem hx_224 : ∀ pc, fi_hat 224 pc = none := fun pc => by unfold fi_hat; rw [show fi_hh 224 = [] from rfl]; rfl
theorem rt_224 : fj_ft (fi_ret 224) = 5 := rfl
theorem nl_224 : fi_nl 224 = 8 := rfl
theorem ow_224 : fi_ow 224 = 15 := rfl
theorem cl_224 : fj_cutT.getD 224 [] = [(62, [0, 4, 5, 6]), (127, [0, 5, 6, 7])] := rfl
theorem cut_224_62 : fj_cut 224 62 = some [0, 4, 5, 6] := by decide +kernel
noncomputable def c_224_62 (d : Nat) (x4 x5 x6 : Int) (h : fi_H) : fk_R := gG (fj_run d) 224 62 [(0, (4, 377)), (4, (0, x4)), (5, (4, x5)), (6, (0, x6))] [] h
theorem cut_224_127 : fj_cut 224 127 = some [0, 5, 6, 7] := by decide +kernel
noncomputable def c_224_127 (d : Nat) (x5 x6 x7 : Int) (h : fi_H) : fk_R := gG (fj_run d) 224 127 [(0, (4, 377)), (5, (4, x5)), (6, (0, x6)), (7, (0, x7))] [] h
theorem e_224_62 (d : Nat) (x4 x5 x6 : Int) {h : fi_H} (H : Shp h) : c_224_62 d x4 x5 x6 h =
  if 0 ≤ x4 ∧ x4 < 40 then
  if h 0 (h 12 320 x4.toNat).toNat 0 = 124 then
  cv_ (fj_run d 227 h [(4, 377), (4, h 324 (h 12 320 x4.toNat).toNat 0), (0, x6)])
    (fun h3 =>
    ca_ (fj_run d 183 h3 [(4, 377), (0, 125)]) 0
      (fun v7 h6 =>
      if v7 = 0 then
        c_224_62 d x4 x5 (wI (x6 + 1)) h6
      else
        cv_ (fj_run d 166 h6 [(4, 377)])
          (fun h9 =>
          if 0 ≤ wI (x6 + 1) ∧ wI (x6 + 1) < 64 then
          nw_ h9 10 (wI (x6 + 1)) (wI (x6 + 1)) fun r12 h13 =>
          if h13 0 x5.toNat 0 = 117 then
          if 302 < x5 then
          lt_ (fi_upd h13 142 x5.toNat 0 r12) fun h14 =>
          if 0 ≤ wI (x6 + 1) ∧ wI (x6 + 1) < 64 then
          nw_ h14 10 (wI (x6 + 1)) (wI (x6 + 1)) fun r16 h17 =>
          if 302 < x5 then
          lt_ (fi_upd h17 143 x5.toNat 0 r16) fun h18 =>
          if 0 ≤ wI (x6 + 1) ∧ wI (x6 + 1) < 64 then
          nw_ h18 10 (wI (x6 + 1)) (wI (x6 + 1)) fun r19 h20 =>
          if 302 < x5 then
          lt_ (fi_upd h20 144 x5.toNat 0 r19) fun h21 =>
          c_224_127 d x5 (wI (x6 + 1)) 0 h21
          else none
          else none
          else none
          else none
          else none
          else none
          else none)
          (fun q11 h9 => tx_ q11 h9))
      (fun q8 h6 => tx_ q8 h6))
    (fun q5 h3 => tx_ q5 h3)
  else none
  else none := by
  unfold c_224_62
  exact
    have D : fk_D 224 [(62, some [0, 4, 5, 6], .aload_n 0, 1, 0, 0, 0), (63, none, .aload_n 0, 1, 0, 0, 0), (64, none, .getfield 3, 3, 182, 115, 12), (67, none, .getfield 368, 3, 214, 100, 12), (70, none, .iload 4, 2, 0, 0, 0), (72, none, .aaload, 1, 0, 0, 0), (73, none, .getfield 448, 3, 324, (-124), 12), (76, none, .iload 6, 2, 0, 0, 0), (78, none, .invokevirtual 655, 3, 2, 296, 0), (81, none, .iinc 6 1, 3, 0, 1, 0), (84, none, .aload_n 0, 1, 0, 0, 0), (85, none, .bipush 125, 2, 0, 125, 0), (87, none, .invokevirtual 202, 3, 1, 260, 1), (90, none, .ifCond .eq (-28), 3, 62, 0, 0), (93, none, .aload_n 0, 1, 0, 0, 0), (94, none, .invokevirtual 206, 3, 0, 261, 0), (97, none, .aload 5, 2, 0, 0, 0), (99, none, .iload 6, 2, 0, 0, 0), (101, none, .newarray .int, 2, 0, 0, 0), (103, none, .putfield 658, 3, 142, (-117), 12)] := fq_of2 cd_224 ow_224 cl_224 rfl (pc := 62) (by decide +kernel)
    j_aldn (pc := 62) D rfl rfl rfl fun D =>
    j_aldn (pc := 63) D rfl rfl rfl fun D =>
    j_gfc (pc := 64) (a := 377) D rfl rfl (by decide) rfl (s0_377 H) rfl (sf_182_377 H) fun D =>
    j_gfc (pc := 67) (a := 303) D rfl rfl (by decide) rfl (s0_303 H) rfl (sf_214_303 H) fun D =>
    j_ild (pc := 70) D rfl rfl rfl fun D =>
    j_al (pc := 72) (a := 320) (e := 12) D rfl rfl rfl (by decide) (s0_320 H) (s1_320 H) ⟨rfl, rfl, rfl⟩ rfl gn fun qb1 D =>
    j_gfo (pc := 73) H.2.1 D rfl rfl rfl rfl fun kc2 D =>
    j_ild (pc := 76) D rfl rfl rfl fun D =>
    j_ivv (pc := 78) (m := 227) (dd := 296) (a := [(4, h 324 (h 12 320 x4.toNat).toNat 0), (0, x6)]) (rest := []) D rfl rfl rfl rfl rfl (by decide) (s0_377 H) (by decide +kernel) (fun h3 e1 D =>
      have T := fj_run_ok _ _ _ _ _ _ H.1 e1
      have H := shp_st H T
      j_inc (pc := 81) (L' := [(6, (0, wI (x6 + 1))), (0, (4, 377)), (4, (0, x4)), (5, (4, x5))]) D rfl rfl rfl (by decide +kernel) rfl fun D =>
      j_aldn (pc := 84) D rfl rfl rfl fun D =>
      j_bp (pc := 85) D rfl fun D =>
      j_iv (pc := 87) (m := 183) (dd := 260) (a := [(0, 125)]) (rest := []) D rfl rfl rfl rfl rfl (by decide) (s0_377 H) (by decide +kernel) (fun v7 h6 e1 D =>
        have T := fj_run_ok _ _ _ _ _ _ H.1 e1
        have H := shp_st H T
        j_ifeq (pc := 90) D rfl (fun q =>
          fk_jump cut_224_62 rfl rfl) (fun q D =>
          j_aldn (pc := 93) D rfl rfl rfl fun D =>
          j_ivv (pc := 94) (m := 166) (dd := 261) (a := []) (rest := []) D rfl rfl rfl rfl rfl (by decide) (s0_377 H) (by decide +kernel) (fun h9 e1 D =>
            have T := fj_run_ok _ _ _ _ _ _ H.1 e1
            have H := shp_st H T
            j_ald (pc := 97) D rfl rfl rfl fun D =>
            j_ild (pc := 99) D rfl rfl rfl fun D =>
            j_na (pc := 101) (k := 10) (N := 64) D rfl rfl rfl gn fun r12 h13 er eh13 S q D =>
            have gt_r12 := nw_gt H.1 er
            have kc_r12 := nw_cls H.1 er eh13
            have kl_r12 := nw_len H.1 er eh13
            have T := fj_hs_ok H.1 S
            have H := shp_st H T
            j_pfo (pc := 103) D rfl rfl rfl rfl rfl gn gn (gy rfl) fun h14 eh14 S kc15 D =>
            have T := fj_hs_ok H.1 S
            have kc15 := cls_st H.1 T.2 kc15 (by decide)
            have H := shp_st H T
            have D : fk_D 224 [(106, none, .aload 5, 2, 0, 0, 0), (108, none, .iload 6, 2, 0, 0, 0), (110, none, .newarray .int, 2, 0, 0, 0), (112, none, .putfield 661, 3, 143, 117, 12), (115, none, .aload 5, 2, 0, 0, 0), (117, none, .iload 6, 2, 0, 0, 0), (119, none, .newarray .int, 2, 0, 0, 0), (121, none, .putfield 663, 3, 144, 117, 12), (124, none, .iconst 0, 1, 0, 0, 0), (125, none, .istore 7, 2, 0, 0, 0)] := fq_of2 cd_224 ow_224 cl_224 rfl (pc := 106) (by decide +kernel)
            j_ald (pc := 106) D rfl rfl rfl fun D =>
            j_ild (pc := 108) D rfl rfl rfl fun D =>
            j_na (pc := 110) (k := 10) (N := 64) D rfl rfl rfl gn fun r16 h17 er eh17 S q D =>
            have gt_r16 := nw_gt H.1 er
            have kc_r16 := nw_cls H.1 er eh17
            have kl_r16 := nw_len H.1 er eh17
            have T := fj_hs_ok H.1 S
            have kc15 := cls_st H.1 T.2 kc15 (by decide)
            have H := shp_st H T
            j_pf (pc := 112) (a := x5.toNat) D rfl rfl rfl kc15 rfl rfl gn (gy rfl) fun h18 eh18 S D =>
            have T := fj_hs_ok H.1 S
            have kc15 := cls_st H.1 T.2 kc15 (by decide)
            have H := shp_st H T
            j_ald (pc := 115) D rfl rfl rfl fun D =>
            j_ild (pc := 117) D rfl rfl rfl fun D =>
            j_na (pc := 119) (k := 10) (N := 64) D rfl rfl rfl gn fun r19 h20 er eh20 S q D =>
            have gt_r19 := nw_gt H.1 er
            have kc_r19 := nw_cls H.1 er eh20
            have kl_r19 := nw_len H.1 er eh20
            have T := fj_hs_ok H.1 S
            have kc15 := cls_st H.1 T.2 kc15 (by decide)
            have H := shp_st H T
            j_pf (pc := 121) (a := x5.toNat) D rfl rfl rfl kc15 rfl rfl gn (gy rfl) fun h21 eh21 S D =>
            have T := fj_hs_ok H.1 S
            have kc15 := cls_st H.1 T.2 kc15 (by decide)
            have H := shp_st H T
            j_ic (pc := 124) D rfl fun D =>
            j_ist (pc := 125) (L' := [(7, (0, 0)), (6, (0, wI (x6 + 1))), (0, (4, 377)), (4, (0, x4)), (5, (4, x5))]) D rfl nl_224 rfl rfl fun D =>
            fk_jump cut_224_127 rfl rfl) (fun q11 h9 e1 =>
            j_tx (hx_224 _)))) (fun q8 h6 e1 =>
        j_tx (hx_224 _))) (fun q5 h3 e1 =>
      j_tx (hx_224 _))
theorem e_224_127 (d : Nat) (x5 x6 x7 : Int) {h : fi_H} (H : Shp h) : c_224_127 d x5 x6 x7 h =
  if x7 < x6 then
    if h 0 x5.toNat 0 = 117 then
    if 0 ≤ x7 ∧ x7 < 20 then
    if 302 < h 142 x5.toNat 0 ∧ h 0 (h 142 x5.toNat 0).toNat 0 = 10 then
    if 0 ≤ x7 ∧ x7 < h 1 (h 142 x5.toNat 0).toNat 0 then
    lt_ (fi_upd h 10 (h 142 x5.toNat 0).toNat x7.toNat (h 10 396 x7.toNat)) fun h3 =>
    if 302 < h3 143 x5.toNat 0 ∧ h3 0 (h3 143 x5.toNat 0).toNat 0 = 10 then
    if 0 ≤ x7 ∧ x7 < h3 1 (h3 143 x5.toNat 0).toNat 0 then
    lt_ (fi_upd h3 10 (h3 143 x5.toNat 0).toNat x7.toNat (h3 10 397 x7.toNat)) fun h4 =>
    if 302 < h4 144 x5.toNat 0 ∧ h4 0 (h4 144 x5.toNat 0).toNat 0 = 10 then
    if 0 ≤ x7 ∧ x7 < h4 1 (h4 144 x5.toNat 0).toNat 0 then
    lt_ (fi_upd h4 10 (h4 144 x5.toNat 0).toNat x7.toNat (h4 10 398 x7.toNat)) fun h5 =>
    c_224_127 d x5 x6 (wI (x7 + 1)) h5
    else none
    else none
    else none
    else none
    else none
    else none
    else none
    else none
  else
    some (.inl (some (4, x5)), h) := by
  unfold c_224_127
  exact
    have D : fk_D 224 [(127, some [0, 5, 6, 7], .iload 7, 2, 0, 0, 0), (129, none, .iload 6, 2, 0, 0, 0), (131, none, .if_icmp .ge 54, 3, 185, 0, 0), (134, none, .aload 5, 2, 0, 0, 0), (136, none, .getfield 658, 3, 142, (-117), 12), (139, none, .iload 7, 2, 0, 0, 0), (141, none, .aload_n 0, 1, 0, 0, 0), (142, none, .getfield 85, 3, 179, 115, 12), (145, none, .iload 7, 2, 0, 0, 0), (147, none, .iaload, 1, 0, 0, 0), (148, none, .iastore, 1, 0, 0, 0), (149, none, .aload 5, 2, 0, 0, 0), (151, none, .getfield 661, 3, 143, 117, 12), (154, none, .iload 7, 2, 0, 0, 0), (156, none, .aload_n 0, 1, 0, 0, 0), (157, none, .getfield 88, 3, 180, 115, 12), (160, none, .iload 7, 2, 0, 0, 0), (162, none, .iaload, 1, 0, 0, 0), (163, none, .iastore, 1, 0, 0, 0), (164, none, .aload 5, 2, 0, 0, 0)] := fq_of2 cd_224 ow_224 cl_224 rfl (pc := 127) (by decide +kernel)
    j_ild (pc := 127) D rfl rfl rfl fun D =>
    j_ild (pc := 129) D rfl rfl rfl fun D =>
    j_ige (pc := 131) D rfl (fun q D =>
      j_ald (pc := 134) D rfl rfl rfl fun D =>
      j_gfo (pc := 136) H.2.1 D rfl rfl rfl rfl fun kc1 D =>
      j_ild (pc := 139) D rfl rfl rfl fun D =>
      j_aldn (pc := 141) D rfl rfl rfl fun D =>
      j_gfc (pc := 142) (a := 377) D rfl rfl (by decide) rfl (s0_377 H) rfl (sf_179_377 H) fun D =>
      j_ild (pc := 145) D rfl rfl rfl fun D =>
      j_al (pc := 147) (a := 396) (e := 10) D rfl rfl rfl (by decide) (s0_396 H) (s1_396 H) ⟨rfl, rfl, rfl⟩ rfl gn fun qb2 D =>
      j_asu (pc := 148) (e := 10) D rfl rfl ⟨rfl, rfl, rfl⟩ rfl gn gn (gy rfl) fun h3 eh3 S q q2 D =>
      have T := fj_hs_ok H.1 S
      have kc1 := cls_st H.1 T.2 kc1 (by decide)
      have H := shp_st H T
      j_ald (pc := 149) D rfl rfl rfl fun D =>
      j_gf (pc := 151) (a := x5.toNat) D rfl rfl (nz_cls H.2.1 kc1 (by decide)) rfl kc1 rfl fun D =>
      j_ild (pc := 154) D rfl rfl rfl fun D =>
      j_aldn (pc := 156) D rfl rfl rfl fun D =>
      j_gfc (pc := 157) (a := 377) D rfl rfl (by decide) rfl (s0_377 H) rfl (sf_180_377 H) fun D =>
      j_ild (pc := 160) D rfl rfl rfl fun D =>
      j_al (pc := 162) (a := 397) (e := 10) D rfl rfl rfl (by decide) (s0_397 H) (s1_397 H) ⟨rfl, rfl, rfl⟩ rfl (gy qb2) fun q D =>
      j_asu (pc := 163) (e := 10) D rfl rfl ⟨rfl, rfl, rfl⟩ rfl gn gn (gy rfl) fun h4 eh4 S q q2 D =>
      have T := fj_hs_ok H.1 S
      have kc1 := cls_st H.1 T.2 kc1 (by decide)
      have H := shp_st H T
      j_ald (pc := 164) D rfl rfl rfl fun D =>
      have D : fk_D 224 [(166, none, .getfield 663, 3, 144, 117, 12), (169, none, .iload 7, 2, 0, 0, 0), (171, none, .aload_n 0, 1, 0, 0, 0), (172, none, .getfield 91, 3, 181, 115, 12), (175, none, .iload 7, 2, 0, 0, 0), (177, none, .iaload, 1, 0, 0, 0), (178, none, .iastore, 1, 0, 0, 0), (179, none, .iinc 7 1, 3, 0, 1, 0), (182, none, .goto (-55), 3, 127, 0, 0)] := fq_of2 cd_224 ow_224 cl_224 rfl (pc := 166) (by decide +kernel)
      j_gf (pc := 166) (a := x5.toNat) D rfl rfl (nz_cls H.2.1 kc1 (by decide)) rfl kc1 rfl fun D =>
      j_ild (pc := 169) D rfl rfl rfl fun D =>
      j_aldn (pc := 171) D rfl rfl rfl fun D =>
      j_gfc (pc := 172) (a := 377) D rfl rfl (by decide) rfl (s0_377 H) rfl (sf_181_377 H) fun D =>
      j_ild (pc := 175) D rfl rfl rfl fun D =>
      j_al (pc := 177) (a := 398) (e := 10) D rfl rfl rfl (by decide) (s0_398 H) (s1_398 H) ⟨rfl, rfl, rfl⟩ rfl (gy qb2) fun q D =>
      j_asu (pc := 178) (e := 10) D rfl rfl ⟨rfl, rfl, rfl⟩ rfl gn gn (gy rfl) fun h5 eh5 S q q2 D =>
      have T := fj_hs_ok H.1 S
      have kc1 := cls_st H.1 T.2 kc1 (by decide)
      have H := shp_st H T
      j_inc (pc := 179) (L' := [(7, (0, wI (x7 + 1))), (0, (4, 377)), (5, (4, x5)), (6, (0, x6))]) D rfl rfl rfl (by decide +kernel) rfl fun D =>
      j_goto (pc := 182) D rfl <|
      fk_jump cut_224_127 rfl rfl) (fun q =>
      have D : fk_D 224 [(185, none, .aload 5, 2, 0, 0, 0), (187, none, .areturn, 1, 0, 0, 0)] := fq_of2 cd_224 ow_224 cl_224 rfl (pc := 185) (by decide +kernel)
      j_ald (pc := 185) D rfl rfl rfl fun D =>
      j_aret D rt_224)
theorem m_224 (d : Nat) (x1 x2 x3 : Int) {h : fi_H} (H : Shp h) : fj_run (d + 1) 224 h [(4, 377), (0, x1), (0, x2), (0, x3)] =
  cv_ (fj_run d 225 h [(4, 377), (0, x3)])
    (fun h1 =>
    cv_ (fj_run d 166 h1 [(4, 377)])
      (fun h4 =>
      ca_ (fj_run d 211 h4 [(4, 377)]) 0
        (fun v8 h7 =>
        if 0 ≤ v8 ∧ v8 < 40 then
        if h7 0 (h7 12 320 v8.toNat).toNat 0 = 124 then
        if h7 323 (h7 12 320 v8.toNat).toNat 0 = 0 then
          ca_ (fj_run d 164 h7 [(4, 377), (0, 2)]) 4
            (fun v13 h12 =>
            if v13 ≠ 0 then
            tx_ v13.toNat h12
            else none)
            (fun q14 h12 => tx_ q14 h12)
        else
          cv_ (fj_run d 166 h7 [(4, 377)])
            (fun h15 =>
            cv_ (fj_run d 182 h15 [(4, 377), (0, 123)])
              (fun h18 =>
              ca_ (fj_run d 226 h18 [(4, 377), (0, x1), (0, x2), (0, v8), (0, (-1)), (0, 0)]) 4
                (fun v22 h21 =>
                c_224_62 d v8 v22 0 h21)
                (fun q23 h21 => tx_ q23 h21))
              (fun q20 h18 => tx_ q20 h18))
            (fun q17 h15 => tx_ q17 h15)
        else none
        else none)
        (fun q9 h7 => tx_ q9 h7))
      (fun q6 h4 => tx_ q6 h4))
    (fun q3 h1 => tx_ q3 h1) := by
  rw [fj_run_eq d (by decide) h [(4, 377), (0, x1), (0, x2), (0, x3)] (Nat.le_of_ble_eq_true (by rw [nl_224]; rfl))]
  show gG (fj_run d) 224 0 [(0, (4, 377)), (1, (0, x1)), (2, (0, x2)), (3, (0, x3))] [] h = _
  exact
    have D : fk_D 224 [(0, none, .aload_n 0, 1, 0, 0, 0), (1, none, .iload_n 3, 1, 0, 0, 0), (2, none, .invokevirtual 645, 3, 1, 294, 0), (5, none, .aload_n 0, 1, 0, 0, 0), (6, none, .invokevirtual 206, 3, 0, 261, 0), (9, none, .aload_n 0, 1, 0, 0, 0), (10, none, .invokevirtual 632, 3, 0, 293, 1), (13, none, .istore 4, 2, 0, 0, 0), (15, none, .aload_n 0, 1, 0, 0, 0), (16, none, .getfield 3, 3, 182, 115, 12), (19, none, .getfield 368, 3, 214, 100, 12), (22, none, .iload 4, 2, 0, 0, 0), (24, none, .aaload, 1, 0, 0, 0), (25, none, .getfield 648, 3, 323, (-124), 4), (28, none, .ifCond .ne 9, 3, 37, 0, 0), (31, none, .aload_n 0, 1, 0, 0, 0), (32, none, .iconst 2, 1, 0, 2, 0), (33, none, .invokevirtual 190, 3, 1, 258, 5), (36, none, .athrow, 1, 0, 0, 0)] := fq_of2 cd_224 ow_224 cl_224 rfl (pc := 0) (by decide +kernel)
    j_aldn (pc := 0) D rfl rfl rfl fun D =>
    j_ildn (pc := 1) D rfl rfl rfl fun D =>
    j_ivv (pc := 2) (m := 225) (dd := 294) (a := [(0, x3)]) (rest := []) D rfl rfl rfl rfl rfl (by decide) (s0_377 H) (by decide +kernel) (fun h1 e1 D =>
      have T := fj_run_ok _ _ _ _ _ _ H.1 e1
      have H := shp_st H T
      j_aldn (pc := 5) D rfl rfl rfl fun D =>
      j_ivv (pc := 6) (m := 166) (dd := 261) (a := []) (rest := []) D rfl rfl rfl rfl rfl (by decide) (s0_377 H) (by decide +kernel) (fun h4 e1 D =>
        have T := fj_run_ok _ _ _ _ _ _ H.1 e1
        have H := shp_st H T
        j_aldn (pc := 9) D rfl rfl rfl fun D =>
        j_iv (pc := 10) (m := 211) (dd := 293) (a := []) (rest := []) D rfl rfl rfl rfl rfl (by decide) (s0_377 H) (by decide +kernel) (fun v8 h7 e1 D =>
          have T := fj_run_ok _ _ _ _ _ _ H.1 e1
          have H := shp_st H T
          j_ist (pc := 13) (L' := [(4, (0, v8)), (0, (4, 377)), (1, (0, x1)), (2, (0, x2)), (3, (0, x3))]) D rfl nl_224 rfl rfl fun D =>
          j_aldn (pc := 15) D rfl rfl rfl fun D =>
          j_gfc (pc := 16) (a := 377) D rfl rfl (by decide) rfl (s0_377 H) rfl (sf_182_377 H) fun D =>
          j_gfc (pc := 19) (a := 303) D rfl rfl (by decide) rfl (s0_303 H) rfl (sf_214_303 H) fun D =>
          j_ild (pc := 22) D rfl rfl rfl fun D =>
          j_al (pc := 24) (a := 320) (e := 12) D rfl rfl rfl (by decide) (s0_320 H) (s1_320 H) ⟨rfl, rfl, rfl⟩ rfl gn fun qb10 D =>
          j_gfo (pc := 25) H.2.1 D rfl rfl rfl rfl fun kc11 D =>
          j_ifne (pc := 28) D rfl (fun q D =>
            j_aldn (pc := 31) D rfl rfl rfl fun D =>
            j_ic (pc := 32) D rfl fun D =>
            j_iv (pc := 33) (m := 164) (dd := 258) (a := [(0, 2)]) (rest := []) D rfl rfl rfl rfl rfl (by decide) (s0_377 H) (by decide +kernel) (fun v13 h12 e1 D =>
              have T := fj_run_ok _ _ _ _ _ _ H.1 e1
              have H := shp_st H T
              j_at (pc := 36) D gn <|
              j_tx (hx_224 _)) (fun q14 h12 e1 =>
              j_tx (hx_224 _))) (fun q =>
            have D : fk_D 224 [(37, none, .aload_n 0, 1, 0, 0, 0), (38, none, .invokevirtual 206, 3, 0, 261, 0), (41, none, .aload_n 0, 1, 0, 0, 0), (42, none, .bipush 123, 2, 0, 123, 0), (44, none, .invokevirtual 216, 3, 1, 264, 0), (47, none, .aload_n 0, 1, 0, 0, 0), (48, none, .iload_n 1, 1, 0, 0, 0), (49, none, .iload_n 2, 1, 0, 0, 0), (50, none, .iload 4, 2, 0, 0, 0), (52, none, .iconst (-1), 1, 0, (-1), 0), (53, none, .iconst 0, 1, 0, 0, 0), (54, none, .invokevirtual 651, 3, 5, 295, 5), (57, none, .astore 5, 2, 0, 0, 0), (59, none, .iconst 0, 1, 0, 0, 0), (60, none, .istore 6, 2, 0, 0, 0)] := fq_of2 cd_224 ow_224 cl_224 rfl (pc := 37) (by decide +kernel)
            j_aldn (pc := 37) D rfl rfl rfl fun D =>
            j_ivv (pc := 38) (m := 166) (dd := 261) (a := []) (rest := []) D rfl rfl rfl rfl rfl (by decide) (s0_377 H) (by decide +kernel) (fun h15 e1 D =>
              have T := fj_run_ok _ _ _ _ _ _ H.1 e1
              have H := shp_st H T
              j_aldn (pc := 41) D rfl rfl rfl fun D =>
              j_bp (pc := 42) D rfl fun D =>
              j_ivv (pc := 44) (m := 182) (dd := 264) (a := [(0, 123)]) (rest := []) D rfl rfl rfl rfl rfl (by decide) (s0_377 H) (by decide +kernel) (fun h18 e1 D =>
                have T := fj_run_ok _ _ _ _ _ _ H.1 e1
                have H := shp_st H T
                j_aldn (pc := 47) D rfl rfl rfl fun D =>
                j_ildn (pc := 48) D rfl rfl rfl fun D =>
                j_ildn (pc := 49) D rfl rfl rfl fun D =>
                j_ild (pc := 50) D rfl rfl rfl fun D =>
                j_ic (pc := 52) D rfl fun D =>
                j_ic (pc := 53) D rfl fun D =>
                j_iv (pc := 54) (m := 226) (dd := 295) (a := [(0, x1), (0, x2), (0, v8), (0, (-1)), (0, 0)]) (rest := []) D rfl rfl rfl rfl rfl (by decide) (s0_377 H) (by decide +kernel) (fun v22 h21 e1 D =>
                  have T := fj_run_ok _ _ _ _ _ _ H.1 e1
                  have H := shp_st H T
                  j_ast (pc := 57) (L' := [(5, (4, v22)), (4, (0, v8)), (0, (4, 377)), (1, (0, x1)), (2, (0, x2)), (3, (0, x3))]) D rfl nl_224 rfl rfl fun D =>
                  j_ic (pc := 59) D rfl fun D =>
                  j_ist (pc := 60) (L' := [(6, (0, 0)), (5, (4, v22)), (4, (0, v8)), (0, (4, 377)), (1, (0, x1)), (2, (0, x2)), (3, (0, x3))]) D rfl nl_224 rfl rfl fun D =>
                  fk_jump cut_224_62 rfl rfl) (fun q23 h21 e1 =>
                  j_tx (hx_224 _))) (fun q20 h18 e1 =>
                j_tx (hx_224 _))) (fun q17 h15 e1 =>
              j_tx (hx_224 _)))) (fun q9 h7 e1 =>
          j_tx (hx_224 _))) (fun q6 h4 e1 =>
        j_tx (hx_224 _))) (fun q3 h1 e1 =>
      j_tx (hx_224 _))
/-! 225 StatuteHouse$Reader.roomForRule(I)V -/
theorem cd_225 : fi_code 225 = prog_53_method_53_code := rfl
theorem hx_225 : ∀ pc, fi_hat 225 pc = none := fun pc => by unfold fi_hat; rw [show fi_hh 225 = [] from rfl]; rfl
theorem rt_225 : fi_ret 225 = none := rfl
theorem nl_225 : fi_nl 225 = 2 := rfl
theorem ow_225 : fi_ow 225 = 15 := rfl
theorem cl_225 : fj_cutT.getD 225 [] = [(24, [0])] := rfl
theorem cut_225_24 : fj_cut 225 24 = some [0] := by decide +kernel
noncomputable def c_225_24 (d : Nat) (h : fi_H) : fk_R := gG (fj_run d) 225 24 [(0, (4, 377))] [] h
theorem e_225_24 (d : Nat) {h : fi_H} (H : Shp h) : c_225_24 d h =
  ca_ (fj_run d 164 h [(4, 377), (0, 4)]) 4
    (fun v2 h1 =>
    if v2 ≠ 0 then
    tx_ v2.toNat h1
    else none)
    (fun q3 h1 => tx_ q3 h1) := by
  unfold c_225_24
  exact
    have D : fk_D 225 [(24, some [0], .aload_n 0, 1, 0, 0, 0), (25, none, .iconst 4, 1, 0, 4, 0), (26, none, .invokevirtual 190, 3, 1, 258, 5), (29, none, .athrow, 1, 0, 0, 0)] := fq_of2 cd_225 ow_225 cl_225 rfl (pc := 24) (by decide +kernel)
    j_aldn (pc := 24) D rfl rfl rfl fun D =>
    j_ic (pc := 25) D rfl fun D =>
    j_iv (pc := 26) (m := 164) (dd := 258) (a := [(0, 4)]) (rest := []) D rfl rfl rfl rfl rfl (by decide) (s0_377 H) (by decide +kernel) (fun v2 h1 e1 D =>
      have T := fj_run_ok _ _ _ _ _ _ H.1 e1
      have H := shp_st H T
      j_at (pc := 29) D gn <|
      j_tx (hx_225 _)) (fun q3 h1 e1 =>
      j_tx (hx_225 _))
theorem m_225 (d : Nat) (x1 : Int) {h : fi_H} (H : Shp h) : fj_run (d + 1) 225 h [(4, 377), (0, x1)] =
  if x1 = 40 then
    c_225_24 d h
  else
    if wI ((h 230 303 0) + (h 161 377 0)) = 500 then
      c_225_24 d h
    else
      some (.inl none, h) := by
  rw [fj_run_eq d (by decide) h [(4, 377), (0, x1)] (Nat.le_of_ble_eq_true (by rw [nl_225]; rfl))]
  show gG (fj_run d) 225 0 [(0, (4, 377)), (1, (0, x1))] [] h = _
  exact
    have D : fk_D 225 [(0, none, .iload_n 1, 1, 0, 0, 0), (1, none, .bipush 40, 2, 0, 40, 0), (3, none, .if_icmp .eq 21, 3, 24, 0, 0), (6, none, .aload_n 0, 1, 0, 0, 0), (7, none, .getfield 3, 3, 182, 115, 12), (10, none, .getfield 635, 3, 230, 100, 10), (13, none, .aload_n 0, 1, 0, 0, 0), (14, none, .getfield 116, 3, 161, 115, 10), (17, none, .iadd, 1, 0, 0, 0), (18, none, .sipush 500, 3, 0, 500, 0), (21, none, .if_icmp .ne 9, 3, 30, 0, 0)] := fq_of2 cd_225 ow_225 cl_225 rfl (pc := 0) (by decide +kernel)
    j_ildn (pc := 0) D rfl rfl rfl fun D =>
    j_bp (pc := 1) D rfl fun D =>
    j_ieq (pc := 3) D rfl (fun q =>
      fk_jump cut_225_24 rfl rfl) (fun q D =>
      j_aldn (pc := 6) D rfl rfl rfl fun D =>
      j_gfc (pc := 7) (a := 377) D rfl rfl (by decide) rfl (s0_377 H) rfl (sf_182_377 H) fun D =>
      j_gf (pc := 10) (a := 303) D rfl rfl (by decide) rfl (s0_303 H) rfl fun D =>
      j_aldn (pc := 13) D rfl rfl rfl fun D =>
      j_gf (pc := 14) (a := 377) D rfl rfl (by decide) rfl (s0_377 H) rfl fun D =>
      j_iadd (pc := 17) D rfl fun D =>
      j_sp (pc := 18) D rfl fun D =>
      j_ine (pc := 21) D rfl (fun q D =>
        fk_jump cut_225_24 rfl rfl) (fun q =>
        have D : fk_D 225 [(30, none, .return_, 1, 0, 0, 0)] := fq_of2 cd_225 ow_225 cl_225 rfl (pc := 30) (by decide +kernel)
        j_vret D rt_225))
/-! 226 StatuteHouse$Reader.numbered(IIIII)LStatuteHouse$Rule; -/
theorem cd_226 : fi_code 226 = prog_53_method_54_code := rfl
theorem hx_226 : ∀ pc, fi_hat 226 pc = none := fun pc => by unfold fi_hat; rw [show fi_hh 226 = [] from rfl]; rfl
theorem rt_226 : fj_ft (fi_ret 226) = 5 := rfl
theorem nl_226 : fi_nl 226 = 7 := rfl
theorem ow_226 : fi_ow 226 = 15 := rfl
theorem cl_226 : fj_cutT.getD 226 [] = [] := rfl
theorem m_226 (d : Nat) (x1 x2 x3 x4 x5 : Int) {h : fi_H} (H : Shp h) : fj_run (d + 1) 226 h [(4, 377), (0, x1), (0, x2), (0, x3), (0, x4), (0, x5)] =
  nw_ h 117 11 0 fun r1 h2 =>
  cv_ (fj_run d 98 h2 [(4, r1), (0, wI ((h2 230 303 0) + (h2 161 377 0))), (0, x1), (0, wI (x2 + 1)), (0, x3), (0, x4), (0, x5)])
    (fun h3 =>
    if 0 ≤ h3 134 r1.toNat 0 ∧ h3 134 r1.toNat 0 < 500 then
    lt_ (fi_upd h3 12 355 (h3 134 r1.toNat 0).toNat r1) fun h6 =>
    lt_ (fi_upd h6 161 377 0 (wI ((h6 161 377 0) + 1))) fun h8 =>
    some (.inl (some (4, r1)), h8)
    else none)
    (fun q5 h3 => tx_ q5 h3) := by
  rw [fj_run_eq d (by decide) h [(4, 377), (0, x1), (0, x2), (0, x3), (0, x4), (0, x5)] (Nat.le_of_ble_eq_true (by rw [nl_226]; rfl))]
  show gG (fj_run d) 226 0 [(0, (4, 377)), (1, (0, x1)), (2, (0, x2)), (3, (0, x3)), (4, (0, x4)), (5, (0, x5))] [] h = _
  exact
    have D : fk_D 226 [(0, none, .new 54, 3, 117, 11, 0), (3, none, .dup, 1, 0, 0, 0), (4, none, .aload_n 0, 1, 0, 0, 0), (5, none, .getfield 3, 3, 182, 115, 12), (8, none, .getfield 635, 3, 230, 100, 10), (11, none, .aload_n 0, 1, 0, 0, 0), (12, none, .getfield 116, 3, 161, 115, 10), (15, none, .iadd, 1, 0, 0, 0), (16, none, .iload_n 1, 1, 0, 0, 0), (17, none, .iload_n 2, 1, 0, 0, 0), (18, none, .iconst 1, 1, 0, 1, 0), (19, none, .iadd, 1, 0, 0, 0), (20, none, .iload_n 3, 1, 0, 0, 0), (21, none, .iload 4, 2, 0, 0, 0), (23, none, .iload 5, 2, 0, 0, 0), (25, none, .invokespecial 638, 3, 6, 98, 0), (28, none, .astore 6, 2, 0, 0, 0), (30, none, .aload_n 0, 1, 0, 0, 0), (31, none, .getfield 3, 3, 182, 115, 12), (34, none, .getfield 641, 3, 228, 100, 12)] := fq_of2 cd_226 ow_226 cl_226 rfl (pc := 0) (by decide +kernel)
    j_new (pc := 0) D rfl fun r1 h2 er eh2 S D =>
    have gt_r1 := nw_gt H.1 er
    have kc_r1 := nw_cls H.1 er eh2
    have T := fj_hs_ok H.1 S
    have H := shp_st H T
    j_sh (pc := 3) D rfl rfl rfl fun D =>
    j_aldn (pc := 4) D rfl rfl rfl fun D =>
    j_gfc (pc := 5) (a := 377) D rfl rfl (by decide) rfl (s0_377 H) rfl (sf_182_377 H) fun D =>
    j_gf (pc := 8) (a := 303) D rfl rfl (by decide) rfl (s0_303 H) rfl fun D =>
    j_aldn (pc := 11) D rfl rfl rfl fun D =>
    j_gf (pc := 12) (a := 377) D rfl rfl (by decide) rfl (s0_377 H) rfl fun D =>
    j_iadd (pc := 15) D rfl fun D =>
    j_ildn (pc := 16) D rfl rfl rfl fun D =>
    j_ildn (pc := 17) D rfl rfl rfl fun D =>
    j_ic (pc := 18) D rfl fun D =>
    j_iadd (pc := 19) D rfl fun D =>
    j_ildn (pc := 20) D rfl rfl rfl fun D =>
    j_ild (pc := 21) D rfl rfl rfl fun D =>
    j_ild (pc := 23) D rfl rfl rfl fun D =>
    j_spv (pc := 25) (m := 98) (a := [(0, wI ((h2 230 303 0) + (h2 161 377 0))), (0, x1), (0, wI (x2 + 1)), (0, x3), (0, x4), (0, x5)]) (rest := [(4, r1)]) D rfl rfl rfl rfl (by rw [show h2 0 r1.toNat 0 = 117 from kc_r1]; decide) (gt_nz gt_r1) (fun h3 e1 D =>
      have T := fj_run_ok _ _ _ _ _ _ H.1 e1
      have kc_r1 := cls_st H.1 T.2 kc_r1 (by decide)
      have H := shp_st H T
      j_ast (pc := 28) (L' := [(6, (4, r1)), (0, (4, 377)), (1, (0, x1)), (2, (0, x2)), (3, (0, x3)), (4, (0, x4)), (5, (0, x5))]) D rfl nl_226 rfl rfl fun D =>
      j_aldn (pc := 30) D rfl rfl rfl fun D =>
      j_gfc (pc := 31) (a := 377) D rfl rfl (by decide) rfl (s0_377 H) rfl (sf_182_377 H) fun D =>
      j_gfc (pc := 34) (a := 303) D rfl rfl (by decide) rfl (s0_303 H) rfl (sf_228_303 H) fun D =>
      have D : fk_D 226 [(37, none, .aload 6, 2, 0, 0, 0), (39, none, .getfield 642, 3, 134, 117, 10), (42, none, .aload 6, 2, 0, 0, 0), (44, none, .aastore, 1, 0, 0, 0), (45, none, .aload_n 0, 1, 0, 0, 0), (46, none, .dup, 1, 0, 0, 0), (47, none, .getfield 116, 3, 161, 115, 10), (50, none, .iconst 1, 1, 0, 1, 0), (51, none, .iadd, 1, 0, 0, 0), (52, none, .putfield 116, 3, 161, 115, 10), (55, none, .aload 6, 2, 0, 0, 0), (57, none, .areturn, 1, 0, 0, 0)] := fq_of2 cd_226 ow_226 cl_226 rfl (pc := 37) (by decide +kernel)
      j_ald (pc := 37) D rfl rfl rfl fun D =>
      j_gf (pc := 39) (a := r1.toNat) D rfl rfl (gt_nz gt_r1) rfl kc_r1 rfl fun D =>
      j_ald (pc := 42) D rfl rfl rfl fun D =>
      j_asr (pc := 44) (a := 355) D rfl rfl (by decide) (s0_355 H) (s1_355 H) ⟨rfl, rfl, rfl⟩ rfl gn (gy (Or.inr (by rw [show h3 0 r1.toNat 0 = 117 from kc_r1]; decide +kernel))) fun h6 eh6 S qb7 D =>
      have T := fj_hs_ok H.1 S
      have kc_r1 := cls_st H.1 T.2 kc_r1 (by decide)
      have H := shp_st H T
      j_aldn (pc := 45) D rfl rfl rfl fun D =>
      j_sh (pc := 46) D rfl rfl rfl fun D =>
      j_gf (pc := 47) (a := 377) D rfl rfl (by decide) rfl (s0_377 H) rfl fun D =>
      j_ic (pc := 50) D rfl fun D =>
      j_iadd (pc := 51) D rfl fun D =>
      j_pf (pc := 52) (a := 377) D rfl rfl rfl (s0_377 H) rfl rfl (gy (by decide)) (gy rfl) fun h8 eh8 S D =>
      have T := fj_hs_ok H.1 S
      have kc_r1 := cls_st H.1 T.2 kc_r1 (by decide)
      have H := shp_st H T
      j_ald (pc := 55) D rfl rfl rfl fun D =>
      j_aret D rt_226) (fun q5 h3 e1 =>
      j_tx (hx_226 _))
/-! 227 StatuteHouse$Reader.row(LStatuteHouse$Kind;I)V -/
theorem cd_227 : fi_code 227 = prog_53_method_57_code := rfl
theorem hx_227 : ∀ pc, fi_hat 227 pc = none := fun pc => by unfold fi_hat; rw [show fi_hh 227 = [] from rfl]; rfl
theorem rt_227 : fi_ret 227 = none := rfl
theorem nl_227 : fi_nl 227 = 7 := rfl
theorem ow_227 : fi_ow 227 = 15 := rfl
theorem cl_227 : fj_cutT.getD 227 [] = [(20, [0, 1, 2]), (48, [0]), (93, [0, 1, 2, 3, 5]), (174, [0, 1, 2, 3, 5]), (233, [0])] := rfl
theorem cut_227_20 : fj_cut 227 20 = some [0, 1, 2] := by decide +kernel
noncomputable def c_227_20 (d : Nat) (x1 x2 s0 s1 : Int) (h : fi_H) : fk_R := gG (fj_run d) 227 20 [(0, (4, 377)), (1, (4, x1)), (2, (0, x2))] [(1, s1), (4, s0)] h
theorem cut_227_48 : fj_cut 227 48 = some [0] := by decide +kernel
noncomputable def c_227_48 (d : Nat) (h : fi_H) : fk_R := gG (fj_run d) 227 48 [(0, (4, 377))] [] h
theorem cut_227_93 : fj_cut 227 93 = some [0, 1, 2, 3, 5] := by decide +kernel
noncomputable def c_227_93 (d : Nat) (x1 x2 x3 x5 s0 : Int) (h : fi_H) : fk_R := gG (fj_run d) 227 93 [(0, (4, 377)), (1, (4, x1)), (2, (0, x2)), (3, (1, x3)), (5, (0, x5))] [(0, s0)] h
theorem cut_227_174 : fj_cut 227 174 = some [0, 1, 2, 3, 5] := by decide +kernel
noncomputable def c_227_174 (d : Nat) (x1 x2 x3 x5 : Int) (h : fi_H) : fk_R := gG (fj_run d) 227 174 [(0, (4, 377)), (1, (4, x1)), (2, (0, x2)), (3, (1, x3)), (5, (0, x5))] [] h
theorem cut_227_233 : fj_cut 227 233 = some [0] := by decide +kernel
noncomputable def c_227_233 (d : Nat) (h : fi_H) : fk_R := gG (fj_run d) 227 233 [(0, (4, 377))] [] h
theorem e_227_20 (d : Nat) (x1 x2 s0 s1 : Int) {h : fi_H} (H : Shp h) : c_227_20 d x1 x2 s0 s1 h =
  dv_ (fi_vt 297 (h 0 s0.toNat 0)) fun m4 => ca_ (fj_run d m4 h [(4, s0), (1, s1)]) 1
    (fun v2 h1 =>
    if x2 = 20 then
      c_227_48 d h1
    else
      if wI ((h1 232 303 0) + (h1 164 377 0)) = 400 then
        c_227_48 d h1
      else
        cv_ (fj_run d 166 h1 [(4, 377)])
          (fun h5 =>
          cv_ (fj_run d 182 h5 [(4, 377), (0, 58)])
            (fun h8 =>
            if 0 ≤ h8 158 377 0 ∧ h8 158 377 0 < 1202 then
            if h8 8 378 (h8 158 377 0).toNat = 4 then
              c_227_93 d x1 x2 v2 (h8 9 379 (h8 158 377 0).toNat) 1 h8
            else
              c_227_93 d x1 x2 v2 (h8 9 379 (h8 158 377 0).toNat) 0 h8
            else none)
            (fun q10 h8 => tx_ q10 h8))
          (fun q7 h5 => tx_ q7 h5))
    (fun q3 h1 => tx_ q3 h1) := by
  unfold c_227_20
  exact
    have D : fk_D 227 [(20, some [0, 1, 2], .invokevirtual 667, 3, 1, 297, 2), (23, none, .lstore_n 3, 1, 0, 0, 0), (24, none, .iload_n 2, 1, 0, 0, 0), (25, none, .bipush 20, 2, 0, 20, 0), (27, none, .if_icmp .eq 21, 3, 48, 0, 0), (30, none, .aload_n 0, 1, 0, 0, 0), (31, none, .getfield 3, 3, 182, 115, 12), (34, none, .getfield 670, 3, 232, 100, 10), (37, none, .aload_n 0, 1, 0, 0, 0), (38, none, .getfield 125, 3, 164, 115, 10), (41, none, .iadd, 1, 0, 0, 0), (42, none, .sipush 400, 3, 0, 400, 0), (45, none, .if_icmp .ne 9, 3, 54, 0, 0)] := fq_of2 cd_227 ow_227 cl_227 rfl (pc := 20) (by decide +kernel)
    j_ivu (pc := 20) (dd := 297) (a := [(1, s1)]) (rest := []) H.2.1 D rfl rfl rfl rfl rfl (fun m4 v2 h1 e1 D =>
      have T := fj_run_ok _ _ _ _ _ _ H.1 e1
      have H := shp_st H T
      j_lstn (pc := 23) (L' := [(3, (1, v2)), (0, (4, 377)), (1, (4, x1)), (2, (0, x2))]) D rfl nl_227 rfl rfl fun D =>
      j_ildn (pc := 24) D rfl rfl rfl fun D =>
      j_bp (pc := 25) D rfl fun D =>
      j_ieq (pc := 27) D rfl (fun q =>
        fk_jump cut_227_48 rfl rfl) (fun q D =>
        j_aldn (pc := 30) D rfl rfl rfl fun D =>
        j_gfc (pc := 31) (a := 377) D rfl rfl (by decide) rfl (s0_377 H) rfl (sf_182_377 H) fun D =>
        j_gf (pc := 34) (a := 303) D rfl rfl (by decide) rfl (s0_303 H) rfl fun D =>
        j_aldn (pc := 37) D rfl rfl rfl fun D =>
        j_gf (pc := 38) (a := 377) D rfl rfl (by decide) rfl (s0_377 H) rfl fun D =>
        j_iadd (pc := 41) D rfl fun D =>
        j_sp (pc := 42) D rfl fun D =>
        j_ine (pc := 45) D rfl (fun q D =>
          fk_jump cut_227_48 rfl rfl) (fun q =>
          have D : fk_D 227 [(54, none, .aload_n 0, 1, 0, 0, 0), (55, none, .invokevirtual 206, 3, 0, 261, 0), (58, none, .aload_n 0, 1, 0, 0, 0), (59, none, .bipush 58, 2, 0, 58, 0), (61, none, .invokevirtual 216, 3, 1, 264, 0), (64, none, .aload_n 0, 1, 0, 0, 0), (65, none, .getfield 19, 3, 150, 115, 12), (68, none, .aload_n 0, 1, 0, 0, 0), (69, none, .getfield 104, 3, 158, 115, 10), (72, none, .saload, 1, 0, 0, 0), (73, none, .istore 5, 2, 0, 0, 0), (75, none, .aload_n 0, 1, 0, 0, 0), (76, none, .getfield 15, 3, 149, 115, 12), (79, none, .aload_n 0, 1, 0, 0, 0), (80, none, .getfield 104, 3, 158, 115, 10), (83, none, .baload, 1, 0, 0, 0), (84, none, .iconst 4, 1, 0, 4, 0), (85, none, .if_icmp .ne 7, 3, 92, 0, 0), (88, none, .iconst 1, 1, 0, 1, 0), (89, none, .goto 4, 3, 93, 0, 0)] := fq_of2 cd_227 ow_227 cl_227 rfl (pc := 54) (by decide +kernel)
          j_aldn (pc := 54) D rfl rfl rfl fun D =>
          j_ivv (pc := 55) (m := 166) (dd := 261) (a := []) (rest := []) D rfl rfl rfl rfl rfl (by decide) (s0_377 H) (by decide +kernel) (fun h5 e1 D =>
            have T := fj_run_ok _ _ _ _ _ _ H.1 e1
            have H := shp_st H T
            j_aldn (pc := 58) D rfl rfl rfl fun D =>
            j_bp (pc := 59) D rfl fun D =>
            j_ivv (pc := 61) (m := 182) (dd := 264) (a := [(0, 58)]) (rest := []) D rfl rfl rfl rfl rfl (by decide) (s0_377 H) (by decide +kernel) (fun h8 e1 D =>
              have T := fj_run_ok _ _ _ _ _ _ H.1 e1
              have H := shp_st H T
              j_aldn (pc := 64) D rfl rfl rfl fun D =>
              j_gfc (pc := 65) (a := 377) D rfl rfl (by decide) rfl (s0_377 H) rfl (sf_150_377 H) fun D =>
              j_aldn (pc := 68) D rfl rfl rfl fun D =>
              j_gf (pc := 69) (a := 377) D rfl rfl (by decide) rfl (s0_377 H) rfl fun D =>
              j_al (pc := 72) (a := 379) (e := 9) D rfl rfl rfl (by decide) (s0_379 H) (s1_379 H) ⟨rfl, rfl, rfl⟩ rfl gn fun qb11 D =>
              j_ist (pc := 73) (L' := [(5, (0, h8 9 379 (h8 158 377 0).toNat)), (3, (1, v2)), (0, (4, 377)), (1, (4, x1)), (2, (0, x2))]) D rfl nl_227 rfl rfl fun D =>
              j_aldn (pc := 75) D rfl rfl rfl fun D =>
              j_gfc (pc := 76) (a := 377) D rfl rfl (by decide) rfl (s0_377 H) rfl (sf_149_377 H) fun D =>
              j_aldn (pc := 79) D rfl rfl rfl fun D =>
              j_gf (pc := 80) (a := 377) D rfl rfl (by decide) rfl (s0_377 H) rfl fun D =>
              j_al (pc := 83) (a := 378) (e := 8) D rfl rfl rfl (by decide) (s0_378 H) (s1_378 H) ⟨rfl, rfl, rfl⟩ rfl (gy qb11) fun q D =>
              j_ic (pc := 84) D rfl fun D =>
              j_ine (pc := 85) D rfl (fun q D =>
                j_ic (pc := 88) D rfl fun D =>
                j_goto (pc := 89) D rfl <|
                fk_jump cut_227_93 rfl rfl) (fun q =>
                have D : fk_D 227 [(92, none, .iconst 0, 1, 0, 0, 0)] := fq_of2 cd_227 ow_227 cl_227 rfl (pc := 92) (by decide +kernel)
                j_ic (pc := 92) D rfl fun D =>
                fk_jump cut_227_93 rfl rfl)) (fun q10 h8 e1 =>
              j_tx (hx_227 _))) (fun q7 h5 e1 =>
            j_tx (hx_227 _))))) (fun m4 q3 h1 e1 =>
      j_tx (hx_227 _))
theorem e_227_48 (d : Nat) {h : fi_H} (H : Shp h) : c_227_48 d h =
  ca_ (fj_run d 164 h [(4, 377), (0, 4)]) 4
    (fun v2 h1 =>
    if v2 ≠ 0 then
    tx_ v2.toNat h1
    else none)
    (fun q3 h1 => tx_ q3 h1) := by
  unfold c_227_48
  exact
    have D : fk_D 227 [(48, some [0], .aload_n 0, 1, 0, 0, 0), (49, none, .iconst 4, 1, 0, 4, 0), (50, none, .invokevirtual 190, 3, 1, 258, 5), (53, none, .athrow, 1, 0, 0, 0)] := fq_of2 cd_227 ow_227 cl_227 rfl (pc := 48) (by decide +kernel)
    j_aldn (pc := 48) D rfl rfl rfl fun D =>
    j_ic (pc := 49) D rfl fun D =>
    j_iv (pc := 50) (m := 164) (dd := 258) (a := [(0, 4)]) (rest := []) D rfl rfl rfl rfl rfl (by decide) (s0_377 H) (by decide +kernel) (fun v2 h1 e1 D =>
      have T := fj_run_ok _ _ _ _ _ _ H.1 e1
      have H := shp_st H T
      j_at (pc := 53) D gn <|
      j_tx (hx_227 _)) (fun q3 h1 e1 =>
      j_tx (hx_227 _))
theorem e_227_93 (d : Nat) (x1 x2 x3 x5 s0 : Int) {h : fi_H} (H : Shp h) : c_227_93 d x1 x2 x3 x5 s0 h =
  if s0 = 0 then
    if 0 ≤ h 158 377 0 ∧ h 158 377 0 < 1202 then
    if h 8 378 (h 158 377 0).toNat = 3 then
      ca_ (fj_run d 193 h [(4, 377)]) 0
        (fun v3 h2 =>
        if v3 = 1 then
          cv_ (fj_run d 192 h2 [(4, 377)])
            (fun h5 =>
            c_227_174 d x1 x2 x3 x5 h5)
            (fun q7 h5 => tx_ q7 h5)
        else
          cv_ (fj_run d 166 h2 [(4, 377)])
            (fun h8 =>
            ca_ (fj_run d 164 h8 [(4, 377), (0, 1)]) 4
              (fun v12 h11 =>
              if v12 ≠ 0 then
              tx_ v12.toNat h11
              else none)
              (fun q13 h11 => tx_ q13 h11))
            (fun q10 h8 => tx_ q10 h8))
        (fun q4 h2 => tx_ q4 h2)
    else
      ca_ (fj_run d 164 h [(4, 377), (0, 1)]) 4
        (fun v15 h14 =>
        if v15 ≠ 0 then
        tx_ v15.toNat h14
        else none)
        (fun q16 h14 => tx_ q16 h14)
    else none
  else
    ca_ (fj_run d 228 h [(4, 377), (1, (-1))]) 1
      (fun v18 h17 =>
      lt_ (fi_upd h17 168 377 0 v18) fun h20 =>
      lt_ (fi_upd h20 169 377 0 0) fun h21 =>
      lt_ (fi_upd h21 167 377 0 4) fun h22 =>
      cv_ (fj_run d 166 h22 [(4, 377)])
        (fun h23 =>
        c_227_174 d x1 x2 x3 x5 h23)
        (fun q25 h23 => tx_ q25 h23))
      (fun q19 h17 => tx_ q19 h17) := by
  unfold c_227_93
  exact
    have D : fk_D 227 [(93, some [0, 1, 2, 3, 5], .istore 6, 2, 0, 0, 0), (95, none, .iload 6, 2, 0, 0, 0), (97, none, .ifCond .eq 33, 3, 130, 0, 0), (100, none, .aload_n 0, 1, 0, 0, 0), (101, none, .aload_n 0, 1, 0, 0, 0), (102, none, .ldc2_w 665, 3, 1, (-1), 0), (105, none, .invokevirtual 667, 3, 1, 297, 2), (108, none, .putfield 402, 3, 168, 115, 11), (111, none, .aload_n 0, 1, 0, 0, 0), (112, none, .lconst 0, 1, 0, 0, 0), (113, none, .putfield 405, 3, 169, 115, 11), (116, none, .aload_n 0, 1, 0, 0, 0), (117, none, .getstatic 431, 3, 4, 4, 0), (120, none, .putfield 414, 3, 167, 115, 12), (123, none, .aload_n 0, 1, 0, 0, 0), (124, none, .invokevirtual 206, 3, 0, 261, 0), (127, none, .goto 47, 3, 174, 0, 0)] := fq_of2 cd_227 ow_227 cl_227 rfl (pc := 93) (by decide +kernel)
    j_ist (pc := 93) (L' := [(6, (0, s0)), (0, (4, 377)), (1, (4, x1)), (2, (0, x2)), (3, (1, x3)), (5, (0, x5))]) D rfl nl_227 rfl rfl fun D =>
    j_ild (pc := 95) D rfl rfl rfl fun D =>
    j_ifeq (pc := 97) D rfl (fun q =>
      have D : fk_D 227 [(130, none, .aload_n 0, 1, 0, 0, 0), (131, none, .getfield 15, 3, 149, 115, 12), (134, none, .aload_n 0, 1, 0, 0, 0), (135, none, .getfield 104, 3, 158, 115, 10), (138, none, .baload, 1, 0, 0, 0), (139, none, .iconst 3, 1, 0, 3, 0), (140, none, .if_icmp .eq 9, 3, 149, 0, 0), (143, none, .aload_n 0, 1, 0, 0, 0), (144, none, .iconst 1, 1, 0, 1, 0), (145, none, .invokevirtual 190, 3, 1, 258, 5), (148, none, .athrow, 1, 0, 0, 0)] := fq_of2 cd_227 ow_227 cl_227 rfl (pc := 130) (by decide +kernel)
      j_aldn (pc := 130) D rfl rfl rfl fun D =>
      j_gfc (pc := 131) (a := 377) D rfl rfl (by decide) rfl (s0_377 H) rfl (sf_149_377 H) fun D =>
      j_aldn (pc := 134) D rfl rfl rfl fun D =>
      j_gf (pc := 135) (a := 377) D rfl rfl (by decide) rfl (s0_377 H) rfl fun D =>
      j_al (pc := 138) (a := 378) (e := 8) D rfl rfl rfl (by decide) (s0_378 H) (s1_378 H) ⟨rfl, rfl, rfl⟩ rfl gn fun qb1 D =>
      j_ic (pc := 139) D rfl fun D =>
      j_ieq (pc := 140) D rfl (fun q =>
        have D : fk_D 227 [(149, none, .aload_n 0, 1, 0, 0, 0), (150, none, .invokevirtual 389, 3, 0, 268, 1), (153, none, .iconst 1, 1, 0, 1, 0), (154, none, .if_icmp .ne 10, 3, 164, 0, 0), (157, none, .aload_n 0, 1, 0, 0, 0), (158, none, .invokevirtual 428, 3, 0, 269, 0), (161, none, .goto 13, 3, 174, 0, 0)] := fq_of2 cd_227 ow_227 cl_227 rfl (pc := 149) (by decide +kernel)
        j_aldn (pc := 149) D rfl rfl rfl fun D =>
        j_iv (pc := 150) (m := 193) (dd := 268) (a := []) (rest := []) D rfl rfl rfl rfl rfl (by decide) (s0_377 H) (by decide +kernel) (fun v3 h2 e1 D =>
          have T := fj_run_ok _ _ _ _ _ _ H.1 e1
          have H := shp_st H T
          j_ic (pc := 153) D rfl fun D =>
          j_ine (pc := 154) D rfl (fun q D =>
            j_aldn (pc := 157) D rfl rfl rfl fun D =>
            j_ivv (pc := 158) (m := 192) (dd := 269) (a := []) (rest := []) D rfl rfl rfl rfl rfl (by decide) (s0_377 H) (by decide +kernel) (fun h5 e1 D =>
              have T := fj_run_ok _ _ _ _ _ _ H.1 e1
              have H := shp_st H T
              j_goto (pc := 161) D rfl <|
              fk_jump cut_227_174 rfl rfl) (fun q7 h5 e1 =>
              j_tx (hx_227 _))) (fun q =>
            have D : fk_D 227 [(164, none, .aload_n 0, 1, 0, 0, 0), (165, none, .invokevirtual 206, 3, 0, 261, 0), (168, none, .aload_n 0, 1, 0, 0, 0), (169, none, .iconst 1, 1, 0, 1, 0), (170, none, .invokevirtual 190, 3, 1, 258, 5), (173, none, .athrow, 1, 0, 0, 0)] := fq_of2 cd_227 ow_227 cl_227 rfl (pc := 164) (by decide +kernel)
            j_aldn (pc := 164) D rfl rfl rfl fun D =>
            j_ivv (pc := 165) (m := 166) (dd := 261) (a := []) (rest := []) D rfl rfl rfl rfl rfl (by decide) (s0_377 H) (by decide +kernel) (fun h8 e1 D =>
              have T := fj_run_ok _ _ _ _ _ _ H.1 e1
              have H := shp_st H T
              j_aldn (pc := 168) D rfl rfl rfl fun D =>
              j_ic (pc := 169) D rfl fun D =>
              j_iv (pc := 170) (m := 164) (dd := 258) (a := [(0, 1)]) (rest := []) D rfl rfl rfl rfl rfl (by decide) (s0_377 H) (by decide +kernel) (fun v12 h11 e1 D =>
                have T := fj_run_ok _ _ _ _ _ _ H.1 e1
                have H := shp_st H T
                j_at (pc := 173) D gn <|
                j_tx (hx_227 _)) (fun q13 h11 e1 =>
                j_tx (hx_227 _))) (fun q10 h8 e1 =>
              j_tx (hx_227 _)))) (fun q4 h2 e1 =>
          j_tx (hx_227 _))) (fun q D =>
        j_aldn (pc := 143) D rfl rfl rfl fun D =>
        j_ic (pc := 144) D rfl fun D =>
        j_iv (pc := 145) (m := 164) (dd := 258) (a := [(0, 1)]) (rest := []) D rfl rfl rfl rfl rfl (by decide) (s0_377 H) (by decide +kernel) (fun v15 h14 e1 D =>
          have T := fj_run_ok _ _ _ _ _ _ H.1 e1
          have H := shp_st H T
          j_at (pc := 148) D gn <|
          j_tx (hx_227 _)) (fun q16 h14 e1 =>
          j_tx (hx_227 _)))) (fun q D =>
      j_aldn (pc := 100) D rfl rfl rfl fun D =>
      j_aldn (pc := 101) D rfl rfl rfl fun D =>
      j_ldc2 (pc := 102) D rfl fun D =>
      j_iv (pc := 105) (m := 228) (dd := 297) (a := [(1, (-1))]) (rest := [(4, 377)]) D rfl rfl rfl rfl rfl (by decide) (s0_377 H) (by decide +kernel) (fun v18 h17 e1 D =>
        have T := fj_run_ok _ _ _ _ _ _ H.1 e1
        have H := shp_st H T
        j_pf (pc := 108) (a := 377) D rfl rfl rfl (s0_377 H) rfl rfl (gy (by decide)) (gy rfl) fun h20 eh20 S D =>
        have T := fj_hs_ok H.1 S
        have H := shp_st H T
        j_aldn (pc := 111) D rfl rfl rfl fun D =>
        j_c0 (pc := 112) (v := (1, 0)) D rfl rfl (by decide +kernel) fun D =>
        j_pf (pc := 113) (a := 377) D rfl rfl rfl (s0_377 H) rfl rfl (gy (by decide)) (gy rfl) fun h21 eh21 S D =>
        have T := fj_hs_ok H.1 S
        have H := shp_st H T
        j_aldn (pc := 116) D rfl rfl rfl fun D =>
        j_gs (pc := 117) D rfl fun D =>
        j_pf (pc := 120) (a := 377) D rfl rfl rfl (s0_377 H) rfl rfl (gy (by decide)) (gy rfl) fun h22 eh22 S D =>
        have T := fj_hs_ok H.1 S
        have H := shp_st H T
        j_aldn (pc := 123) D rfl rfl rfl fun D =>
        j_ivv (pc := 124) (m := 166) (dd := 261) (a := []) (rest := []) D rfl rfl rfl rfl rfl (by decide) (s0_377 H) (by decide +kernel) (fun h23 e1 D =>
          have T := fj_run_ok _ _ _ _ _ _ H.1 e1
          have H := shp_st H T
          j_goto (pc := 127) D rfl <|
          fk_jump cut_227_174 rfl rfl) (fun q25 h23 e1 =>
          j_tx (hx_227 _))) (fun q19 h17 e1 =>
        j_tx (hx_227 _)))
theorem e_227_174 (d : Nat) (x1 x2 x3 x5 : Int) {h : fi_H} (H : Shp h) : c_227_174 d x1 x2 x3 x5 h =
  if h 167 377 0 = x1 then
    if 0 ≤ x2 ∧ x2 < 20 then
    lt_ (fi_upd h 10 396 x2.toNat (wI x3)) fun h1 =>
    lt_ (fi_upd h1 10 397 x2.toNat (wI (h1 168 377 0))) fun h3 =>
    lt_ (fi_upd h3 10 398 x2.toNat (wI (h3 169 377 0))) fun h4 =>
    lt_ (fi_upd h4 164 377 0 (wI ((h4 164 377 0) + 1))) fun h5 =>
    c_227_233 d h5
    else none
  else
    ca_ (fj_run d 165 h [(4, 303), (0, 5), (0, x5)]) 4
      (fun v7 h6 =>
      if v7 ≠ 0 then
      tx_ v7.toNat h6
      else none)
      (fun q8 h6 => tx_ q8 h6) := by
  unfold c_227_174
  exact
    have D : fk_D 227 [(174, some [0, 1, 2, 3, 5], .aload_n 0, 1, 0, 0, 0), (175, none, .getfield 414, 3, 167, 115, 12), (178, none, .aload_n 1, 1, 0, 0, 0), (179, none, .if_acmp .eq 14, 3, 193, 0, 0), (182, none, .aload_n 0, 1, 0, 0, 0), (183, none, .getfield 3, 3, 182, 115, 12), (186, none, .iconst 5, 1, 0, 5, 0), (187, none, .iload 5, 2, 0, 0, 0), (189, none, .invokevirtual 186, 3, 2, 257, 5), (192, none, .athrow, 1, 0, 0, 0)] := fq_of2 cd_227 ow_227 cl_227 rfl (pc := 174) (by decide +kernel)
    j_aldn (pc := 174) D rfl rfl rfl fun D =>
    j_gf (pc := 175) (a := 377) D rfl rfl (by decide) rfl (s0_377 H) rfl fun D =>
    j_aldn (pc := 178) D rfl rfl rfl fun D =>
    j_aeq (pc := 179) D rfl (fun q =>
      have D : fk_D 227 [(193, none, .aload_n 0, 1, 0, 0, 0), (194, none, .getfield 85, 3, 179, 115, 12), (197, none, .iload_n 2, 1, 0, 0, 0), (198, none, .lload_n 3, 1, 0, 0, 0), (199, none, .l2i, 1, 0, 0, 0), (200, none, .iastore, 1, 0, 0, 0), (201, none, .aload_n 0, 1, 0, 0, 0), (202, none, .getfield 88, 3, 180, 115, 12), (205, none, .iload_n 2, 1, 0, 0, 0), (206, none, .aload_n 0, 1, 0, 0, 0), (207, none, .getfield 402, 3, 168, 115, 11), (210, none, .l2i, 1, 0, 0, 0), (211, none, .iastore, 1, 0, 0, 0), (212, none, .aload_n 0, 1, 0, 0, 0), (213, none, .getfield 91, 3, 181, 115, 12), (216, none, .iload_n 2, 1, 0, 0, 0), (217, none, .aload_n 0, 1, 0, 0, 0), (218, none, .getfield 405, 3, 169, 115, 11), (221, none, .l2i, 1, 0, 0, 0), (222, none, .iastore, 1, 0, 0, 0)] := fq_of2 cd_227 ow_227 cl_227 rfl (pc := 193) (by decide +kernel)
      j_aldn (pc := 193) D rfl rfl rfl fun D =>
      j_gfc (pc := 194) (a := 377) D rfl rfl (by decide) rfl (s0_377 H) rfl (sf_179_377 H) fun D =>
      j_ildn (pc := 197) D rfl rfl rfl fun D =>
      j_lldn (pc := 198) D rfl rfl rfl fun D =>
      j_l2i (pc := 199) D rfl fun D =>
      j_as (pc := 200) (a := 396) (e := 10) D rfl ⟨rfl, rfl⟩ rfl (by decide) (s0_396 H) (s1_396 H) ⟨rfl, rfl, rfl⟩ rfl gn (gy rfl) fun h1 eh1 S qb2 D =>
      have T := fj_hs_ok H.1 S
      have H := shp_st H T
      j_aldn (pc := 201) D rfl rfl rfl fun D =>
      j_gfc (pc := 202) (a := 377) D rfl rfl (by decide) rfl (s0_377 H) rfl (sf_180_377 H) fun D =>
      j_ildn (pc := 205) D rfl rfl rfl fun D =>
      j_aldn (pc := 206) D rfl rfl rfl fun D =>
      j_gf (pc := 207) (a := 377) D rfl rfl (by decide) rfl (s0_377 H) rfl fun D =>
      j_l2i (pc := 210) D rfl fun D =>
      j_as (pc := 211) (a := 397) (e := 10) D rfl ⟨rfl, rfl⟩ rfl (by decide) (s0_397 H) (s1_397 H) ⟨rfl, rfl, rfl⟩ rfl (gy qb2) (gy rfl) fun h3 eh3 S q D =>
      have T := fj_hs_ok H.1 S
      have H := shp_st H T
      j_aldn (pc := 212) D rfl rfl rfl fun D =>
      j_gfc (pc := 213) (a := 377) D rfl rfl (by decide) rfl (s0_377 H) rfl (sf_181_377 H) fun D =>
      j_ildn (pc := 216) D rfl rfl rfl fun D =>
      j_aldn (pc := 217) D rfl rfl rfl fun D =>
      j_gf (pc := 218) (a := 377) D rfl rfl (by decide) rfl (s0_377 H) rfl fun D =>
      j_l2i (pc := 221) D rfl fun D =>
      j_as (pc := 222) (a := 398) (e := 10) D rfl ⟨rfl, rfl⟩ rfl (by decide) (s0_398 H) (s1_398 H) ⟨rfl, rfl, rfl⟩ rfl (gy qb2) (gy rfl) fun h4 eh4 S q D =>
      have T := fj_hs_ok H.1 S
      have H := shp_st H T
      have D : fk_D 227 [(223, none, .aload_n 0, 1, 0, 0, 0), (224, none, .dup, 1, 0, 0, 0), (225, none, .getfield 125, 3, 164, 115, 10), (228, none, .iconst 1, 1, 0, 1, 0), (229, none, .iadd, 1, 0, 0, 0), (230, none, .putfield 125, 3, 164, 115, 10)] := fq_of2 cd_227 ow_227 cl_227 rfl (pc := 223) (by decide +kernel)
      j_aldn (pc := 223) D rfl rfl rfl fun D =>
      j_sh (pc := 224) D rfl rfl rfl fun D =>
      j_gf (pc := 225) (a := 377) D rfl rfl (by decide) rfl (s0_377 H) rfl fun D =>
      j_ic (pc := 228) D rfl fun D =>
      j_iadd (pc := 229) D rfl fun D =>
      j_pf (pc := 230) (a := 377) D rfl rfl rfl (s0_377 H) rfl rfl (gy (by decide)) (gy rfl) fun h5 eh5 S D =>
      have T := fj_hs_ok H.1 S
      have H := shp_st H T
      fk_jump cut_227_233 rfl rfl) (fun q D =>
      j_aldn (pc := 182) D rfl rfl rfl fun D =>
      j_gfc (pc := 183) (a := 377) D rfl rfl (by decide) rfl (s0_377 H) rfl (sf_182_377 H) fun D =>
      j_ic (pc := 186) D rfl fun D =>
      j_ild (pc := 187) D rfl rfl rfl fun D =>
      j_iv (pc := 189) (m := 165) (dd := 257) (a := [(0, 5), (0, x5)]) (rest := []) D rfl rfl rfl rfl rfl (by decide) (s0_303 H) (by decide +kernel) (fun v7 h6 e1 D =>
        have T := fj_run_ok _ _ _ _ _ _ H.1 e1
        have H := shp_st H T
        j_at (pc := 192) D gn <|
        j_tx (hx_227 _)) (fun q8 h6 e1 =>
        j_tx (hx_227 _)))
theorem e_227_233 (d : Nat) {h : fi_H} (H : Shp h) : c_227_233 d h =
  cv_ (fj_run d 182 h [(4, 377), (0, 59)])
    (fun h1 =>
    some (.inl none, h1))
    (fun q3 h1 => tx_ q3 h1) := by
  unfold c_227_233
  exact
    have D : fk_D 227 [(233, some [0], .aload_n 0, 1, 0, 0, 0), (234, none, .bipush 59, 2, 0, 59, 0), (236, none, .invokevirtual 216, 3, 1, 264, 0), (239, none, .return_, 1, 0, 0, 0)] := fq_of2 cd_227 ow_227 cl_227 rfl (pc := 233) (by decide +kernel)
    j_aldn (pc := 233) D rfl rfl rfl fun D =>
    j_bp (pc := 234) D rfl fun D =>
    j_ivv (pc := 236) (m := 182) (dd := 264) (a := [(0, 59)]) (rest := []) D rfl rfl rfl rfl rfl (by decide) (s0_377 H) (by decide +kernel) (fun h1 e1 D =>
      have T := fj_run_ok _ _ _ _ _ _ H.1 e1
      have H := shp_st H T
      j_vret D rt_227) (fun q3 h1 e1 =>
      j_tx (hx_227 _))
theorem m_227 (d : Nat) (x1 x2 : Int) {h : fi_H} (H : Shp h) : fj_run (d + 1) 227 h [(4, 377), (4, x1), (0, x2)] =
  if x2 = 0 then
    c_227_20 d x1 x2 377 (-1) h
  else
    if 0 ≤ wI (x2 - 1) ∧ wI (x2 - 1) < 20 then
    c_227_20 d x1 x2 377 (wI (h 10 396 (wI (x2 - 1)).toNat)) h
    else none := by
  rw [fj_run_eq d (by decide) h [(4, 377), (4, x1), (0, x2)] (Nat.le_of_ble_eq_true (by rw [nl_227]; rfl))]
  show gG (fj_run d) 227 0 [(0, (4, 377)), (1, (4, x1)), (2, (0, x2))] [] h = _
  exact
    have D : fk_D 227 [(0, none, .aload_n 0, 1, 0, 0, 0), (1, none, .iload_n 2, 1, 0, 0, 0), (2, none, .ifCond .ne 9, 3, 11, 0, 0), (5, none, .ldc2_w 665, 3, 1, (-1), 0), (8, none, .goto 12, 3, 20, 0, 0)] := fq_of2 cd_227 ow_227 cl_227 rfl (pc := 0) (by decide +kernel)
    j_aldn (pc := 0) D rfl rfl rfl fun D =>
    j_ildn (pc := 1) D rfl rfl rfl fun D =>
    j_ifne (pc := 2) D rfl (fun q D =>
      j_ldc2 (pc := 5) D rfl fun D =>
      j_goto (pc := 8) D rfl <|
      fk_jump cut_227_20 rfl rfl) (fun q =>
      have D : fk_D 227 [(11, none, .aload_n 0, 1, 0, 0, 0), (12, none, .getfield 85, 3, 179, 115, 12), (15, none, .iload_n 2, 1, 0, 0, 0), (16, none, .iconst 1, 1, 0, 1, 0), (17, none, .isub, 1, 0, 0, 0), (18, none, .iaload, 1, 0, 0, 0), (19, none, .i2l, 1, 0, 0, 0)] := fq_of2 cd_227 ow_227 cl_227 rfl (pc := 11) (by decide +kernel)
      j_aldn (pc := 11) D rfl rfl rfl fun D =>
      j_gfc (pc := 12) (a := 377) D rfl rfl (by decide) rfl (s0_377 H) rfl (sf_179_377 H) fun D =>
      j_ildn (pc := 15) D rfl rfl rfl fun D =>
      j_ic (pc := 16) D rfl fun D =>
      j_isub (pc := 17) D rfl fun D =>
      j_al (pc := 18) (a := 396) (e := 10) D rfl rfl rfl (by decide) (s0_396 H) (s1_396 H) ⟨rfl, rfl, rfl⟩ rfl gn fun qb1 D =>
      j_i2l (pc := 19) D rfl fun D =>
      fk_jump cut_227_20 rfl rfl)
/-! 228 StatuteHouse$Reader.bound(J)J -/
theorem cd_228 : fi_code 228 = prog_53_method_56_code := rfl
theorem hx_228 : ∀ pc, fi_hat 228 pc = none := fun pc => by unfold fi_hat; rw [show fi_hh 228 = [] from rfl]; rfl
theorem rt_228 : fi_ret 228 = some .long := rfl
theorem nl_228 : fi_nl 228 = 5 := rfl
theorem ow_228 : fi_ow 228 = 15 := rfl
theorem cl_228 : fj_cutT.getD 228 [] = [(43, [0])] := rfl
theorem cut_228_43 : fj_cut 228 43 = some [0] := by decide +kernel
noncomputable def c_228_43 (d : Nat) (h : fi_H) : fk_R := gG (fj_run d) 228 43 [(0, (4, 377))] [] h
theorem e_228_43 (d : Nat) {h : fi_H} (H : Shp h) : c_228_43 d h =
  ca_ (fj_run d 164 h [(4, 377), (0, 3)]) 4
    (fun v2 h1 =>
    if v2 ≠ 0 then
    tx_ v2.toNat h1
    else none)
    (fun q3 h1 => tx_ q3 h1) := by
  unfold c_228_43
  exact
    have D : fk_D 228 [(43, some [0], .aload_n 0, 1, 0, 0, 0), (44, none, .iconst 3, 1, 0, 3, 0), (45, none, .invokevirtual 190, 3, 1, 258, 5), (48, none, .athrow, 1, 0, 0, 0)] := fq_of2 cd_228 ow_228 cl_228 rfl (pc := 43) (by decide +kernel)
    j_aldn (pc := 43) D rfl rfl rfl fun D =>
    j_ic (pc := 44) D rfl fun D =>
    j_iv (pc := 45) (m := 164) (dd := 258) (a := [(0, 3)]) (rest := []) D rfl rfl rfl rfl rfl (by decide) (s0_377 H) (by decide +kernel) (fun v2 h1 e1 D =>
      have T := fj_run_ok _ _ _ _ _ _ H.1 e1
      have H := shp_st H T
      j_at (pc := 48) D gn <|
      j_tx (hx_228 _)) (fun q3 h1 e1 =>
      j_tx (hx_228 _))
theorem m_228 (d : Nat) (x1 : Int) {h : fi_H} (H : Shp h) : fj_run (d + 1) 228 h [(4, 377), (1, x1)] =
  if 0 ≤ h 158 377 0 ∧ h 158 377 0 < 1202 then
  if h 8 378 (h 158 377 0).toNat = 4 then
    if 0 < lc_ (h 11 381 (h 158 377 0).toNat) 999999999 then
      c_228_43 d h
    else
      if 0 < lc_ (h 11 381 (h 158 377 0).toNat) x1 then
        some (.inl (some (1, h 11 381 (h 158 377 0).toNat)), h)
      else
        c_228_43 d h
  else
    ca_ (fj_run d 164 h [(4, 377), (0, 1)]) 4
      (fun v3 h2 =>
      if v3 ≠ 0 then
      tx_ v3.toNat h2
      else none)
      (fun q4 h2 => tx_ q4 h2)
  else none := by
  rw [fj_run_eq d (by decide) h [(4, 377), (1, x1)] (Nat.le_of_ble_eq_true (by rw [nl_228]; rfl))]
  show gG (fj_run d) 228 0 [(0, (4, 377)), (1, (1, x1))] [] h = _
  exact
    have D : fk_D 228 [(0, none, .aload_n 0, 1, 0, 0, 0), (1, none, .getfield 15, 3, 149, 115, 12), (4, none, .aload_n 0, 1, 0, 0, 0), (5, none, .getfield 104, 3, 158, 115, 10), (8, none, .baload, 1, 0, 0, 0), (9, none, .iconst 4, 1, 0, 4, 0), (10, none, .if_icmp .eq 9, 3, 19, 0, 0), (13, none, .aload_n 0, 1, 0, 0, 0), (14, none, .iconst 1, 1, 0, 1, 0), (15, none, .invokevirtual 190, 3, 1, 258, 5), (18, none, .athrow, 1, 0, 0, 0)] := fq_of2 cd_228 ow_228 cl_228 rfl (pc := 0) (by decide +kernel)
    j_aldn (pc := 0) D rfl rfl rfl fun D =>
    j_gfc (pc := 1) (a := 377) D rfl rfl (by decide) rfl (s0_377 H) rfl (sf_149_377 H) fun D =>
    j_aldn (pc := 4) D rfl rfl rfl fun D =>
    j_gf (pc := 5) (a := 377) D rfl rfl (by decide) rfl (s0_377 H) rfl fun D =>
    j_al (pc := 8) (a := 378) (e := 8) D rfl rfl rfl (by decide) (s0_378 H) (s1_378 H) ⟨rfl, rfl, rfl⟩ rfl gn fun qb1 D =>
    j_ic (pc := 9) D rfl fun D =>
    j_ieq (pc := 10) D rfl (fun q =>
      have D : fk_D 228 [(19, none, .aload_n 0, 1, 0, 0, 0), (20, none, .getfield 27, 3, 152, 115, 12), (23, none, .aload_n 0, 1, 0, 0, 0), (24, none, .getfield 104, 3, 158, 115, 10), (27, none, .laload, 1, 0, 0, 0), (28, none, .lstore_n 3, 1, 0, 0, 0), (29, none, .lload_n 3, 1, 0, 0, 0), (30, none, .ldc2_w 400, 3, 1, 999999999, 0), (33, none, .lcmp, 1, 0, 0, 0), (34, none, .ifCond .gt 9, 3, 43, 0, 0), (37, none, .lload_n 3, 1, 0, 0, 0), (38, none, .lload_n 1, 1, 0, 0, 0), (39, none, .lcmp, 1, 0, 0, 0), (40, none, .ifCond .gt 9, 3, 49, 0, 0)] := fq_of2 cd_228 ow_228 cl_228 rfl (pc := 19) (by decide +kernel)
      j_aldn (pc := 19) D rfl rfl rfl fun D =>
      j_gfc (pc := 20) (a := 377) D rfl rfl (by decide) rfl (s0_377 H) rfl (sf_152_377 H) fun D =>
      j_aldn (pc := 23) D rfl rfl rfl fun D =>
      j_gf (pc := 24) (a := 377) D rfl rfl (by decide) rfl (s0_377 H) rfl fun D =>
      j_al (pc := 27) (a := 381) (e := 11) D rfl rfl rfl (by decide) (s0_381 H) (s1_381 H) ⟨rfl, rfl, rfl⟩ rfl (gy qb1) fun q D =>
      j_lstn (pc := 28) (L' := [(3, (1, h 11 381 (h 158 377 0).toNat)), (0, (4, 377)), (1, (1, x1))]) D rfl nl_228 rfl rfl fun D =>
      j_lldn (pc := 29) D rfl rfl rfl fun D =>
      j_ldc2 (pc := 30) D rfl fun D =>
      j_lcmp (pc := 33) D rfl fun D =>
      j_ifgt (pc := 34) D rfl (fun q =>
        fk_jump cut_228_43 rfl rfl) (fun q D =>
        j_lldn (pc := 37) D rfl rfl rfl fun D =>
        j_lldn (pc := 38) D rfl rfl rfl fun D =>
        j_lcmp (pc := 39) D rfl fun D =>
        j_ifgt (pc := 40) D rfl (fun q =>
          have D : fk_D 228 [(49, none, .lload_n 3, 1, 0, 0, 0), (50, none, .lreturn, 1, 0, 0, 0)] := fq_of2 cd_228 ow_228 cl_228 rfl (pc := 49) (by decide +kernel)
          j_lldn (pc := 49) D rfl rfl rfl fun D =>
          j_lret D rt_228) (fun q D =>
          fk_jump cut_228_43 rfl rfl))) (fun q D =>
      j_aldn (pc := 13) D rfl rfl rfl fun D =>
      j_ic (pc := 14) D rfl fun D =>
      j_iv (pc := 15) (m := 164) (dd := 258) (a := [(0, 1)]) (rest := []) D rfl rfl rfl rfl rfl (by decide) (s0_377 H) (by decide +kernel) (fun v3 h2 e1 D =>
        have T := fj_run_ok _ _ _ _ _ _ H.1 e1
        have H := shp_st H T
        j_at (pc := 18) D gn <|
        j_tx (hx_228 _)) (fun q4 h2 e1 =>
        j_tx (hx_228 _)))
/-! 229 StatuteHouse$Reader.termName()I -/
theorem cd_229 : fi_code 229 = prog_53_method_52_code := rfl
theorem hx_229 : ∀ pc, fi_hat 229 pc = none := fun pc => by unfold fi_hat; rw [show fi_hh 229 = [] from rfl]; rfl
theorem rt_229 : fi_ret 229 = some .int := rfl
theorem nl_229 : fi_nl 229 = 2 := rfl
theorem ow_229 : fi_ow 229 = 15 := rfl
theorem cl_229 : fj_cutT.getD 229 [] = [] := rfl
theorem m_229 (d : Nat) {h : fi_H} (H : Shp h) : fj_run (d + 1) 229 h [(4, 377)] =
  ca_ (fj_run d 211 h [(4, 377)]) 0
    (fun v2 h1 =>
    if 0 ≤ v2 ∧ v2 < 40 then
    if h1 0 (h1 12 320 v2.toNat).toNat 0 = 124 then
    if h1 322 (h1 12 320 v2.toNat).toNat 0 = 0 then
      ca_ (fj_run d 164 h1 [(4, 377), (0, 2)]) 4
        (fun v7 h6 =>
        if v7 ≠ 0 then
        tx_ v7.toNat h6
        else none)
        (fun q8 h6 => tx_ q8 h6)
    else
      some (.inl (some (0, v2)), h1)
    else none
    else none)
    (fun q3 h1 => tx_ q3 h1) := by
  rw [fj_run_eq d (by decide) h [(4, 377)] (Nat.le_of_ble_eq_true (by rw [nl_229]; rfl))]
  show gG (fj_run d) 229 0 [(0, (4, 377))] [] h = _
  exact
    have D : fk_D 229 [(0, none, .aload_n 0, 1, 0, 0, 0), (1, none, .invokevirtual 632, 3, 0, 293, 1), (4, none, .istore_n 1, 1, 0, 0, 0), (5, none, .aload_n 0, 1, 0, 0, 0), (6, none, .getfield 3, 3, 182, 115, 12), (9, none, .getfield 368, 3, 214, 100, 12), (12, none, .iload_n 1, 1, 0, 0, 0), (13, none, .aaload, 1, 0, 0, 0), (14, none, .getfield 504, 3, 322, (-124), 4), (17, none, .ifCond .ne 9, 3, 26, 0, 0), (20, none, .aload_n 0, 1, 0, 0, 0), (21, none, .iconst 2, 1, 0, 2, 0), (22, none, .invokevirtual 190, 3, 1, 258, 5), (25, none, .athrow, 1, 0, 0, 0)] := fq_of2 cd_229 ow_229 cl_229 rfl (pc := 0) (by decide +kernel)
    j_aldn (pc := 0) D rfl rfl rfl fun D =>
    j_iv (pc := 1) (m := 211) (dd := 293) (a := []) (rest := []) D rfl rfl rfl rfl rfl (by decide) (s0_377 H) (by decide +kernel) (fun v2 h1 e1 D =>
      have T := fj_run_ok _ _ _ _ _ _ H.1 e1
      have H := shp_st H T
      j_istn (pc := 4) (L' := [(1, (0, v2)), (0, (4, 377))]) D rfl nl_229 rfl rfl fun D =>
      j_aldn (pc := 5) D rfl rfl rfl fun D =>
      j_gfc (pc := 6) (a := 377) D rfl rfl (by decide) rfl (s0_377 H) rfl (sf_182_377 H) fun D =>
      j_gfc (pc := 9) (a := 303) D rfl rfl (by decide) rfl (s0_303 H) rfl (sf_214_303 H) fun D =>
      j_ildn (pc := 12) D rfl rfl rfl fun D =>
      j_al (pc := 13) (a := 320) (e := 12) D rfl rfl rfl (by decide) (s0_320 H) (s1_320 H) ⟨rfl, rfl, rfl⟩ rfl gn fun qb4 D =>
      j_gfo (pc := 14) H.2.1 D rfl rfl rfl rfl fun kc5 D =>
      j_ifne (pc := 17) D rfl (fun q D =>
        j_aldn (pc := 20) D rfl rfl rfl fun D =>
        j_ic (pc := 21) D rfl fun D =>
        j_iv (pc := 22) (m := 164) (dd := 258) (a := [(0, 2)]) (rest := []) D rfl rfl rfl rfl rfl (by decide) (s0_377 H) (by decide +kernel) (fun v7 h6 e1 D =>
          have T := fj_run_ok _ _ _ _ _ _ H.1 e1
          have H := shp_st H T
          j_at (pc := 25) D gn <|
          j_tx (hx_229 _)) (fun q8 h6 e1 =>
          j_tx (hx_229 _))) (fun q =>
        have D : fk_D 229 [(26, none, .iload_n 1, 1, 0, 0, 0), (27, none, .ireturn, 1, 0, 0, 0)] := fq_of2 cd_229 ow_229 cl_229 rfl (pc := 26) (by decide +kernel)
        j_ildn (pc := 26) D rfl rfl rfl fun D =>
        j_iret D rt_229)) (fun q3 h1 e1 =>
      j_tx (hx_229 _))
/-! 230 StatuteHouse$Reader.whole(LStatuteHouse$Kind;)LStatuteHouse$Part; -/
theorem cd_230 : fi_code 230 = prog_53_method_59_code := rfl
theorem hx_230 : ∀ pc, fi_hat 230 pc = none := fun pc => by unfold fi_hat; rw [show fi_hh 230 = [] from rfl]; rfl
theorem rt_230 : fj_ft (fi_ret 230) = 5 := rfl
theorem nl_230 : fi_nl 230 = 4 := rfl
theorem ow_230 : fi_ow 230 = 15 := rfl
theorem cl_230 : fj_cutT.getD 230 [] = [] := rfl
theorem m_230 (d : Nat) (x1 : Int) {h : fi_H} (H : Shp h) : fj_run (d + 1) 230 h [(4, 377), (4, x1)] =
  if 0 ≤ h 158 377 0 ∧ h 158 377 0 < 1202 then
  ca_ (fj_run d 231 h [(4, 377)]) 4
    (fun v3 h2 =>
    if fi_in (h2 0 v3.toNat 0) 340 = true then
    if h2 340 v3.toNat 0 = x1 then
      some (.inl (some (4, v3)), h2)
    else
      ca_ (fj_run d 165 h2 [(4, 303), (0, 5), (0, h 9 379 (h 158 377 0).toNat)]) 4
        (fun v6 h5 =>
        if v6 ≠ 0 then
        tx_ v6.toNat h5
        else none)
        (fun q7 h5 => tx_ q7 h5)
    else none)
    (fun q4 h2 => tx_ q4 h2)
  else none := by
  rw [fj_run_eq d (by decide) h [(4, 377), (4, x1)] (Nat.le_of_ble_eq_true (by rw [nl_230]; rfl))]
  show gG (fj_run d) 230 0 [(0, (4, 377)), (1, (4, x1))] [] h = _
  exact
    have D : fk_D 230 [(0, none, .aload_n 0, 1, 0, 0, 0), (1, none, .getfield 19, 3, 150, 115, 12), (4, none, .aload_n 0, 1, 0, 0, 0), (5, none, .getfield 104, 3, 158, 115, 10), (8, none, .saload, 1, 0, 0, 0), (9, none, .istore_n 2, 1, 0, 0, 0), (10, none, .aload_n 0, 1, 0, 0, 0), (11, none, .invokevirtual 688, 3, 0, 301, 5), (14, none, .astore_n 3, 1, 0, 0, 0), (15, none, .aload_n 3, 1, 0, 0, 0), (16, none, .getfield 691, 3, 340, 0, 12), (19, none, .aload_n 1, 1, 0, 0, 0), (20, none, .if_acmp .eq 13, 3, 33, 0, 0), (23, none, .aload_n 0, 1, 0, 0, 0), (24, none, .getfield 3, 3, 182, 115, 12), (27, none, .iconst 5, 1, 0, 5, 0), (28, none, .iload_n 2, 1, 0, 0, 0), (29, none, .invokevirtual 186, 3, 2, 257, 5), (32, none, .athrow, 1, 0, 0, 0)] := fq_of2 cd_230 ow_230 cl_230 rfl (pc := 0) (by decide +kernel)
    j_aldn (pc := 0) D rfl rfl rfl fun D =>
    j_gfc (pc := 1) (a := 377) D rfl rfl (by decide) rfl (s0_377 H) rfl (sf_150_377 H) fun D =>
    j_aldn (pc := 4) D rfl rfl rfl fun D =>
    j_gf (pc := 5) (a := 377) D rfl rfl (by decide) rfl (s0_377 H) rfl fun D =>
    j_al (pc := 8) (a := 379) (e := 9) D rfl rfl rfl (by decide) (s0_379 H) (s1_379 H) ⟨rfl, rfl, rfl⟩ rfl gn fun qb1 D =>
    j_istn (pc := 9) (L' := [(2, (0, h 9 379 (h 158 377 0).toNat)), (0, (4, 377)), (1, (4, x1))]) D rfl nl_230 rfl rfl fun D =>
    j_aldn (pc := 10) D rfl rfl rfl fun D =>
    j_iv (pc := 11) (m := 231) (dd := 301) (a := []) (rest := []) D rfl rfl rfl rfl rfl (by decide) (s0_377 H) (by decide +kernel) (fun v3 h2 e1 D =>
      have T := fj_run_ok _ _ _ _ _ _ H.1 e1
      have H := shp_st H T
      j_astn (pc := 14) (L' := [(3, (4, v3)), (2, (0, h 9 379 (h 158 377 0).toNat)), (0, (4, 377)), (1, (4, x1))]) D rfl nl_230 rfl rfl fun D =>
      j_aldn (pc := 15) D rfl rfl rfl fun D =>
      j_gfu (pc := 16) H.2.1 D rfl rfl fun q D =>
      j_aldn (pc := 19) D rfl rfl rfl fun D =>
      j_aeq (pc := 20) D rfl (fun q =>
        have D : fk_D 230 [(33, none, .aload_n 3, 1, 0, 0, 0), (34, none, .areturn, 1, 0, 0, 0)] := fq_of2 cd_230 ow_230 cl_230 rfl (pc := 33) (by decide +kernel)
        j_aldn (pc := 33) D rfl rfl rfl fun D =>
        j_aret D rt_230) (fun q D =>
        j_aldn (pc := 23) D rfl rfl rfl fun D =>
        j_gfc (pc := 24) (a := 377) D rfl rfl (by decide) rfl (s0_377 H) rfl (sf_182_377 H) fun D =>
        j_ic (pc := 27) D rfl fun D =>
        j_ildn (pc := 28) D rfl rfl rfl fun D =>
        j_iv (pc := 29) (m := 165) (dd := 257) (a := [(0, 5), (0, h 9 379 (h 158 377 0).toNat)]) (rest := []) D rfl rfl rfl rfl rfl (by decide) (s0_303 H) (by decide +kernel) (fun v6 h5 e1 D =>
          have T := fj_run_ok _ _ _ _ _ _ H.1 e1
          have H := shp_st H T
          j_at (pc := 32) D gn <|
          j_tx (hx_230 _)) (fun q7 h5 e1 =>
          j_tx (hx_230 _)))) (fun q4 h2 e1 =>
      j_tx (hx_230 _))
/-! 231 StatuteHouse$Reader.ex()LStatuteHouse$Part; -/
theorem cd_231 : fi_code 231 = prog_53_method_61_code := rfl
theorem hx_231 : ∀ pc, fi_hat 231 pc = none := fun pc => by unfold fi_hat; rw [show fi_hh 231 = [] from rfl]; rfl
theorem rt_231 : fj_ft (fi_ret 231) = 5 := rfl
theorem nl_231 : fi_nl 231 = 2 := rfl
theorem ow_231 : fi_ow 231 = 15 := rfl
theorem cl_231 : fj_cutT.getD 231 [] = [(5, [0, 1])] := rfl
theorem cut_231_5 : fj_cut 231 5 = some [0, 1] := by decide +kernel
noncomputable def c_231_5 (d : Nat) (x1 : Int) (h : fi_H) : fk_R := gG (fj_run d) 231 5 [(0, (4, 377)), (1, (4, x1))] [] h
theorem e_231_5 (d : Nat) (x1 : Int) {h : fi_H} (H : Shp h) : c_231_5 d x1 h =
  ca_ (fj_run d 162 h [(4, 377), (4, 223)]) 0
    (fun v2 h1 =>
    if v2 = 0 then
      some (.inl (some (4, x1)), h1)
    else
      ca_ (fj_run d 297 h1 [(4, 377), (4, 15), (4, x1)]) 4
        (fun v5 h4 =>
        c_231_5 d v5 h4)
        (fun q6 h4 => tx_ q6 h4))
    (fun q3 h1 => tx_ q3 h1) := by
  unfold c_231_5
  exact
    have D : fk_D 231 [(5, some [0, 1], .aload_n 0, 1, 0, 0, 0), (6, none, .ldc_w 300, 3, 4, 223, 0), (9, none, .invokevirtual 209, 3, 1, 262, 1), (12, none, .ifCond .eq 15, 3, 27, 0, 0), (15, none, .aload_n 0, 1, 0, 0, 0), (16, none, .getstatic 700, 3, 4, 15, 0), (19, none, .aload_n 1, 1, 0, 0, 0), (20, none, .invokevirtual 706, 3, 2, 304, 5), (23, none, .astore_n 1, 1, 0, 0, 0), (24, none, .goto (-19), 3, 5, 0, 0)] := fq_of2 cd_231 ow_231 cl_231 rfl (pc := 5) (by decide +kernel)
    j_aldn (pc := 5) D rfl rfl rfl fun D =>
    j_ldcw (pc := 6) D rfl fun D =>
    j_iv (pc := 9) (m := 162) (dd := 262) (a := [(4, 223)]) (rest := []) D rfl rfl rfl rfl rfl (by decide) (s0_377 H) (by decide +kernel) (fun v2 h1 e1 D =>
      have T := fj_run_ok _ _ _ _ _ _ H.1 e1
      have H := shp_st H T
      j_ifeq (pc := 12) D rfl (fun q =>
        have D : fk_D 231 [(27, none, .aload_n 1, 1, 0, 0, 0), (28, none, .areturn, 1, 0, 0, 0)] := fq_of2 cd_231 ow_231 cl_231 rfl (pc := 27) (by decide +kernel)
        j_aldn (pc := 27) D rfl rfl rfl fun D =>
        j_aret D rt_231) (fun q D =>
        j_aldn (pc := 15) D rfl rfl rfl fun D =>
        j_gs (pc := 16) D rfl fun D =>
        j_aldn (pc := 19) D rfl rfl rfl fun D =>
        j_iv (pc := 20) (m := 297) (dd := 304) (a := [(4, 15), (4, x1)]) (rest := []) D rfl rfl rfl rfl rfl (by decide) (s0_377 H) (by decide +kernel) (fun v5 h4 e1 D =>
          have T := fj_run_ok _ _ _ _ _ _ H.1 e1
          have H := shp_st H T
          j_astn (pc := 23) (L' := [(1, (4, v5)), (0, (4, 377))]) D rfl nl_231 rfl rfl fun D =>
          j_goto (pc := 24) D rfl <|
          fk_jump cut_231_5 rfl rfl) (fun q6 h4 e1 =>
          j_tx (hx_231 _)))) (fun q3 h1 e1 =>
      j_tx (hx_231 _))
theorem m_231 (d : Nat) {h : fi_H} (H : Shp h) : fj_run (d + 1) 231 h [(4, 377)] =
  ca_ (fj_run d 232 h [(4, 377)]) 4
    (fun v2 h1 =>
    c_231_5 d v2 h1)
    (fun q3 h1 => tx_ q3 h1) := by
  rw [fj_run_eq d (by decide) h [(4, 377)] (Nat.le_of_ble_eq_true (by rw [nl_231]; rfl))]
  show gG (fj_run d) 231 0 [(0, (4, 377))] [] h = _
  exact
    have D : fk_D 231 [(0, none, .aload_n 0, 1, 0, 0, 0), (1, none, .invokevirtual 697, 3, 0, 303, 5), (4, none, .astore_n 1, 1, 0, 0, 0)] := fq_of2 cd_231 ow_231 cl_231 rfl (pc := 0) (by decide +kernel)
    j_aldn (pc := 0) D rfl rfl rfl fun D =>
    j_iv (pc := 1) (m := 232) (dd := 303) (a := []) (rest := []) D rfl rfl rfl rfl rfl (by decide) (s0_377 H) (by decide +kernel) (fun v2 h1 e1 D =>
      have T := fj_run_ok _ _ _ _ _ _ H.1 e1
      have H := shp_st H T
      j_astn (pc := 4) (L' := [(1, (4, v2)), (0, (4, 377))]) D rfl nl_231 rfl rfl fun D =>
      fk_jump cut_231_5 rfl rfl) (fun q3 h1 e1 =>
      j_tx (hx_231 _))
/-! 232 StatuteHouse$Reader.both()LStatuteHouse$Part; -/
theorem cd_232 : fi_code 232 = prog_53_method_62_code := rfl
theorem hx_232 : ∀ pc, fi_hat 232 pc = none := fun pc => by unfold fi_hat; rw [show fi_hh 232 = [] from rfl]; rfl
theorem rt_232 : fj_ft (fi_ret 232) = 5 := rfl
theorem nl_232 : fi_nl 232 = 2 := rfl
theorem ow_232 : fi_ow 232 = 15 := rfl
theorem cl_232 : fj_cutT.getD 232 [] = [(5, [0, 1])] := rfl
theorem cut_232_5 : fj_cut 232 5 = some [0, 1] := by decide +kernel
noncomputable def c_232_5 (d : Nat) (x1 : Int) (h : fi_H) : fk_R := gG (fj_run d) 232 5 [(0, (4, 377)), (1, (4, x1))] [] h
theorem e_232_5 (d : Nat) (x1 : Int) {h : fi_H} (H : Shp h) : c_232_5 d x1 h =
  ca_ (fj_run d 162 h [(4, 377), (4, 225)]) 0
    (fun v2 h1 =>
    if v2 = 0 then
      some (.inl (some (4, x1)), h1)
    else
      ca_ (fj_run d 297 h1 [(4, 377), (4, 16), (4, x1)]) 4
        (fun v5 h4 =>
        c_232_5 d v5 h4)
        (fun q6 h4 => tx_ q6 h4))
    (fun q3 h1 => tx_ q3 h1) := by
  unfold c_232_5
  exact
    have D : fk_D 232 [(5, some [0, 1], .aload_n 0, 1, 0, 0, 0), (6, none, .ldc_w 302, 3, 4, 225, 0), (9, none, .invokevirtual 209, 3, 1, 262, 1), (12, none, .ifCond .eq 15, 3, 27, 0, 0), (15, none, .aload_n 0, 1, 0, 0, 0), (16, none, .getstatic 713, 3, 4, 16, 0), (19, none, .aload_n 1, 1, 0, 0, 0), (20, none, .invokevirtual 706, 3, 2, 304, 5), (23, none, .astore_n 1, 1, 0, 0, 0), (24, none, .goto (-19), 3, 5, 0, 0)] := fq_of2 cd_232 ow_232 cl_232 rfl (pc := 5) (by decide +kernel)
    j_aldn (pc := 5) D rfl rfl rfl fun D =>
    j_ldcw (pc := 6) D rfl fun D =>
    j_iv (pc := 9) (m := 162) (dd := 262) (a := [(4, 225)]) (rest := []) D rfl rfl rfl rfl rfl (by decide) (s0_377 H) (by decide +kernel) (fun v2 h1 e1 D =>
      have T := fj_run_ok _ _ _ _ _ _ H.1 e1
      have H := shp_st H T
      j_ifeq (pc := 12) D rfl (fun q =>
        have D : fk_D 232 [(27, none, .aload_n 1, 1, 0, 0, 0), (28, none, .areturn, 1, 0, 0, 0)] := fq_of2 cd_232 ow_232 cl_232 rfl (pc := 27) (by decide +kernel)
        j_aldn (pc := 27) D rfl rfl rfl fun D =>
        j_aret D rt_232) (fun q D =>
        j_aldn (pc := 15) D rfl rfl rfl fun D =>
        j_gs (pc := 16) D rfl fun D =>
        j_aldn (pc := 19) D rfl rfl rfl fun D =>
        j_iv (pc := 20) (m := 297) (dd := 304) (a := [(4, 16), (4, x1)]) (rest := []) D rfl rfl rfl rfl rfl (by decide) (s0_377 H) (by decide +kernel) (fun v5 h4 e1 D =>
          have T := fj_run_ok _ _ _ _ _ _ H.1 e1
          have H := shp_st H T
          j_astn (pc := 23) (L' := [(1, (4, v5)), (0, (4, 377))]) D rfl nl_232 rfl rfl fun D =>
          j_goto (pc := 24) D rfl <|
          fk_jump cut_232_5 rfl rfl) (fun q6 h4 e1 =>
          j_tx (hx_232 _)))) (fun q3 h1 e1 =>
      j_tx (hx_232 _))
theorem m_232 (d : Nat) {h : fi_H} (H : Shp h) : fj_run (d + 1) 232 h [(4, 377)] =
  ca_ (fj_run d 233 h [(4, 377)]) 4
    (fun v2 h1 =>
    c_232_5 d v2 h1)
    (fun q3 h1 => tx_ q3 h1) := by
  rw [fj_run_eq d (by decide) h [(4, 377)] (Nat.le_of_ble_eq_true (by rw [nl_232]; rfl))]
  show gG (fj_run d) 232 0 [(0, (4, 377))] [] h = _
  exact
    have D : fk_D 232 [(0, none, .aload_n 0, 1, 0, 0, 0), (1, none, .invokevirtual 710, 3, 0, 305, 5), (4, none, .astore_n 1, 1, 0, 0, 0)] := fq_of2 cd_232 ow_232 cl_232 rfl (pc := 0) (by decide +kernel)
    j_aldn (pc := 0) D rfl rfl rfl fun D =>
    j_iv (pc := 1) (m := 233) (dd := 305) (a := []) (rest := []) D rfl rfl rfl rfl rfl (by decide) (s0_377 H) (by decide +kernel) (fun v2 h1 e1 D =>
      have T := fj_run_ok _ _ _ _ _ _ H.1 e1
      have H := shp_st H T
      j_astn (pc := 4) (L' := [(1, (4, v2)), (0, (4, 377))]) D rfl nl_232 rfl rfl fun D =>
      fk_jump cut_232_5 rfl rfl) (fun q3 h1 e1 =>
      j_tx (hx_232 _))
/-! 233 StatuteHouse$Reader.bare()LStatuteHouse$Part; -/
theorem cd_233 : fi_code 233 = prog_53_method_67_code := rfl
theorem hx_233 : ∀ pc, fi_hat 233 pc = none := fun pc => by unfold fi_hat; rw [show fi_hh 233 = [] from rfl]; rfl
theorem rt_233 : fj_ft (fi_ret 233) = 5 := rfl
theorem nl_233 : fi_nl 233 = 3 := rfl
theorem ow_233 : fi_ow 233 = 15 := rfl
theorem cl_233 : fj_cutT.getD 233 [] = [] := rfl
theorem m_233 (d : Nat) {h : fi_H} (H : Shp h) : fj_run (d + 1) 233 h [(4, 377)] =
  ca_ (fj_run d 162 h [(4, 377), (4, 227)]) 0
    (fun v2 h1 =>
    if v2 = 0 then
      ca_ (fj_run d 234 h1 [(4, 377)]) 4
        (fun v5 h4 =>
        some (.inl (some (4, v5)), h4))
        (fun q6 h4 => tx_ q6 h4)
    else
      if 0 ≤ h1 158 377 0 ∧ h1 158 377 0 < 1202 then
      cv_ (fj_run d 241 h1 [(4, 377)])
        (fun h8 =>
        ca_ (fj_run d 233 h8 [(4, 377)]) 4
          (fun v12 h11 =>
          lt_ (fi_upd h11 159 377 0 (wI ((h11 159 377 0) - 1))) fun h14 =>
          ca_ (fj_run d 295 h14 [(4, 377), (4, v12), (0, 1), (0, h1 9 379 (h1 158 377 0).toNat)]) 4
            (fun v16 h15 =>
            some (.inl (some (4, v16)), h15))
            (fun q17 h15 => tx_ q17 h15))
          (fun q13 h11 => tx_ q13 h11))
        (fun q10 h8 => tx_ q10 h8)
      else none)
    (fun q3 h1 => tx_ q3 h1) := by
  rw [fj_run_eq d (by decide) h [(4, 377)] (Nat.le_of_ble_eq_true (by rw [nl_233]; rfl))]
  show gG (fj_run d) 233 0 [(0, (4, 377))] [] h = _
  exact
    have D : fk_D 233 [(0, none, .aload_n 0, 1, 0, 0, 0), (1, none, .ldc_w 304, 3, 4, 227, 0), (4, none, .invokevirtual 209, 3, 1, 262, 1), (7, none, .ifCond .ne 8, 3, 15, 0, 0), (10, none, .aload_n 0, 1, 0, 0, 0), (11, none, .invokevirtual 759, 3, 0, 312, 5), (14, none, .areturn, 1, 0, 0, 0)] := fq_of2 cd_233 ow_233 cl_233 rfl (pc := 0) (by decide +kernel)
    j_aldn (pc := 0) D rfl rfl rfl fun D =>
    j_ldcw (pc := 1) D rfl fun D =>
    j_iv (pc := 4) (m := 162) (dd := 262) (a := [(4, 227)]) (rest := []) D rfl rfl rfl rfl rfl (by decide) (s0_377 H) (by decide +kernel) (fun v2 h1 e1 D =>
      have T := fj_run_ok _ _ _ _ _ _ H.1 e1
      have H := shp_st H T
      j_ifne (pc := 7) D rfl (fun q D =>
        j_aldn (pc := 10) D rfl rfl rfl fun D =>
        j_iv (pc := 11) (m := 234) (dd := 312) (a := []) (rest := []) D rfl rfl rfl rfl rfl (by decide) (s0_377 H) (by decide +kernel) (fun v5 h4 e1 D =>
          have T := fj_run_ok _ _ _ _ _ _ H.1 e1
          have H := shp_st H T
          j_aret D rt_233) (fun q6 h4 e1 =>
          j_tx (hx_233 _))) (fun q =>
        have D : fk_D 233 [(15, none, .aload_n 0, 1, 0, 0, 0), (16, none, .getfield 19, 3, 150, 115, 12), (19, none, .aload_n 0, 1, 0, 0, 0), (20, none, .getfield 104, 3, 158, 115, 10), (23, none, .saload, 1, 0, 0, 0), (24, none, .istore_n 1, 1, 0, 0, 0), (25, none, .aload_n 0, 1, 0, 0, 0), (26, none, .invokevirtual 213, 3, 0, 263, 0), (29, none, .aload_n 0, 1, 0, 0, 0), (30, none, .invokevirtual 710, 3, 0, 305, 5), (33, none, .astore_n 2, 1, 0, 0, 0), (34, none, .aload_n 0, 1, 0, 0, 0), (35, none, .dup, 1, 0, 0, 0), (36, none, .getfield 110, 3, 159, 115, 10), (39, none, .iconst 1, 1, 0, 1, 0), (40, none, .isub, 1, 0, 0, 0), (41, none, .putfield 110, 3, 159, 115, 10), (44, none, .aload_n 0, 1, 0, 0, 0), (45, none, .aload_n 2, 1, 0, 0, 0), (46, none, .iconst 1, 1, 0, 1, 0)] := fq_of2 cd_233 ow_233 cl_233 rfl (pc := 15) (by decide +kernel)
        j_aldn (pc := 15) D rfl rfl rfl fun D =>
        j_gfc (pc := 16) (a := 377) D rfl rfl (by decide) rfl (s0_377 H) rfl (sf_150_377 H) fun D =>
        j_aldn (pc := 19) D rfl rfl rfl fun D =>
        j_gf (pc := 20) (a := 377) D rfl rfl (by decide) rfl (s0_377 H) rfl fun D =>
        j_al (pc := 23) (a := 379) (e := 9) D rfl rfl rfl (by decide) (s0_379 H) (s1_379 H) ⟨rfl, rfl, rfl⟩ rfl gn fun qb7 D =>
        j_istn (pc := 24) (L' := [(1, (0, h1 9 379 (h1 158 377 0).toNat)), (0, (4, 377))]) D rfl nl_233 rfl rfl fun D =>
        j_aldn (pc := 25) D rfl rfl rfl fun D =>
        j_ivv (pc := 26) (m := 241) (dd := 263) (a := []) (rest := []) D rfl rfl rfl rfl rfl (by decide) (s0_377 H) (by decide +kernel) (fun h8 e1 D =>
          have T := fj_run_ok _ _ _ _ _ _ H.1 e1
          have H := shp_st H T
          j_aldn (pc := 29) D rfl rfl rfl fun D =>
          j_iv (pc := 30) (m := 233) (dd := 305) (a := []) (rest := []) D rfl rfl rfl rfl rfl (by decide) (s0_377 H) (by decide +kernel) (fun v12 h11 e1 D =>
            have T := fj_run_ok _ _ _ _ _ _ H.1 e1
            have H := shp_st H T
            j_astn (pc := 33) (L' := [(2, (4, v12)), (1, (0, h1 9 379 (h1 158 377 0).toNat)), (0, (4, 377))]) D rfl nl_233 rfl rfl fun D =>
            j_aldn (pc := 34) D rfl rfl rfl fun D =>
            j_sh (pc := 35) D rfl rfl rfl fun D =>
            j_gf (pc := 36) (a := 377) D rfl rfl (by decide) rfl (s0_377 H) rfl fun D =>
            j_ic (pc := 39) D rfl fun D =>
            j_isub (pc := 40) D rfl fun D =>
            j_pf (pc := 41) (a := 377) D rfl rfl rfl (s0_377 H) rfl rfl (gy (by decide)) (gy rfl) fun h14 eh14 S D =>
            have T := fj_hs_ok H.1 S
            have H := shp_st H T
            j_aldn (pc := 44) D rfl rfl rfl fun D =>
            j_aldn (pc := 45) D rfl rfl rfl fun D =>
            j_ic (pc := 46) D rfl fun D =>
            have D : fk_D 233 [(47, none, .iload_n 1, 1, 0, 0, 0), (48, none, .invokevirtual 762, 3, 3, 313, 5), (51, none, .areturn, 1, 0, 0, 0)] := fq_of2 cd_233 ow_233 cl_233 rfl (pc := 47) (by decide +kernel)
            j_ildn (pc := 47) D rfl rfl rfl fun D =>
            j_iv (pc := 48) (m := 295) (dd := 313) (a := [(4, v12), (0, 1), (0, h1 9 379 (h1 158 377 0).toNat)]) (rest := []) D rfl rfl rfl rfl rfl (by decide) (s0_377 H) (by decide +kernel) (fun v16 h15 e1 D =>
              have T := fj_run_ok _ _ _ _ _ _ H.1 e1
              have H := shp_st H T
              j_aret D rt_233) (fun q17 h15 e1 =>
              j_tx (hx_233 _))) (fun q13 h11 e1 =>
            j_tx (hx_233 _))) (fun q10 h8 e1 =>
          j_tx (hx_233 _)))) (fun q3 h1 e1 =>
      j_tx (hx_233 _))
/-! 234 StatuteHouse$Reader.condition()LStatuteHouse$Part; -/
theorem cd_234 : fi_code 234 = prog_53_method_69_code := rfl
theorem hx_234 : ∀ pc, fi_hat 234 pc = none := fun pc => by unfold fi_hat; rw [show fi_hh 234 = [] from rfl]; rfl
theorem rt_234 : fj_ft (fi_ret 234) = 5 := rfl
theorem nl_234 : fi_nl 234 = 3 := rfl
theorem ow_234 : fi_ow 234 = 15 := rfl
theorem cl_234 : fj_cutT.getD 234 [] = [] := rfl
theorem m_234 (d : Nat) {h : fi_H} (H : Shp h) : fj_run (d + 1) 234 h [(4, 377)] =
  ca_ (fj_run d 235 h [(4, 377)]) 4
    (fun v2 h1 =>
    ca_ (fj_run d 298 h1 [(4, 377)]) 4
      (fun v5 h4 =>
      if v5 = 0 then
        some (.inl (some (4, v2)), h4)
      else
        ca_ (fj_run d 297 h4 [(4, 377), (4, v5), (4, v2)]) 4
          (fun v8 h7 =>
          some (.inl (some (4, v8)), h7))
          (fun q9 h7 => tx_ q9 h7))
      (fun q6 h4 => tx_ q6 h4))
    (fun q3 h1 => tx_ q3 h1) := by
  rw [fj_run_eq d (by decide) h [(4, 377)] (Nat.le_of_ble_eq_true (by rw [nl_234]; rfl))]
  show gG (fj_run d) 234 0 [(0, (4, 377))] [] h = _
  exact
    have D : fk_D 234 [(0, none, .aload_n 0, 1, 0, 0, 0), (1, none, .invokevirtual 725, 3, 0, 308, 5), (4, none, .astore_n 1, 1, 0, 0, 0), (5, none, .aload_n 0, 1, 0, 0, 0), (6, none, .invokevirtual 784, 3, 0, 314, 5), (9, none, .astore_n 2, 1, 0, 0, 0), (10, none, .aload_n 2, 1, 0, 0, 0), (11, none, .ifnonnull 7, 3, 18, 0, 0), (14, none, .aload_n 1, 1, 0, 0, 0), (15, none, .goto 9, 3, 24, 0, 0)] := fq_of2 cd_234 ow_234 cl_234 rfl (pc := 0) (by decide +kernel)
    j_aldn (pc := 0) D rfl rfl rfl fun D =>
    j_iv (pc := 1) (m := 235) (dd := 308) (a := []) (rest := []) D rfl rfl rfl rfl rfl (by decide) (s0_377 H) (by decide +kernel) (fun v2 h1 e1 D =>
      have T := fj_run_ok _ _ _ _ _ _ H.1 e1
      have H := shp_st H T
      j_astn (pc := 4) (L' := [(1, (4, v2)), (0, (4, 377))]) D rfl nl_234 rfl rfl fun D =>
      j_aldn (pc := 5) D rfl rfl rfl fun D =>
      j_iv (pc := 6) (m := 298) (dd := 314) (a := []) (rest := []) D rfl rfl rfl rfl rfl (by decide) (s0_377 H) (by decide +kernel) (fun v5 h4 e1 D =>
        have T := fj_run_ok _ _ _ _ _ _ H.1 e1
        have H := shp_st H T
        j_astn (pc := 9) (L' := [(2, (4, v5)), (1, (4, v2)), (0, (4, 377))]) D rfl nl_234 rfl rfl fun D =>
        j_aldn (pc := 10) D rfl rfl rfl fun D =>
        j_nonnull (pc := 11) D rfl (fun q D =>
          j_aldn (pc := 14) D rfl rfl rfl fun D =>
          j_goto (pc := 15) D rfl <|
          have D : fk_D 234 [(24, none, .areturn, 1, 0, 0, 0)] := fq_of2 cd_234 ow_234 cl_234 rfl (pc := 24) (by decide +kernel)
          j_aret D rt_234) (fun q =>
          have D : fk_D 234 [(18, none, .aload_n 0, 1, 0, 0, 0), (19, none, .aload_n 2, 1, 0, 0, 0), (20, none, .aload_n 1, 1, 0, 0, 0), (21, none, .invokevirtual 706, 3, 2, 304, 5), (24, none, .areturn, 1, 0, 0, 0)] := fq_of2 cd_234 ow_234 cl_234 rfl (pc := 18) (by decide +kernel)
          j_aldn (pc := 18) D rfl rfl rfl fun D =>
          j_aldn (pc := 19) D rfl rfl rfl fun D =>
          j_aldn (pc := 20) D rfl rfl rfl fun D =>
          j_iv (pc := 21) (m := 297) (dd := 304) (a := [(4, v5), (4, v2)]) (rest := []) D rfl rfl rfl rfl rfl (by decide) (s0_377 H) (by decide +kernel) (fun v8 h7 e1 D =>
            have T := fj_run_ok _ _ _ _ _ _ H.1 e1
            have H := shp_st H T
            j_aret D rt_234) (fun q9 h7 e1 =>
            j_tx (hx_234 _)))) (fun q6 h4 e1 =>
        j_tx (hx_234 _))) (fun q3 h1 e1 =>
      j_tx (hx_234 _))
/-! 235 StatuteHouse$Reader.sum()LStatuteHouse$Part; -/
theorem cd_235 : fi_code 235 = prog_53_method_70_code := rfl
theorem hx_235 : ∀ pc, fi_hat 235 pc = none := fun pc => by unfold fi_hat; rw [show fi_hh 235 = [] from rfl]; rfl
theorem rt_235 : fj_ft (fi_ret 235) = 5 := rfl
theorem nl_235 : fi_nl 235 = 2 := rfl
theorem ow_235 : fi_ow 235 = 15 := rfl
theorem cl_235 : fj_cutT.getD 235 [] = [(5, [0, 1]), (23, [0, 1]), (42, [0, 1])] := rfl
theorem cut_235_5 : fj_cut 235 5 = some [0, 1] := by decide +kernel
noncomputable def c_235_5 (d : Nat) (x1 : Int) (h : fi_H) : fk_R := gG (fj_run d) 235 5 [(0, (4, 377)), (1, (4, x1))] [] h
theorem cut_235_23 : fj_cut 235 23 = some [0, 1] := by decide +kernel
noncomputable def c_235_23 (d : Nat) (x1 : Int) (h : fi_H) : fk_R := gG (fj_run d) 235 23 [(0, (4, 377)), (1, (4, x1))] [] h
theorem cut_235_42 : fj_cut 235 42 = some [0, 1] := by decide +kernel
noncomputable def c_235_42 (d : Nat) (x1 s0 s1 : Int) (h : fi_H) : fk_R := gG (fj_run d) 235 42 [(0, (4, 377)), (1, (4, x1))] [(4, s1), (4, s0)] h
theorem e_235_5 (d : Nat) (x1 : Int) {h : fi_H} (H : Shp h) : c_235_5 d x1 h =
  ca_ (fj_run d 183 h [(4, 377), (0, 43)]) 0
    (fun v2 h1 =>
    if v2 = 0 then
      ca_ (fj_run d 183 h1 [(4, 377), (0, 45)]) 0
        (fun v5 h4 =>
        if v5 = 0 then
          some (.inl (some (4, x1)), h4)
        else
          c_235_23 d x1 h4)
        (fun q6 h4 => tx_ q6 h4)
    else
      c_235_23 d x1 h1)
    (fun q3 h1 => tx_ q3 h1) := by
  unfold c_235_5
  exact
    have D : fk_D 235 [(5, some [0, 1], .aload_n 0, 1, 0, 0, 0), (6, none, .bipush 43, 2, 0, 43, 0), (8, none, .invokevirtual 202, 3, 1, 260, 1), (11, none, .ifCond .ne 12, 3, 23, 0, 0), (14, none, .aload_n 0, 1, 0, 0, 0), (15, none, .bipush 45, 2, 0, 45, 0), (17, none, .invokevirtual 202, 3, 1, 260, 1), (20, none, .ifCond .eq 30, 3, 50, 0, 0)] := fq_of2 cd_235 ow_235 cl_235 rfl (pc := 5) (by decide +kernel)
    j_aldn (pc := 5) D rfl rfl rfl fun D =>
    j_bp (pc := 6) D rfl fun D =>
    j_iv (pc := 8) (m := 183) (dd := 260) (a := [(0, 43)]) (rest := []) D rfl rfl rfl rfl rfl (by decide) (s0_377 H) (by decide +kernel) (fun v2 h1 e1 D =>
      have T := fj_run_ok _ _ _ _ _ _ H.1 e1
      have H := shp_st H T
      j_ifne (pc := 11) D rfl (fun q D =>
        j_aldn (pc := 14) D rfl rfl rfl fun D =>
        j_bp (pc := 15) D rfl fun D =>
        j_iv (pc := 17) (m := 183) (dd := 260) (a := [(0, 45)]) (rest := []) D rfl rfl rfl rfl rfl (by decide) (s0_377 H) (by decide +kernel) (fun v5 h4 e1 D =>
          have T := fj_run_ok _ _ _ _ _ _ H.1 e1
          have H := shp_st H T
          j_ifeq (pc := 20) D rfl (fun q =>
            have D : fk_D 235 [(50, none, .aload_n 1, 1, 0, 0, 0), (51, none, .areturn, 1, 0, 0, 0)] := fq_of2 cd_235 ow_235 cl_235 rfl (pc := 50) (by decide +kernel)
            j_aldn (pc := 50) D rfl rfl rfl fun D =>
            j_aret D rt_235) (fun q D =>
            fk_jump cut_235_23 rfl rfl)) (fun q6 h4 e1 =>
          j_tx (hx_235 _))) (fun q =>
        fk_jump cut_235_23 rfl rfl)) (fun q3 h1 e1 =>
      j_tx (hx_235 _))
theorem e_235_23 (d : Nat) (x1 : Int) {h : fi_H} (H : Shp h) : c_235_23 d x1 h =
  ca_ (fj_run d 183 h [(4, 377), (0, 43)]) 0
    (fun v2 h1 =>
    if v2 = 0 then
      c_235_42 d x1 377 24 h1
    else
      c_235_42 d x1 377 23 h1)
    (fun q3 h1 => tx_ q3 h1) := by
  unfold c_235_23
  exact
    have D : fk_D 235 [(23, some [0, 1], .aload_n 0, 1, 0, 0, 0), (24, none, .aload_n 0, 1, 0, 0, 0), (25, none, .bipush 43, 2, 0, 43, 0), (27, none, .invokevirtual 202, 3, 1, 260, 1), (30, none, .ifCond .eq 9, 3, 39, 0, 0), (33, none, .getstatic 788, 3, 4, 23, 0), (36, none, .goto 6, 3, 42, 0, 0)] := fq_of2 cd_235 ow_235 cl_235 rfl (pc := 23) (by decide +kernel)
    j_aldn (pc := 23) D rfl rfl rfl fun D =>
    j_aldn (pc := 24) D rfl rfl rfl fun D =>
    j_bp (pc := 25) D rfl fun D =>
    j_iv (pc := 27) (m := 183) (dd := 260) (a := [(0, 43)]) (rest := [(4, 377)]) D rfl rfl rfl rfl rfl (by decide) (s0_377 H) (by decide +kernel) (fun v2 h1 e1 D =>
      have T := fj_run_ok _ _ _ _ _ _ H.1 e1
      have H := shp_st H T
      j_ifeq (pc := 30) D rfl (fun q =>
        have D : fk_D 235 [(39, none, .getstatic 791, 3, 4, 24, 0)] := fq_of2 cd_235 ow_235 cl_235 rfl (pc := 39) (by decide +kernel)
        j_gs (pc := 39) D rfl fun D =>
        fk_jump cut_235_42 rfl rfl) (fun q D =>
        j_gs (pc := 33) D rfl fun D =>
        j_goto (pc := 36) D rfl <|
        fk_jump cut_235_42 rfl rfl)) (fun q3 h1 e1 =>
      j_tx (hx_235 _))
theorem e_235_42 (d : Nat) (x1 s0 s1 : Int) {h : fi_H} (H : Shp h) : c_235_42 d x1 s0 s1 h =
  dv_ (fi_vt 304 (h 0 s0.toNat 0)) fun m4 => ca_ (fj_run d m4 h [(4, s0), (4, s1), (4, x1)]) 4
    (fun v2 h1 =>
    c_235_5 d v2 h1)
    (fun q3 h1 => tx_ q3 h1) := by
  unfold c_235_42
  exact
    have D : fk_D 235 [(42, some [0, 1], .aload_n 1, 1, 0, 0, 0), (43, none, .invokevirtual 706, 3, 2, 304, 5), (46, none, .astore_n 1, 1, 0, 0, 0), (47, none, .goto (-42), 3, 5, 0, 0)] := fq_of2 cd_235 ow_235 cl_235 rfl (pc := 42) (by decide +kernel)
    j_aldn (pc := 42) D rfl rfl rfl fun D =>
    j_ivu (pc := 43) (dd := 304) (a := [(4, s1), (4, x1)]) (rest := []) H.2.1 D rfl rfl rfl rfl rfl (fun m4 v2 h1 e1 D =>
      have T := fj_run_ok _ _ _ _ _ _ H.1 e1
      have H := shp_st H T
      j_astn (pc := 46) (L' := [(1, (4, v2)), (0, (4, 377))]) D rfl nl_235 rfl rfl fun D =>
      j_goto (pc := 47) D rfl <|
      fk_jump cut_235_5 rfl rfl) (fun m4 q3 h1 e1 =>
      j_tx (hx_235 _))
theorem m_235 (d : Nat) {h : fi_H} (H : Shp h) : fj_run (d + 1) 235 h [(4, 377)] =
  ca_ (fj_run d 236 h [(4, 377)]) 4
    (fun v2 h1 =>
    c_235_5 d v2 h1)
    (fun q3 h1 => tx_ q3 h1) := by
  rw [fj_run_eq d (by decide) h [(4, 377)] (Nat.le_of_ble_eq_true (by rw [nl_235]; rfl))]
  show gG (fj_run d) 235 0 [(0, (4, 377))] [] h = _
  exact
    have D : fk_D 235 [(0, none, .aload_n 0, 1, 0, 0, 0), (1, none, .invokevirtual 719, 3, 0, 306, 5), (4, none, .astore_n 1, 1, 0, 0, 0)] := fq_of2 cd_235 ow_235 cl_235 rfl (pc := 0) (by decide +kernel)
    j_aldn (pc := 0) D rfl rfl rfl fun D =>
    j_iv (pc := 1) (m := 236) (dd := 306) (a := []) (rest := []) D rfl rfl rfl rfl rfl (by decide) (s0_377 H) (by decide +kernel) (fun v2 h1 e1 D =>
      have T := fj_run_ok _ _ _ _ _ _ H.1 e1
      have H := shp_st H T
      j_astn (pc := 4) (L' := [(1, (4, v2)), (0, (4, 377))]) D rfl nl_235 rfl rfl fun D =>
      fk_jump cut_235_5 rfl rfl) (fun q3 h1 e1 =>
      j_tx (hx_235 _))
/-! 236 StatuteHouse$Reader.product()LStatuteHouse$Part; -/
theorem cd_236 : fi_code 236 = prog_53_method_71_code := rfl
theorem hx_236 : ∀ pc, fi_hat 236 pc = none := fun pc => by unfold fi_hat; rw [show fi_hh 236 = [] from rfl]; rfl
theorem rt_236 : fj_ft (fi_ret 236) = 5 := rfl
theorem nl_236 : fi_nl 236 = 2 := rfl
theorem ow_236 : fi_ow 236 = 15 := rfl
theorem cl_236 : fj_cutT.getD 236 [] = [(5, [0, 1]), (33, [0, 1]), (67, [0, 1])] := rfl
theorem cut_236_5 : fj_cut 236 5 = some [0, 1] := by decide +kernel
noncomputable def c_236_5 (d : Nat) (x1 : Int) (h : fi_H) : fk_R := gG (fj_run d) 236 5 [(0, (4, 377)), (1, (4, x1))] [] h
theorem cut_236_33 : fj_cut 236 33 = some [0, 1] := by decide +kernel
noncomputable def c_236_33 (d : Nat) (x1 : Int) (h : fi_H) : fk_R := gG (fj_run d) 236 33 [(0, (4, 377)), (1, (4, x1))] [] h
theorem cut_236_67 : fj_cut 236 67 = some [0, 1] := by decide +kernel
noncomputable def c_236_67 (d : Nat) (x1 s0 s1 : Int) (h : fi_H) : fk_R := gG (fj_run d) 236 67 [(0, (4, 377)), (1, (4, x1))] [(4, s1), (4, s0)] h
theorem e_236_5 (d : Nat) (x1 : Int) {h : fi_H} (H : Shp h) : c_236_5 d x1 h =
  ca_ (fj_run d 183 h [(4, 377), (0, 42)]) 0
    (fun v2 h1 =>
    if v2 = 0 then
      ca_ (fj_run d 183 h1 [(4, 377), (0, 47)]) 0
        (fun v5 h4 =>
        if v5 = 0 then
          ca_ (fj_run d 162 h4 [(4, 377), (4, 229)]) 0
            (fun v8 h7 =>
            if v8 = 0 then
              some (.inl (some (4, x1)), h7)
            else
              c_236_33 d x1 h7)
            (fun q9 h7 => tx_ q9 h7)
        else
          c_236_33 d x1 h4)
        (fun q6 h4 => tx_ q6 h4)
    else
      c_236_33 d x1 h1)
    (fun q3 h1 => tx_ q3 h1) := by
  unfold c_236_5
  exact
    have D : fk_D 236 [(5, some [0, 1], .aload_n 0, 1, 0, 0, 0), (6, none, .bipush 42, 2, 0, 42, 0), (8, none, .invokevirtual 202, 3, 1, 260, 1), (11, none, .ifCond .ne 22, 3, 33, 0, 0), (14, none, .aload_n 0, 1, 0, 0, 0), (15, none, .bipush 47, 2, 0, 47, 0), (17, none, .invokevirtual 202, 3, 1, 260, 1), (20, none, .ifCond .ne 13, 3, 33, 0, 0), (23, none, .aload_n 0, 1, 0, 0, 0), (24, none, .ldc_w 306, 3, 4, 229, 0), (27, none, .invokevirtual 209, 3, 1, 262, 1), (30, none, .ifCond .eq 45, 3, 75, 0, 0)] := fq_of2 cd_236 ow_236 cl_236 rfl (pc := 5) (by decide +kernel)
    j_aldn (pc := 5) D rfl rfl rfl fun D =>
    j_bp (pc := 6) D rfl fun D =>
    j_iv (pc := 8) (m := 183) (dd := 260) (a := [(0, 42)]) (rest := []) D rfl rfl rfl rfl rfl (by decide) (s0_377 H) (by decide +kernel) (fun v2 h1 e1 D =>
      have T := fj_run_ok _ _ _ _ _ _ H.1 e1
      have H := shp_st H T
      j_ifne (pc := 11) D rfl (fun q D =>
        j_aldn (pc := 14) D rfl rfl rfl fun D =>
        j_bp (pc := 15) D rfl fun D =>
        j_iv (pc := 17) (m := 183) (dd := 260) (a := [(0, 47)]) (rest := []) D rfl rfl rfl rfl rfl (by decide) (s0_377 H) (by decide +kernel) (fun v5 h4 e1 D =>
          have T := fj_run_ok _ _ _ _ _ _ H.1 e1
          have H := shp_st H T
          j_ifne (pc := 20) D rfl (fun q D =>
            j_aldn (pc := 23) D rfl rfl rfl fun D =>
            j_ldcw (pc := 24) D rfl fun D =>
            j_iv (pc := 27) (m := 162) (dd := 262) (a := [(4, 229)]) (rest := []) D rfl rfl rfl rfl rfl (by decide) (s0_377 H) (by decide +kernel) (fun v8 h7 e1 D =>
              have T := fj_run_ok _ _ _ _ _ _ H.1 e1
              have H := shp_st H T
              j_ifeq (pc := 30) D rfl (fun q =>
                have D : fk_D 236 [(75, none, .aload_n 1, 1, 0, 0, 0), (76, none, .areturn, 1, 0, 0, 0)] := fq_of2 cd_236 ow_236 cl_236 rfl (pc := 75) (by decide +kernel)
                j_aldn (pc := 75) D rfl rfl rfl fun D =>
                j_aret D rt_236) (fun q D =>
                fk_jump cut_236_33 rfl rfl)) (fun q9 h7 e1 =>
              j_tx (hx_236 _))) (fun q =>
            fk_jump cut_236_33 rfl rfl)) (fun q6 h4 e1 =>
          j_tx (hx_236 _))) (fun q =>
        fk_jump cut_236_33 rfl rfl)) (fun q3 h1 e1 =>
      j_tx (hx_236 _))
theorem e_236_33 (d : Nat) (x1 : Int) {h : fi_H} (H : Shp h) : c_236_33 d x1 h =
  ca_ (fj_run d 183 h [(4, 377), (0, 42)]) 0
    (fun v2 h1 =>
    if v2 = 0 then
      ca_ (fj_run d 183 h1 [(4, 377), (0, 47)]) 0
        (fun v5 h4 =>
        if v5 = 0 then
          c_236_67 d x1 377 27 h4
        else
          c_236_67 d x1 377 26 h4)
        (fun q6 h4 => tx_ q6 h4)
    else
      c_236_67 d x1 377 25 h1)
    (fun q3 h1 => tx_ q3 h1) := by
  unfold c_236_33
  exact
    have D : fk_D 236 [(33, some [0, 1], .aload_n 0, 1, 0, 0, 0), (34, none, .aload_n 0, 1, 0, 0, 0), (35, none, .bipush 42, 2, 0, 42, 0), (37, none, .invokevirtual 202, 3, 1, 260, 1), (40, none, .ifCond .eq 9, 3, 49, 0, 0), (43, none, .getstatic 794, 3, 4, 25, 0), (46, none, .goto 21, 3, 67, 0, 0)] := fq_of2 cd_236 ow_236 cl_236 rfl (pc := 33) (by decide +kernel)
    j_aldn (pc := 33) D rfl rfl rfl fun D =>
    j_aldn (pc := 34) D rfl rfl rfl fun D =>
    j_bp (pc := 35) D rfl fun D =>
    j_iv (pc := 37) (m := 183) (dd := 260) (a := [(0, 42)]) (rest := [(4, 377)]) D rfl rfl rfl rfl rfl (by decide) (s0_377 H) (by decide +kernel) (fun v2 h1 e1 D =>
      have T := fj_run_ok _ _ _ _ _ _ H.1 e1
      have H := shp_st H T
      j_ifeq (pc := 40) D rfl (fun q =>
        have D : fk_D 236 [(49, none, .aload_n 0, 1, 0, 0, 0), (50, none, .bipush 47, 2, 0, 47, 0), (52, none, .invokevirtual 202, 3, 1, 260, 1), (55, none, .ifCond .eq 9, 3, 64, 0, 0), (58, none, .getstatic 797, 3, 4, 26, 0), (61, none, .goto 6, 3, 67, 0, 0)] := fq_of2 cd_236 ow_236 cl_236 rfl (pc := 49) (by decide +kernel)
        j_aldn (pc := 49) D rfl rfl rfl fun D =>
        j_bp (pc := 50) D rfl fun D =>
        j_iv (pc := 52) (m := 183) (dd := 260) (a := [(0, 47)]) (rest := [(4, 377)]) D rfl rfl rfl rfl rfl (by decide) (s0_377 H) (by decide +kernel) (fun v5 h4 e1 D =>
          have T := fj_run_ok _ _ _ _ _ _ H.1 e1
          have H := shp_st H T
          j_ifeq (pc := 55) D rfl (fun q =>
            have D : fk_D 236 [(64, none, .getstatic 800, 3, 4, 27, 0)] := fq_of2 cd_236 ow_236 cl_236 rfl (pc := 64) (by decide +kernel)
            j_gs (pc := 64) D rfl fun D =>
            fk_jump cut_236_67 rfl rfl) (fun q D =>
            j_gs (pc := 58) D rfl fun D =>
            j_goto (pc := 61) D rfl <|
            fk_jump cut_236_67 rfl rfl)) (fun q6 h4 e1 =>
          j_tx (hx_236 _))) (fun q D =>
        j_gs (pc := 43) D rfl fun D =>
        j_goto (pc := 46) D rfl <|
        fk_jump cut_236_67 rfl rfl)) (fun q3 h1 e1 =>
      j_tx (hx_236 _))
theorem e_236_67 (d : Nat) (x1 s0 s1 : Int) {h : fi_H} (H : Shp h) : c_236_67 d x1 s0 s1 h =
  dv_ (fi_vt 304 (h 0 s0.toNat 0)) fun m4 => ca_ (fj_run d m4 h [(4, s0), (4, s1), (4, x1)]) 4
    (fun v2 h1 =>
    c_236_5 d v2 h1)
    (fun q3 h1 => tx_ q3 h1) := by
  unfold c_236_67
  exact
    have D : fk_D 236 [(67, some [0, 1], .aload_n 1, 1, 0, 0, 0), (68, none, .invokevirtual 706, 3, 2, 304, 5), (71, none, .astore_n 1, 1, 0, 0, 0), (72, none, .goto (-67), 3, 5, 0, 0)] := fq_of2 cd_236 ow_236 cl_236 rfl (pc := 67) (by decide +kernel)
    j_aldn (pc := 67) D rfl rfl rfl fun D =>
    j_ivu (pc := 68) (dd := 304) (a := [(4, s1), (4, x1)]) (rest := []) H.2.1 D rfl rfl rfl rfl rfl (fun m4 v2 h1 e1 D =>
      have T := fj_run_ok _ _ _ _ _ _ H.1 e1
      have H := shp_st H T
      j_astn (pc := 71) (L' := [(1, (4, v2)), (0, (4, 377))]) D rfl nl_236 rfl rfl fun D =>
      j_goto (pc := 72) D rfl <|
      fk_jump cut_236_5 rfl rfl) (fun m4 q3 h1 e1 =>
      j_tx (hx_236 _))
theorem m_236 (d : Nat) {h : fi_H} (H : Shp h) : fj_run (d + 1) 236 h [(4, 377)] =
  ca_ (fj_run d 237 h [(4, 377)]) 4
    (fun v2 h1 =>
    c_236_5 d v2 h1)
    (fun q3 h1 => tx_ q3 h1) := by
  rw [fj_run_eq d (by decide) h [(4, 377)] (Nat.le_of_ble_eq_true (by rw [nl_236]; rfl))]
  show gG (fj_run d) 236 0 [(0, (4, 377))] [] h = _
  exact
    have D : fk_D 236 [(0, none, .aload_n 0, 1, 0, 0, 0), (1, none, .invokevirtual 722, 3, 0, 307, 5), (4, none, .astore_n 1, 1, 0, 0, 0)] := fq_of2 cd_236 ow_236 cl_236 rfl (pc := 0) (by decide +kernel)
    j_aldn (pc := 0) D rfl rfl rfl fun D =>
    j_iv (pc := 1) (m := 237) (dd := 307) (a := []) (rest := []) D rfl rfl rfl rfl rfl (by decide) (s0_377 H) (by decide +kernel) (fun v2 h1 e1 D =>
      have T := fj_run_ok _ _ _ _ _ _ H.1 e1
      have H := shp_st H T
      j_astn (pc := 4) (L' := [(1, (4, v2)), (0, (4, 377))]) D rfl nl_236 rfl rfl fun D =>
      fk_jump cut_236_5 rfl rfl) (fun q3 h1 e1 =>
      j_tx (hx_236 _))
/-! 237 StatuteHouse$Reader.unary()LStatuteHouse$Part; -/
theorem cd_237 : fi_code 237 = prog_53_method_72_code := rfl
theorem hx_237 : ∀ pc, fi_hat 237 pc = none := fun pc => by unfold fi_hat; rw [show fi_hh 237 = [] from rfl]; rfl
theorem rt_237 : fj_ft (fi_ret 237) = 5 := rfl
theorem nl_237 : fi_nl 237 = 3 := rfl
theorem ow_237 : fi_ow 237 = 15 := rfl
theorem cl_237 : fj_cutT.getD 237 [] = [] := rfl
theorem m_237 (d : Nat) {h : fi_H} (H : Shp h) : fj_run (d + 1) 237 h [(4, 377)] =
  ca_ (fj_run d 183 h [(4, 377), (0, 45)]) 0
    (fun v2 h1 =>
    if v2 = 0 then
      ca_ (fj_run d 238 h1 [(4, 377)]) 4
        (fun v5 h4 =>
        some (.inl (some (4, v5)), h4))
        (fun q6 h4 => tx_ q6 h4)
    else
      if 0 ≤ h1 158 377 0 ∧ h1 158 377 0 < 1202 then
      cv_ (fj_run d 241 h1 [(4, 377)])
        (fun h8 =>
        ca_ (fj_run d 237 h8 [(4, 377)]) 4
          (fun v12 h11 =>
          lt_ (fi_upd h11 159 377 0 (wI ((h11 159 377 0) - 1))) fun h14 =>
          ca_ (fj_run d 295 h14 [(4, 377), (4, v12), (0, 0), (0, h1 9 379 (h1 158 377 0).toNat)]) 4
            (fun v16 h15 =>
            some (.inl (some (4, v16)), h15))
            (fun q17 h15 => tx_ q17 h15))
          (fun q13 h11 => tx_ q13 h11))
        (fun q10 h8 => tx_ q10 h8)
      else none)
    (fun q3 h1 => tx_ q3 h1) := by
  rw [fj_run_eq d (by decide) h [(4, 377)] (Nat.le_of_ble_eq_true (by rw [nl_237]; rfl))]
  show gG (fj_run d) 237 0 [(0, (4, 377))] [] h = _
  exact
    have D : fk_D 237 [(0, none, .aload_n 0, 1, 0, 0, 0), (1, none, .bipush 45, 2, 0, 45, 0), (3, none, .invokevirtual 202, 3, 1, 260, 1), (6, none, .ifCond .ne 8, 3, 14, 0, 0), (9, none, .aload_n 0, 1, 0, 0, 0), (10, none, .invokevirtual 803, 3, 0, 315, 5), (13, none, .areturn, 1, 0, 0, 0)] := fq_of2 cd_237 ow_237 cl_237 rfl (pc := 0) (by decide +kernel)
    j_aldn (pc := 0) D rfl rfl rfl fun D =>
    j_bp (pc := 1) D rfl fun D =>
    j_iv (pc := 3) (m := 183) (dd := 260) (a := [(0, 45)]) (rest := []) D rfl rfl rfl rfl rfl (by decide) (s0_377 H) (by decide +kernel) (fun v2 h1 e1 D =>
      have T := fj_run_ok _ _ _ _ _ _ H.1 e1
      have H := shp_st H T
      j_ifne (pc := 6) D rfl (fun q D =>
        j_aldn (pc := 9) D rfl rfl rfl fun D =>
        j_iv (pc := 10) (m := 238) (dd := 315) (a := []) (rest := []) D rfl rfl rfl rfl rfl (by decide) (s0_377 H) (by decide +kernel) (fun v5 h4 e1 D =>
          have T := fj_run_ok _ _ _ _ _ _ H.1 e1
          have H := shp_st H T
          j_aret D rt_237) (fun q6 h4 e1 =>
          j_tx (hx_237 _))) (fun q =>
        have D : fk_D 237 [(14, none, .aload_n 0, 1, 0, 0, 0), (15, none, .getfield 19, 3, 150, 115, 12), (18, none, .aload_n 0, 1, 0, 0, 0), (19, none, .getfield 104, 3, 158, 115, 10), (22, none, .saload, 1, 0, 0, 0), (23, none, .istore_n 1, 1, 0, 0, 0), (24, none, .aload_n 0, 1, 0, 0, 0), (25, none, .invokevirtual 213, 3, 0, 263, 0), (28, none, .aload_n 0, 1, 0, 0, 0), (29, none, .invokevirtual 722, 3, 0, 307, 5), (32, none, .astore_n 2, 1, 0, 0, 0), (33, none, .aload_n 0, 1, 0, 0, 0), (34, none, .dup, 1, 0, 0, 0), (35, none, .getfield 110, 3, 159, 115, 10), (38, none, .iconst 1, 1, 0, 1, 0), (39, none, .isub, 1, 0, 0, 0), (40, none, .putfield 110, 3, 159, 115, 10), (43, none, .aload_n 0, 1, 0, 0, 0), (44, none, .aload_n 2, 1, 0, 0, 0), (45, none, .iconst 0, 1, 0, 0, 0)] := fq_of2 cd_237 ow_237 cl_237 rfl (pc := 14) (by decide +kernel)
        j_aldn (pc := 14) D rfl rfl rfl fun D =>
        j_gfc (pc := 15) (a := 377) D rfl rfl (by decide) rfl (s0_377 H) rfl (sf_150_377 H) fun D =>
        j_aldn (pc := 18) D rfl rfl rfl fun D =>
        j_gf (pc := 19) (a := 377) D rfl rfl (by decide) rfl (s0_377 H) rfl fun D =>
        j_al (pc := 22) (a := 379) (e := 9) D rfl rfl rfl (by decide) (s0_379 H) (s1_379 H) ⟨rfl, rfl, rfl⟩ rfl gn fun qb7 D =>
        j_istn (pc := 23) (L' := [(1, (0, h1 9 379 (h1 158 377 0).toNat)), (0, (4, 377))]) D rfl nl_237 rfl rfl fun D =>
        j_aldn (pc := 24) D rfl rfl rfl fun D =>
        j_ivv (pc := 25) (m := 241) (dd := 263) (a := []) (rest := []) D rfl rfl rfl rfl rfl (by decide) (s0_377 H) (by decide +kernel) (fun h8 e1 D =>
          have T := fj_run_ok _ _ _ _ _ _ H.1 e1
          have H := shp_st H T
          j_aldn (pc := 28) D rfl rfl rfl fun D =>
          j_iv (pc := 29) (m := 237) (dd := 307) (a := []) (rest := []) D rfl rfl rfl rfl rfl (by decide) (s0_377 H) (by decide +kernel) (fun v12 h11 e1 D =>
            have T := fj_run_ok _ _ _ _ _ _ H.1 e1
            have H := shp_st H T
            j_astn (pc := 32) (L' := [(2, (4, v12)), (1, (0, h1 9 379 (h1 158 377 0).toNat)), (0, (4, 377))]) D rfl nl_237 rfl rfl fun D =>
            j_aldn (pc := 33) D rfl rfl rfl fun D =>
            j_sh (pc := 34) D rfl rfl rfl fun D =>
            j_gf (pc := 35) (a := 377) D rfl rfl (by decide) rfl (s0_377 H) rfl fun D =>
            j_ic (pc := 38) D rfl fun D =>
            j_isub (pc := 39) D rfl fun D =>
            j_pf (pc := 40) (a := 377) D rfl rfl rfl (s0_377 H) rfl rfl (gy (by decide)) (gy rfl) fun h14 eh14 S D =>
            have T := fj_hs_ok H.1 S
            have H := shp_st H T
            j_aldn (pc := 43) D rfl rfl rfl fun D =>
            j_aldn (pc := 44) D rfl rfl rfl fun D =>
            j_ic (pc := 45) D rfl fun D =>
            have D : fk_D 237 [(46, none, .iload_n 1, 1, 0, 0, 0), (47, none, .invokevirtual 762, 3, 3, 313, 5), (50, none, .areturn, 1, 0, 0, 0)] := fq_of2 cd_237 ow_237 cl_237 rfl (pc := 46) (by decide +kernel)
            j_ildn (pc := 46) D rfl rfl rfl fun D =>
            j_iv (pc := 47) (m := 295) (dd := 313) (a := [(4, v12), (0, 0), (0, h1 9 379 (h1 158 377 0).toNat)]) (rest := []) D rfl rfl rfl rfl rfl (by decide) (s0_377 H) (by decide +kernel) (fun v16 h15 e1 D =>
              have T := fj_run_ok _ _ _ _ _ _ H.1 e1
              have H := shp_st H T
              j_aret D rt_237) (fun q17 h15 e1 =>
              j_tx (hx_237 _))) (fun q13 h11 e1 =>
            j_tx (hx_237 _))) (fun q10 h8 e1 =>
          j_tx (hx_237 _)))) (fun q3 h1 e1 =>
      j_tx (hx_237 _))
/-! 238 StatuteHouse$Reader.shifted()LStatuteHouse$Part; -/
theorem cd_238 : fi_code 238 = prog_53_method_73_code := rfl
theorem hx_238 : ∀ pc, fi_hat 238 pc = none := fun pc => by unfold fi_hat; rw [show fi_hh 238 = [] from rfl]; rfl
theorem rt_238 : fj_ft (fi_ret 238) = 5 := rfl
theorem nl_238 : fi_nl 238 = 4 := rfl
theorem ow_238 : fi_ow 238 = 15 := rfl
theorem cl_238 : fj_cutT.getD 238 [] = [] := rfl
theorem m_238 (d : Nat) {h : fi_H} (H : Shp h) : fj_run (d + 1) 238 h [(4, 377)] =
  ca_ (fj_run d 239 h [(4, 377)]) 4
    (fun v2 h1 =>
    ca_ (fj_run d 162 h1 [(4, 377), (4, 231)]) 0
      (fun v5 h4 =>
      if v5 = 0 then
        some (.inl (some (4, v2)), h4)
      else
        if 0 ≤ h4 158 377 0 ∧ h4 158 377 0 < 1202 then
        cv_ (fj_run d 241 h4 [(4, 377)])
          (fun h8 =>
          ca_ (fj_run d 239 h8 [(4, 377)]) 4
            (fun v12 h11 =>
            lt_ (fi_upd h11 159 377 0 (wI ((h11 159 377 0) - 1))) fun h14 =>
            ca_ (fj_run d 290 h14 [(4, 377), (4, 29), (4, v2), (4, v12), (0, h4 9 379 (h4 158 377 0).toNat)]) 4
              (fun v16 h15 =>
              some (.inl (some (4, v16)), h15))
              (fun q17 h15 => tx_ q17 h15))
            (fun q13 h11 => tx_ q13 h11))
          (fun q10 h8 => tx_ q10 h8)
        else none)
      (fun q6 h4 => tx_ q6 h4))
    (fun q3 h1 => tx_ q3 h1) := by
  rw [fj_run_eq d (by decide) h [(4, 377)] (Nat.le_of_ble_eq_true (by rw [nl_238]; rfl))]
  show gG (fj_run d) 238 0 [(0, (4, 377))] [] h = _
  exact
    have D : fk_D 238 [(0, none, .aload_n 0, 1, 0, 0, 0), (1, none, .invokevirtual 806, 3, 0, 316, 5), (4, none, .astore_n 1, 1, 0, 0, 0), (5, none, .aload_n 0, 1, 0, 0, 0), (6, none, .ldc_w 308, 3, 4, 231, 0), (9, none, .invokevirtual 209, 3, 1, 262, 1), (12, none, .ifCond .ne 5, 3, 17, 0, 0), (15, none, .aload_n 1, 1, 0, 0, 0), (16, none, .areturn, 1, 0, 0, 0)] := fq_of2 cd_238 ow_238 cl_238 rfl (pc := 0) (by decide +kernel)
    j_aldn (pc := 0) D rfl rfl rfl fun D =>
    j_iv (pc := 1) (m := 239) (dd := 316) (a := []) (rest := []) D rfl rfl rfl rfl rfl (by decide) (s0_377 H) (by decide +kernel) (fun v2 h1 e1 D =>
      have T := fj_run_ok _ _ _ _ _ _ H.1 e1
      have H := shp_st H T
      j_astn (pc := 4) (L' := [(1, (4, v2)), (0, (4, 377))]) D rfl nl_238 rfl rfl fun D =>
      j_aldn (pc := 5) D rfl rfl rfl fun D =>
      j_ldcw (pc := 6) D rfl fun D =>
      j_iv (pc := 9) (m := 162) (dd := 262) (a := [(4, 231)]) (rest := []) D rfl rfl rfl rfl rfl (by decide) (s0_377 H) (by decide +kernel) (fun v5 h4 e1 D =>
        have T := fj_run_ok _ _ _ _ _ _ H.1 e1
        have H := shp_st H T
        j_ifne (pc := 12) D rfl (fun q D =>
          j_aldn (pc := 15) D rfl rfl rfl fun D =>
          j_aret D rt_238) (fun q =>
          have D : fk_D 238 [(17, none, .aload_n 0, 1, 0, 0, 0), (18, none, .getfield 19, 3, 150, 115, 12), (21, none, .aload_n 0, 1, 0, 0, 0), (22, none, .getfield 104, 3, 158, 115, 10), (25, none, .saload, 1, 0, 0, 0), (26, none, .istore_n 2, 1, 0, 0, 0), (27, none, .aload_n 0, 1, 0, 0, 0), (28, none, .invokevirtual 213, 3, 0, 263, 0), (31, none, .aload_n 0, 1, 0, 0, 0), (32, none, .invokevirtual 806, 3, 0, 316, 5), (35, none, .astore_n 3, 1, 0, 0, 0), (36, none, .aload_n 0, 1, 0, 0, 0), (37, none, .dup, 1, 0, 0, 0), (38, none, .getfield 110, 3, 159, 115, 10), (41, none, .iconst 1, 1, 0, 1, 0), (42, none, .isub, 1, 0, 0, 0), (43, none, .putfield 110, 3, 159, 115, 10), (46, none, .aload_n 0, 1, 0, 0, 0), (47, none, .getstatic 809, 3, 4, 29, 0), (50, none, .aload_n 1, 1, 0, 0, 0)] := fq_of2 cd_238 ow_238 cl_238 rfl (pc := 17) (by decide +kernel)
          j_aldn (pc := 17) D rfl rfl rfl fun D =>
          j_gfc (pc := 18) (a := 377) D rfl rfl (by decide) rfl (s0_377 H) rfl (sf_150_377 H) fun D =>
          j_aldn (pc := 21) D rfl rfl rfl fun D =>
          j_gf (pc := 22) (a := 377) D rfl rfl (by decide) rfl (s0_377 H) rfl fun D =>
          j_al (pc := 25) (a := 379) (e := 9) D rfl rfl rfl (by decide) (s0_379 H) (s1_379 H) ⟨rfl, rfl, rfl⟩ rfl gn fun qb7 D =>
          j_istn (pc := 26) (L' := [(2, (0, h4 9 379 (h4 158 377 0).toNat)), (1, (4, v2)), (0, (4, 377))]) D rfl nl_238 rfl rfl fun D =>
          j_aldn (pc := 27) D rfl rfl rfl fun D =>
          j_ivv (pc := 28) (m := 241) (dd := 263) (a := []) (rest := []) D rfl rfl rfl rfl rfl (by decide) (s0_377 H) (by decide +kernel) (fun h8 e1 D =>
            have T := fj_run_ok _ _ _ _ _ _ H.1 e1
            have H := shp_st H T
            j_aldn (pc := 31) D rfl rfl rfl fun D =>
            j_iv (pc := 32) (m := 239) (dd := 316) (a := []) (rest := []) D rfl rfl rfl rfl rfl (by decide) (s0_377 H) (by decide +kernel) (fun v12 h11 e1 D =>
              have T := fj_run_ok _ _ _ _ _ _ H.1 e1
              have H := shp_st H T
              j_astn (pc := 35) (L' := [(3, (4, v12)), (2, (0, h4 9 379 (h4 158 377 0).toNat)), (1, (4, v2)), (0, (4, 377))]) D rfl nl_238 rfl rfl fun D =>
              j_aldn (pc := 36) D rfl rfl rfl fun D =>
              j_sh (pc := 37) D rfl rfl rfl fun D =>
              j_gf (pc := 38) (a := 377) D rfl rfl (by decide) rfl (s0_377 H) rfl fun D =>
              j_ic (pc := 41) D rfl fun D =>
              j_isub (pc := 42) D rfl fun D =>
              j_pf (pc := 43) (a := 377) D rfl rfl rfl (s0_377 H) rfl rfl (gy (by decide)) (gy rfl) fun h14 eh14 S D =>
              have T := fj_hs_ok H.1 S
              have H := shp_st H T
              j_aldn (pc := 46) D rfl rfl rfl fun D =>
              j_gs (pc := 47) D rfl fun D =>
              j_aldn (pc := 50) D rfl rfl rfl fun D =>
              have D : fk_D 238 [(51, none, .aload_n 3, 1, 0, 0, 0), (52, none, .iload_n 2, 1, 0, 0, 0), (53, none, .invokevirtual 727, 3, 4, 309, 5), (56, none, .areturn, 1, 0, 0, 0)] := fq_of2 cd_238 ow_238 cl_238 rfl (pc := 51) (by decide +kernel)
              j_aldn (pc := 51) D rfl rfl rfl fun D =>
              j_ildn (pc := 52) D rfl rfl rfl fun D =>
              j_iv (pc := 53) (m := 290) (dd := 309) (a := [(4, 29), (4, v2), (4, v12), (0, h4 9 379 (h4 158 377 0).toNat)]) (rest := []) D rfl rfl rfl rfl rfl (by decide) (s0_377 H) (by decide +kernel) (fun v16 h15 e1 D =>
                have T := fj_run_ok _ _ _ _ _ _ H.1 e1
                have H := shp_st H T
                j_aret D rt_238) (fun q17 h15 e1 =>
                j_tx (hx_238 _))) (fun q13 h11 e1 =>
              j_tx (hx_238 _))) (fun q10 h8 e1 =>
            j_tx (hx_238 _)))) (fun q6 h4 e1 =>
        j_tx (hx_238 _))) (fun q3 h1 e1 =>
      j_tx (hx_238 _))
/-! 239 StatuteHouse$Reader.post()LStatuteHouse$Part; -/
theorem cd_239 : fi_code 239 = prog_53_method_74_code := rfl
theorem hx_239 : ∀ pc, fi_hat 239 pc = none := fun pc => by unfold fi_hat; rw [show fi_hh 239 = [] from rfl]; rfl
theorem rt_239 : fj_ft (fi_ret 239) = 5 := rfl
theorem nl_239 : fi_nl 239 = 4 := rfl
theorem ow_239 : fi_ow 239 = 15 := rfl
theorem cl_239 : fj_cutT.getD 239 [] = [] := rfl
theorem m_239 (d : Nat) {h : fi_H} (H : Shp h) : fj_run (d + 1) 239 h [(4, 377)] =
  ca_ (fj_run d 240 h [(4, 377)]) 4
    (fun v2 h1 =>
    ca_ (fj_run d 162 h1 [(4, 377), (4, 179)]) 0
      (fun v5 h4 =>
      if v5 = 0 then
        some (.inl (some (4, v2)), h4)
      else
        if 0 ≤ h4 158 377 0 ∧ h4 158 377 0 < 1202 then
        cv_ (fj_run d 241 h4 [(4, 377)])
          (fun h8 =>
          ca_ (fj_run d 239 h8 [(4, 377)]) 4
            (fun v12 h11 =>
            lt_ (fi_upd h11 159 377 0 (wI ((h11 159 377 0) - 1))) fun h14 =>
            ca_ (fj_run d 290 h14 [(4, 377), (4, 28), (4, v2), (4, v12), (0, h4 9 379 (h4 158 377 0).toNat)]) 4
              (fun v16 h15 =>
              some (.inl (some (4, v16)), h15))
              (fun q17 h15 => tx_ q17 h15))
            (fun q13 h11 => tx_ q13 h11))
          (fun q10 h8 => tx_ q10 h8)
        else none)
      (fun q6 h4 => tx_ q6 h4))
    (fun q3 h1 => tx_ q3 h1) := by
  rw [fj_run_eq d (by decide) h [(4, 377)] (Nat.le_of_ble_eq_true (by rw [nl_239]; rfl))]
  show gG (fj_run d) 239 0 [(0, (4, 377))] [] h = _
  exact
    have D : fk_D 239 [(0, none, .aload_n 0, 1, 0, 0, 0), (1, none, .invokevirtual 812, 3, 0, 317, 5), (4, none, .astore_n 1, 1, 0, 0, 0), (5, none, .aload_n 0, 1, 0, 0, 0), (6, none, .ldc 234, 2, 4, 179, 0), (8, none, .invokevirtual 209, 3, 1, 262, 1), (11, none, .ifCond .ne 5, 3, 16, 0, 0), (14, none, .aload_n 1, 1, 0, 0, 0), (15, none, .areturn, 1, 0, 0, 0)] := fq_of2 cd_239 ow_239 cl_239 rfl (pc := 0) (by decide +kernel)
    j_aldn (pc := 0) D rfl rfl rfl fun D =>
    j_iv (pc := 1) (m := 240) (dd := 317) (a := []) (rest := []) D rfl rfl rfl rfl rfl (by decide) (s0_377 H) (by decide +kernel) (fun v2 h1 e1 D =>
      have T := fj_run_ok _ _ _ _ _ _ H.1 e1
      have H := shp_st H T
      j_astn (pc := 4) (L' := [(1, (4, v2)), (0, (4, 377))]) D rfl nl_239 rfl rfl fun D =>
      j_aldn (pc := 5) D rfl rfl rfl fun D =>
      j_ldc (pc := 6) D rfl fun D =>
      j_iv (pc := 8) (m := 162) (dd := 262) (a := [(4, 179)]) (rest := []) D rfl rfl rfl rfl rfl (by decide) (s0_377 H) (by decide +kernel) (fun v5 h4 e1 D =>
        have T := fj_run_ok _ _ _ _ _ _ H.1 e1
        have H := shp_st H T
        j_ifne (pc := 11) D rfl (fun q D =>
          j_aldn (pc := 14) D rfl rfl rfl fun D =>
          j_aret D rt_239) (fun q =>
          have D : fk_D 239 [(16, none, .aload_n 0, 1, 0, 0, 0), (17, none, .getfield 19, 3, 150, 115, 12), (20, none, .aload_n 0, 1, 0, 0, 0), (21, none, .getfield 104, 3, 158, 115, 10), (24, none, .saload, 1, 0, 0, 0), (25, none, .istore_n 2, 1, 0, 0, 0), (26, none, .aload_n 0, 1, 0, 0, 0), (27, none, .invokevirtual 213, 3, 0, 263, 0), (30, none, .aload_n 0, 1, 0, 0, 0), (31, none, .invokevirtual 806, 3, 0, 316, 5), (34, none, .astore_n 3, 1, 0, 0, 0), (35, none, .aload_n 0, 1, 0, 0, 0), (36, none, .dup, 1, 0, 0, 0), (37, none, .getfield 110, 3, 159, 115, 10), (40, none, .iconst 1, 1, 0, 1, 0), (41, none, .isub, 1, 0, 0, 0), (42, none, .putfield 110, 3, 159, 115, 10), (45, none, .aload_n 0, 1, 0, 0, 0), (46, none, .getstatic 815, 3, 4, 28, 0), (49, none, .aload_n 1, 1, 0, 0, 0)] := fq_of2 cd_239 ow_239 cl_239 rfl (pc := 16) (by decide +kernel)
          j_aldn (pc := 16) D rfl rfl rfl fun D =>
          j_gfc (pc := 17) (a := 377) D rfl rfl (by decide) rfl (s0_377 H) rfl (sf_150_377 H) fun D =>
          j_aldn (pc := 20) D rfl rfl rfl fun D =>
          j_gf (pc := 21) (a := 377) D rfl rfl (by decide) rfl (s0_377 H) rfl fun D =>
          j_al (pc := 24) (a := 379) (e := 9) D rfl rfl rfl (by decide) (s0_379 H) (s1_379 H) ⟨rfl, rfl, rfl⟩ rfl gn fun qb7 D =>
          j_istn (pc := 25) (L' := [(2, (0, h4 9 379 (h4 158 377 0).toNat)), (1, (4, v2)), (0, (4, 377))]) D rfl nl_239 rfl rfl fun D =>
          j_aldn (pc := 26) D rfl rfl rfl fun D =>
          j_ivv (pc := 27) (m := 241) (dd := 263) (a := []) (rest := []) D rfl rfl rfl rfl rfl (by decide) (s0_377 H) (by decide +kernel) (fun h8 e1 D =>
            have T := fj_run_ok _ _ _ _ _ _ H.1 e1
            have H := shp_st H T
            j_aldn (pc := 30) D rfl rfl rfl fun D =>
            j_iv (pc := 31) (m := 239) (dd := 316) (a := []) (rest := []) D rfl rfl rfl rfl rfl (by decide) (s0_377 H) (by decide +kernel) (fun v12 h11 e1 D =>
              have T := fj_run_ok _ _ _ _ _ _ H.1 e1
              have H := shp_st H T
              j_astn (pc := 34) (L' := [(3, (4, v12)), (2, (0, h4 9 379 (h4 158 377 0).toNat)), (1, (4, v2)), (0, (4, 377))]) D rfl nl_239 rfl rfl fun D =>
              j_aldn (pc := 35) D rfl rfl rfl fun D =>
              j_sh (pc := 36) D rfl rfl rfl fun D =>
              j_gf (pc := 37) (a := 377) D rfl rfl (by decide) rfl (s0_377 H) rfl fun D =>
              j_ic (pc := 40) D rfl fun D =>
              j_isub (pc := 41) D rfl fun D =>
              j_pf (pc := 42) (a := 377) D rfl rfl rfl (s0_377 H) rfl rfl (gy (by decide)) (gy rfl) fun h14 eh14 S D =>
              have T := fj_hs_ok H.1 S
              have H := shp_st H T
              j_aldn (pc := 45) D rfl rfl rfl fun D =>
              j_gs (pc := 46) D rfl fun D =>
              j_aldn (pc := 49) D rfl rfl rfl fun D =>
              have D : fk_D 239 [(50, none, .aload_n 3, 1, 0, 0, 0), (51, none, .iload_n 2, 1, 0, 0, 0), (52, none, .invokevirtual 727, 3, 4, 309, 5), (55, none, .areturn, 1, 0, 0, 0)] := fq_of2 cd_239 ow_239 cl_239 rfl (pc := 50) (by decide +kernel)
              j_aldn (pc := 50) D rfl rfl rfl fun D =>
              j_ildn (pc := 51) D rfl rfl rfl fun D =>
              j_iv (pc := 52) (m := 290) (dd := 309) (a := [(4, 28), (4, v2), (4, v12), (0, h4 9 379 (h4 158 377 0).toNat)]) (rest := []) D rfl rfl rfl rfl rfl (by decide) (s0_377 H) (by decide +kernel) (fun v16 h15 e1 D =>
                have T := fj_run_ok _ _ _ _ _ _ H.1 e1
                have H := shp_st H T
                j_aret D rt_239) (fun q17 h15 e1 =>
                j_tx (hx_239 _))) (fun q13 h11 e1 =>
              j_tx (hx_239 _))) (fun q10 h8 e1 =>
            j_tx (hx_239 _)))) (fun q6 h4 e1 =>
        j_tx (hx_239 _))) (fun q3 h1 e1 =>
      j_tx (hx_239 _))
/-! 240 StatuteHouse$Reader.single()LStatuteHouse$Part; -/
theorem cd_240 : fi_code 240 = prog_53_method_75_code := rfl
theorem hx_240 : ∀ pc, fi_hat 240 pc = none := fun pc => by unfold fi_hat; rw [show fi_hh 240 = [] from rfl]; rfl
theorem rt_240 : fj_ft (fi_ret 240) = 5 := rfl
theorem nl_240 : fi_nl 240 = 5 := rfl
theorem ow_240 : fi_ow 240 = 15 := rfl
theorem cl_240 : fj_cutT.getD 240 [] = [(232, [0, 1, 2, 3, 4]), (248, [0, 1, 2, 3, 4]), (264, [0, 1, 2, 3, 4]), (280, [0, 1, 2, 3, 4]), (296, [0, 1, 2, 3, 4]), (312, [0, 1, 2, 3, 4]), (328, [0, 1, 2, 3, 4]), (345, [0, 1, 2, 3, 4]), (362, [0, 1, 2, 3, 4]), (379, [0, 1, 2, 3, 4]), (396, [0, 1, 2, 3, 4]), (413, [0, 1, 2, 3, 4]), (430, [0, 1, 2, 3, 4]), (447, [0, 1, 2, 3, 4]), (461, [0, 1, 2, 4]), (532, [0, 1, 2]), (555, [0, 1]), (561, [0, 1]), (567, [0, 1]), (576, [0, 1]), (585, [0, 1]), (594, [0, 1]), (603, [0, 1]), (612, [0, 1]), (621, [0, 1, 2]), (628, [0, 1, 2])] := rfl
theorem cut_240_232 : fj_cut 240 232 = some [0, 1, 2, 3, 4] := by decide +kernel
noncomputable def c_240_232 (d : Nat) (x1 x2 x3 x4 : Int) (h : fi_H) : fk_R := gG (fj_run d) 240 232 [(0, (4, 377)), (1, (0, x1)), (2, (4, x2)), (3, (4, x3)), (4, (0, x4))] [] h
theorem cut_240_248 : fj_cut 240 248 = some [0, 1, 2, 3, 4] := by decide +kernel
noncomputable def c_240_248 (d : Nat) (x1 x2 x3 x4 : Int) (h : fi_H) : fk_R := gG (fj_run d) 240 248 [(0, (4, 377)), (1, (0, x1)), (2, (4, x2)), (3, (4, x3)), (4, (0, x4))] [] h
theorem cut_240_264 : fj_cut 240 264 = some [0, 1, 2, 3, 4] := by decide +kernel
noncomputable def c_240_264 (d : Nat) (x1 x2 x3 x4 : Int) (h : fi_H) : fk_R := gG (fj_run d) 240 264 [(0, (4, 377)), (1, (0, x1)), (2, (4, x2)), (3, (4, x3)), (4, (0, x4))] [] h
theorem cut_240_280 : fj_cut 240 280 = some [0, 1, 2, 3, 4] := by decide +kernel
noncomputable def c_240_280 (d : Nat) (x1 x2 x3 x4 : Int) (h : fi_H) : fk_R := gG (fj_run d) 240 280 [(0, (4, 377)), (1, (0, x1)), (2, (4, x2)), (3, (4, x3)), (4, (0, x4))] [] h
theorem cut_240_296 : fj_cut 240 296 = some [0, 1, 2, 3, 4] := by decide +kernel
noncomputable def c_240_296 (d : Nat) (x1 x2 x3 x4 : Int) (h : fi_H) : fk_R := gG (fj_run d) 240 296 [(0, (4, 377)), (1, (0, x1)), (2, (4, x2)), (3, (4, x3)), (4, (0, x4))] [] h
theorem cut_240_312 : fj_cut 240 312 = some [0, 1, 2, 3, 4] := by decide +kernel
noncomputable def c_240_312 (d : Nat) (x1 x2 x3 x4 : Int) (h : fi_H) : fk_R := gG (fj_run d) 240 312 [(0, (4, 377)), (1, (0, x1)), (2, (4, x2)), (3, (4, x3)), (4, (0, x4))] [] h
theorem cut_240_328 : fj_cut 240 328 = some [0, 1, 2, 3, 4] := by decide +kernel
noncomputable def c_240_328 (d : Nat) (x1 x2 x3 x4 : Int) (h : fi_H) : fk_R := gG (fj_run d) 240 328 [(0, (4, 377)), (1, (0, x1)), (2, (4, x2)), (3, (4, x3)), (4, (0, x4))] [] h
theorem cut_240_345 : fj_cut 240 345 = some [0, 1, 2, 3, 4] := by decide +kernel
noncomputable def c_240_345 (d : Nat) (x1 x2 x3 x4 : Int) (h : fi_H) : fk_R := gG (fj_run d) 240 345 [(0, (4, 377)), (1, (0, x1)), (2, (4, x2)), (3, (4, x3)), (4, (0, x4))] [] h
theorem cut_240_362 : fj_cut 240 362 = some [0, 1, 2, 3, 4] := by decide +kernel
noncomputable def c_240_362 (d : Nat) (x1 x2 x3 x4 : Int) (h : fi_H) : fk_R := gG (fj_run d) 240 362 [(0, (4, 377)), (1, (0, x1)), (2, (4, x2)), (3, (4, x3)), (4, (0, x4))] [] h
theorem cut_240_379 : fj_cut 240 379 = some [0, 1, 2, 3, 4] := by decide +kernel
noncomputable def c_240_379 (d : Nat) (x1 x2 x3 x4 : Int) (h : fi_H) : fk_R := gG (fj_run d) 240 379 [(0, (4, 377)), (1, (0, x1)), (2, (4, x2)), (3, (4, x3)), (4, (0, x4))] [] h
theorem cut_240_396 : fj_cut 240 396 = some [0, 1, 2, 3, 4] := by decide +kernel
noncomputable def c_240_396 (d : Nat) (x1 x2 x3 x4 : Int) (h : fi_H) : fk_R := gG (fj_run d) 240 396 [(0, (4, 377)), (1, (0, x1)), (2, (4, x2)), (3, (4, x3)), (4, (0, x4))] [] h
theorem cut_240_413 : fj_cut 240 413 = some [0, 1, 2, 3, 4] := by decide +kernel
noncomputable def c_240_413 (d : Nat) (x1 x2 x3 x4 : Int) (h : fi_H) : fk_R := gG (fj_run d) 240 413 [(0, (4, 377)), (1, (0, x1)), (2, (4, x2)), (3, (4, x3)), (4, (0, x4))] [] h
theorem cut_240_430 : fj_cut 240 430 = some [0, 1, 2, 3, 4] := by decide +kernel
noncomputable def c_240_430 (d : Nat) (x1 x2 x3 x4 : Int) (h : fi_H) : fk_R := gG (fj_run d) 240 430 [(0, (4, 377)), (1, (0, x1)), (2, (4, x2)), (3, (4, x3)), (4, (0, x4))] [] h
theorem cut_240_447 : fj_cut 240 447 = some [0, 1, 2, 3, 4] := by decide +kernel
noncomputable def c_240_447 (d : Nat) (x1 x2 x3 x4 : Int) (h : fi_H) : fk_R := gG (fj_run d) 240 447 [(0, (4, 377)), (1, (0, x1)), (2, (4, x2)), (3, (4, x3)), (4, (0, x4))] [] h
theorem cut_240_461 : fj_cut 240 461 = some [0, 1, 2, 4] := by decide +kernel
noncomputable def c_240_461 (d : Nat) (x1 x2 x4 : Int) (h : fi_H) : fk_R := gG (fj_run d) 240 461 [(0, (4, 377)), (1, (0, x1)), (2, (4, x2)), (4, (0, x4))] [] h
theorem cut_240_532 : fj_cut 240 532 = some [0, 1, 2] := by decide +kernel
noncomputable def c_240_532 (d : Nat) (x1 x2 : Int) (h : fi_H) : fk_R := gG (fj_run d) 240 532 [(0, (4, 377)), (1, (0, x1)), (2, (4, x2))] [] h
theorem cut_240_555 : fj_cut 240 555 = some [0, 1] := by decide +kernel
noncomputable def c_240_555 (d : Nat) (x1 : Int) (h : fi_H) : fk_R := gG (fj_run d) 240 555 [(0, (4, 377)), (1, (0, x1))] [] h
theorem cut_240_561 : fj_cut 240 561 = some [0, 1] := by decide +kernel
noncomputable def c_240_561 (d : Nat) (x1 : Int) (h : fi_H) : fk_R := gG (fj_run d) 240 561 [(0, (4, 377)), (1, (0, x1))] [] h
theorem cut_240_567 : fj_cut 240 567 = some [0, 1] := by decide +kernel
noncomputable def c_240_567 (d : Nat) (x1 : Int) (h : fi_H) : fk_R := gG (fj_run d) 240 567 [(0, (4, 377)), (1, (0, x1))] [] h
theorem cut_240_576 : fj_cut 240 576 = some [0, 1] := by decide +kernel
noncomputable def c_240_576 (d : Nat) (x1 : Int) (h : fi_H) : fk_R := gG (fj_run d) 240 576 [(0, (4, 377)), (1, (0, x1))] [] h
theorem cut_240_585 : fj_cut 240 585 = some [0, 1] := by decide +kernel
noncomputable def c_240_585 (d : Nat) (x1 : Int) (h : fi_H) : fk_R := gG (fj_run d) 240 585 [(0, (4, 377)), (1, (0, x1))] [] h
theorem cut_240_594 : fj_cut 240 594 = some [0, 1] := by decide +kernel
noncomputable def c_240_594 (d : Nat) (x1 : Int) (h : fi_H) : fk_R := gG (fj_run d) 240 594 [(0, (4, 377)), (1, (0, x1))] [] h
theorem cut_240_603 : fj_cut 240 603 = some [0, 1] := by decide +kernel
noncomputable def c_240_603 (d : Nat) (x1 : Int) (h : fi_H) : fk_R := gG (fj_run d) 240 603 [(0, (4, 377)), (1, (0, x1))] [] h
theorem cut_240_612 : fj_cut 240 612 = some [0, 1] := by decide +kernel
noncomputable def c_240_612 (d : Nat) (x1 : Int) (h : fi_H) : fk_R := gG (fj_run d) 240 612 [(0, (4, 377)), (1, (0, x1))] [] h
theorem cut_240_621 : fj_cut 240 621 = some [0, 1, 2] := by decide +kernel
noncomputable def c_240_621 (d : Nat) (x1 x2 : Int) (h : fi_H) : fk_R := gG (fj_run d) 240 621 [(0, (4, 377)), (1, (0, x1)), (2, (4, x2))] [] h
theorem cut_240_628 : fj_cut 240 628 = some [0, 1, 2] := by decide +kernel
noncomputable def c_240_628 (d : Nat) (x1 x2 : Int) (h : fi_H) : fk_R := gG (fj_run d) 240 628 [(0, (4, 377)), (1, (0, x1)), (2, (4, x2))] [] h
theorem e_240_232 (d : Nat) (x1 x2 x3 x4 : Int) {h : fi_H} (H : Shp h) : c_240_232 d x1 x2 x3 x4 h =
  dv_ (fi_vt 216 (h 0 x3.toNat 0)) fun m4 => ca_ (fj_run d m4 h [(4, x3), (4, 233)]) 0
    (fun v2 h1 =>
    if v2 = 0 then
      c_240_461 d x1 x2 x4 h1
    else
      c_240_461 d x1 x2 0 h1)
    (fun q3 h1 => tx_ q3 h1) := by
  unfold c_240_232
  exact
    have D : fk_D 240 [(232, some [0, 1, 2, 3, 4], .aload_n 3, 1, 0, 0, 0), (233, none, .ldc_w 310, 3, 4, 233, 0), (236, none, .invokevirtual 194, 3, 1, 216, 1), (239, none, .ifCond .eq 222, 3, 461, 0, 0), (242, none, .iconst 0, 1, 0, 0, 0), (243, none, .istore 4, 2, 0, 0, 0), (245, none, .goto 216, 3, 461, 0, 0)] := fq_of2 cd_240 ow_240 cl_240 rfl (pc := 232) (by decide +kernel)
    j_aldn (pc := 232) D rfl rfl rfl fun D =>
    j_ldcw (pc := 233) D rfl fun D =>
    j_ivu (pc := 236) (dd := 216) (a := [(4, 233)]) (rest := []) H.2.1 D rfl rfl rfl rfl rfl (fun m4 v2 h1 e1 D =>
      have T := fj_run_ok _ _ _ _ _ _ H.1 e1
      have H := shp_st H T
      j_ifeq (pc := 239) D rfl (fun q =>
        fk_jump cut_240_461 rfl rfl) (fun q D =>
        j_ic (pc := 242) D rfl fun D =>
        j_ist (pc := 243) (L' := [(4, (0, 0)), (0, (4, 377)), (1, (0, x1)), (2, (4, x2)), (3, (4, x3))]) D rfl nl_240 rfl rfl fun D =>
        j_goto (pc := 245) D rfl <|
        fk_jump cut_240_461 rfl rfl)) (fun m4 q3 h1 e1 =>
      j_tx (hx_240 _))
theorem e_240_248 (d : Nat) (x1 x2 x3 x4 : Int) {h : fi_H} (H : Shp h) : c_240_248 d x1 x2 x3 x4 h =
  dv_ (fi_vt 216 (h 0 x3.toNat 0)) fun m4 => ca_ (fj_run d m4 h [(4, x3), (4, 235)]) 0
    (fun v2 h1 =>
    if v2 = 0 then
      c_240_461 d x1 x2 x4 h1
    else
      c_240_461 d x1 x2 1 h1)
    (fun q3 h1 => tx_ q3 h1) := by
  unfold c_240_248
  exact
    have D : fk_D 240 [(248, some [0, 1, 2, 3, 4], .aload_n 3, 1, 0, 0, 0), (249, none, .ldc_w 312, 3, 4, 235, 0), (252, none, .invokevirtual 194, 3, 1, 216, 1), (255, none, .ifCond .eq 206, 3, 461, 0, 0), (258, none, .iconst 1, 1, 0, 1, 0), (259, none, .istore 4, 2, 0, 0, 0), (261, none, .goto 200, 3, 461, 0, 0)] := fq_of2 cd_240 ow_240 cl_240 rfl (pc := 248) (by decide +kernel)
    j_aldn (pc := 248) D rfl rfl rfl fun D =>
    j_ldcw (pc := 249) D rfl fun D =>
    j_ivu (pc := 252) (dd := 216) (a := [(4, 235)]) (rest := []) H.2.1 D rfl rfl rfl rfl rfl (fun m4 v2 h1 e1 D =>
      have T := fj_run_ok _ _ _ _ _ _ H.1 e1
      have H := shp_st H T
      j_ifeq (pc := 255) D rfl (fun q =>
        fk_jump cut_240_461 rfl rfl) (fun q D =>
        j_ic (pc := 258) D rfl fun D =>
        j_ist (pc := 259) (L' := [(4, (0, 1)), (0, (4, 377)), (1, (0, x1)), (2, (4, x2)), (3, (4, x3))]) D rfl nl_240 rfl rfl fun D =>
        j_goto (pc := 261) D rfl <|
        fk_jump cut_240_461 rfl rfl)) (fun m4 q3 h1 e1 =>
      j_tx (hx_240 _))
theorem e_240_264 (d : Nat) (x1 x2 x3 x4 : Int) {h : fi_H} (H : Shp h) : c_240_264 d x1 x2 x3 x4 h =
  dv_ (fi_vt 216 (h 0 x3.toNat 0)) fun m4 => ca_ (fj_run d m4 h [(4, x3), (4, 237)]) 0
    (fun v2 h1 =>
    if v2 = 0 then
      c_240_461 d x1 x2 x4 h1
    else
      c_240_461 d x1 x2 2 h1)
    (fun q3 h1 => tx_ q3 h1) := by
  unfold c_240_264
  exact
    have D : fk_D 240 [(264, some [0, 1, 2, 3, 4], .aload_n 3, 1, 0, 0, 0), (265, none, .ldc_w 314, 3, 4, 237, 0), (268, none, .invokevirtual 194, 3, 1, 216, 1), (271, none, .ifCond .eq 190, 3, 461, 0, 0), (274, none, .iconst 2, 1, 0, 2, 0), (275, none, .istore 4, 2, 0, 0, 0), (277, none, .goto 184, 3, 461, 0, 0)] := fq_of2 cd_240 ow_240 cl_240 rfl (pc := 264) (by decide +kernel)
    j_aldn (pc := 264) D rfl rfl rfl fun D =>
    j_ldcw (pc := 265) D rfl fun D =>
    j_ivu (pc := 268) (dd := 216) (a := [(4, 237)]) (rest := []) H.2.1 D rfl rfl rfl rfl rfl (fun m4 v2 h1 e1 D =>
      have T := fj_run_ok _ _ _ _ _ _ H.1 e1
      have H := shp_st H T
      j_ifeq (pc := 271) D rfl (fun q =>
        fk_jump cut_240_461 rfl rfl) (fun q D =>
        j_ic (pc := 274) D rfl fun D =>
        j_ist (pc := 275) (L' := [(4, (0, 2)), (0, (4, 377)), (1, (0, x1)), (2, (4, x2)), (3, (4, x3))]) D rfl nl_240 rfl rfl fun D =>
        j_goto (pc := 277) D rfl <|
        fk_jump cut_240_461 rfl rfl)) (fun m4 q3 h1 e1 =>
      j_tx (hx_240 _))
theorem e_240_280 (d : Nat) (x1 x2 x3 x4 : Int) {h : fi_H} (H : Shp h) : c_240_280 d x1 x2 x3 x4 h =
  dv_ (fi_vt 216 (h 0 x3.toNat 0)) fun m4 => ca_ (fj_run d m4 h [(4, x3), (4, 241)]) 0
    (fun v2 h1 =>
    if v2 = 0 then
      c_240_461 d x1 x2 x4 h1
    else
      c_240_461 d x1 x2 3 h1)
    (fun q3 h1 => tx_ q3 h1) := by
  unfold c_240_280
  exact
    have D : fk_D 240 [(280, some [0, 1, 2, 3, 4], .aload_n 3, 1, 0, 0, 0), (281, none, .ldc_w 318, 3, 4, 241, 0), (284, none, .invokevirtual 194, 3, 1, 216, 1), (287, none, .ifCond .eq 174, 3, 461, 0, 0), (290, none, .iconst 3, 1, 0, 3, 0), (291, none, .istore 4, 2, 0, 0, 0), (293, none, .goto 168, 3, 461, 0, 0)] := fq_of2 cd_240 ow_240 cl_240 rfl (pc := 280) (by decide +kernel)
    j_aldn (pc := 280) D rfl rfl rfl fun D =>
    j_ldcw (pc := 281) D rfl fun D =>
    j_ivu (pc := 284) (dd := 216) (a := [(4, 241)]) (rest := []) H.2.1 D rfl rfl rfl rfl rfl (fun m4 v2 h1 e1 D =>
      have T := fj_run_ok _ _ _ _ _ _ H.1 e1
      have H := shp_st H T
      j_ifeq (pc := 287) D rfl (fun q =>
        fk_jump cut_240_461 rfl rfl) (fun q D =>
        j_ic (pc := 290) D rfl fun D =>
        j_ist (pc := 291) (L' := [(4, (0, 3)), (0, (4, 377)), (1, (0, x1)), (2, (4, x2)), (3, (4, x3))]) D rfl nl_240 rfl rfl fun D =>
        j_goto (pc := 293) D rfl <|
        fk_jump cut_240_461 rfl rfl)) (fun m4 q3 h1 e1 =>
      j_tx (hx_240 _))
theorem e_240_296 (d : Nat) (x1 x2 x3 x4 : Int) {h : fi_H} (H : Shp h) : c_240_296 d x1 x2 x3 x4 h =
  dv_ (fi_vt 216 (h 0 x3.toNat 0)) fun m4 => ca_ (fj_run d m4 h [(4, x3), (4, 239)]) 0
    (fun v2 h1 =>
    if v2 = 0 then
      c_240_461 d x1 x2 x4 h1
    else
      c_240_461 d x1 x2 4 h1)
    (fun q3 h1 => tx_ q3 h1) := by
  unfold c_240_296
  exact
    have D : fk_D 240 [(296, some [0, 1, 2, 3, 4], .aload_n 3, 1, 0, 0, 0), (297, none, .ldc_w 316, 3, 4, 239, 0), (300, none, .invokevirtual 194, 3, 1, 216, 1), (303, none, .ifCond .eq 158, 3, 461, 0, 0), (306, none, .iconst 4, 1, 0, 4, 0), (307, none, .istore 4, 2, 0, 0, 0), (309, none, .goto 152, 3, 461, 0, 0)] := fq_of2 cd_240 ow_240 cl_240 rfl (pc := 296) (by decide +kernel)
    j_aldn (pc := 296) D rfl rfl rfl fun D =>
    j_ldcw (pc := 297) D rfl fun D =>
    j_ivu (pc := 300) (dd := 216) (a := [(4, 239)]) (rest := []) H.2.1 D rfl rfl rfl rfl rfl (fun m4 v2 h1 e1 D =>
      have T := fj_run_ok _ _ _ _ _ _ H.1 e1
      have H := shp_st H T
      j_ifeq (pc := 303) D rfl (fun q =>
        fk_jump cut_240_461 rfl rfl) (fun q D =>
        j_ic (pc := 306) D rfl fun D =>
        j_ist (pc := 307) (L' := [(4, (0, 4)), (0, (4, 377)), (1, (0, x1)), (2, (4, x2)), (3, (4, x3))]) D rfl nl_240 rfl rfl fun D =>
        j_goto (pc := 309) D rfl <|
        fk_jump cut_240_461 rfl rfl)) (fun m4 q3 h1 e1 =>
      j_tx (hx_240 _))
theorem e_240_312 (d : Nat) (x1 x2 x3 x4 : Int) {h : fi_H} (H : Shp h) : c_240_312 d x1 x2 x3 x4 h =
  dv_ (fi_vt 216 (h 0 x3.toNat 0)) fun m4 => ca_ (fj_run d m4 h [(4, x3), (4, 147)]) 0
    (fun v2 h1 =>
    if v2 = 0 then
      c_240_461 d x1 x2 x4 h1
    else
      c_240_461 d x1 x2 5 h1)
    (fun q3 h1 => tx_ q3 h1) := by
  unfold c_240_312
  exact
    have D : fk_D 240 [(312, some [0, 1, 2, 3, 4], .aload_n 3, 1, 0, 0, 0), (313, none, .ldc_w 320, 3, 4, 147, 0), (316, none, .invokevirtual 194, 3, 1, 216, 1), (319, none, .ifCond .eq 142, 3, 461, 0, 0), (322, none, .iconst 5, 1, 0, 5, 0), (323, none, .istore 4, 2, 0, 0, 0), (325, none, .goto 136, 3, 461, 0, 0)] := fq_of2 cd_240 ow_240 cl_240 rfl (pc := 312) (by decide +kernel)
    j_aldn (pc := 312) D rfl rfl rfl fun D =>
    j_ldcw (pc := 313) D rfl fun D =>
    j_ivu (pc := 316) (dd := 216) (a := [(4, 147)]) (rest := []) H.2.1 D rfl rfl rfl rfl rfl (fun m4 v2 h1 e1 D =>
      have T := fj_run_ok _ _ _ _ _ _ H.1 e1
      have H := shp_st H T
      j_ifeq (pc := 319) D rfl (fun q =>
        fk_jump cut_240_461 rfl rfl) (fun q D =>
        j_ic (pc := 322) D rfl fun D =>
        j_ist (pc := 323) (L' := [(4, (0, 5)), (0, (4, 377)), (1, (0, x1)), (2, (4, x2)), (3, (4, x3))]) D rfl nl_240 rfl rfl fun D =>
        j_goto (pc := 325) D rfl <|
        fk_jump cut_240_461 rfl rfl)) (fun m4 q3 h1 e1 =>
      j_tx (hx_240 _))
theorem e_240_328 (d : Nat) (x1 x2 x3 x4 : Int) {h : fi_H} (H : Shp h) : c_240_328 d x1 x2 x3 x4 h =
  dv_ (fi_vt 216 (h 0 x3.toNat 0)) fun m4 => ca_ (fj_run d m4 h [(4, x3), (4, 149)]) 0
    (fun v2 h1 =>
    if v2 = 0 then
      c_240_461 d x1 x2 x4 h1
    else
      c_240_461 d x1 x2 6 h1)
    (fun q3 h1 => tx_ q3 h1) := by
  unfold c_240_328
  exact
    have D : fk_D 240 [(328, some [0, 1, 2, 3, 4], .aload_n 3, 1, 0, 0, 0), (329, none, .ldc_w 258, 3, 4, 149, 0), (332, none, .invokevirtual 194, 3, 1, 216, 1), (335, none, .ifCond .eq 126, 3, 461, 0, 0), (338, none, .bipush 6, 2, 0, 6, 0), (340, none, .istore 4, 2, 0, 0, 0), (342, none, .goto 119, 3, 461, 0, 0)] := fq_of2 cd_240 ow_240 cl_240 rfl (pc := 328) (by decide +kernel)
    j_aldn (pc := 328) D rfl rfl rfl fun D =>
    j_ldcw (pc := 329) D rfl fun D =>
    j_ivu (pc := 332) (dd := 216) (a := [(4, 149)]) (rest := []) H.2.1 D rfl rfl rfl rfl rfl (fun m4 v2 h1 e1 D =>
      have T := fj_run_ok _ _ _ _ _ _ H.1 e1
      have H := shp_st H T
      j_ifeq (pc := 335) D rfl (fun q =>
        fk_jump cut_240_461 rfl rfl) (fun q D =>
        j_bp (pc := 338) D rfl fun D =>
        j_ist (pc := 340) (L' := [(4, (0, 6)), (0, (4, 377)), (1, (0, x1)), (2, (4, x2)), (3, (4, x3))]) D rfl nl_240 rfl rfl fun D =>
        j_goto (pc := 342) D rfl <|
        fk_jump cut_240_461 rfl rfl)) (fun m4 q3 h1 e1 =>
      j_tx (hx_240 _))
theorem e_240_345 (d : Nat) (x1 x2 x3 x4 : Int) {h : fi_H} (H : Shp h) : c_240_345 d x1 x2 x3 x4 h =
  dv_ (fi_vt 216 (h 0 x3.toNat 0)) fun m4 => ca_ (fj_run d m4 h [(4, x3), (4, 151)]) 0
    (fun v2 h1 =>
    if v2 = 0 then
      c_240_461 d x1 x2 x4 h1
    else
      c_240_461 d x1 x2 7 h1)
    (fun q3 h1 => tx_ q3 h1) := by
  unfold c_240_345
  exact
    have D : fk_D 240 [(345, some [0, 1, 2, 3, 4], .aload_n 3, 1, 0, 0, 0), (346, none, .ldc_w 322, 3, 4, 151, 0), (349, none, .invokevirtual 194, 3, 1, 216, 1), (352, none, .ifCond .eq 109, 3, 461, 0, 0), (355, none, .bipush 7, 2, 0, 7, 0), (357, none, .istore 4, 2, 0, 0, 0), (359, none, .goto 102, 3, 461, 0, 0)] := fq_of2 cd_240 ow_240 cl_240 rfl (pc := 345) (by decide +kernel)
    j_aldn (pc := 345) D rfl rfl rfl fun D =>
    j_ldcw (pc := 346) D rfl fun D =>
    j_ivu (pc := 349) (dd := 216) (a := [(4, 151)]) (rest := []) H.2.1 D rfl rfl rfl rfl rfl (fun m4 v2 h1 e1 D =>
      have T := fj_run_ok _ _ _ _ _ _ H.1 e1
      have H := shp_st H T
      j_ifeq (pc := 352) D rfl (fun q =>
        fk_jump cut_240_461 rfl rfl) (fun q D =>
        j_bp (pc := 355) D rfl fun D =>
        j_ist (pc := 357) (L' := [(4, (0, 7)), (0, (4, 377)), (1, (0, x1)), (2, (4, x2)), (3, (4, x3))]) D rfl nl_240 rfl rfl fun D =>
        j_goto (pc := 359) D rfl <|
        fk_jump cut_240_461 rfl rfl)) (fun m4 q3 h1 e1 =>
      j_tx (hx_240 _))
theorem e_240_362 (d : Nat) (x1 x2 x3 x4 : Int) {h : fi_H} (H : Shp h) : c_240_362 d x1 x2 x3 x4 h =
  dv_ (fi_vt 216 (h 0 x3.toNat 0)) fun m4 => ca_ (fj_run d m4 h [(4, x3), (4, 153)]) 0
    (fun v2 h1 =>
    if v2 = 0 then
      c_240_461 d x1 x2 x4 h1
    else
      c_240_461 d x1 x2 8 h1)
    (fun q3 h1 => tx_ q3 h1) := by
  unfold c_240_362
  exact
    have D : fk_D 240 [(362, some [0, 1, 2, 3, 4], .aload_n 3, 1, 0, 0, 0), (363, none, .ldc_w 324, 3, 4, 153, 0), (366, none, .invokevirtual 194, 3, 1, 216, 1), (369, none, .ifCond .eq 92, 3, 461, 0, 0), (372, none, .bipush 8, 2, 0, 8, 0), (374, none, .istore 4, 2, 0, 0, 0), (376, none, .goto 85, 3, 461, 0, 0)] := fq_of2 cd_240 ow_240 cl_240 rfl (pc := 362) (by decide +kernel)
    j_aldn (pc := 362) D rfl rfl rfl fun D =>
    j_ldcw (pc := 363) D rfl fun D =>
    j_ivu (pc := 366) (dd := 216) (a := [(4, 153)]) (rest := []) H.2.1 D rfl rfl rfl rfl rfl (fun m4 v2 h1 e1 D =>
      have T := fj_run_ok _ _ _ _ _ _ H.1 e1
      have H := shp_st H T
      j_ifeq (pc := 369) D rfl (fun q =>
        fk_jump cut_240_461 rfl rfl) (fun q D =>
        j_bp (pc := 372) D rfl fun D =>
        j_ist (pc := 374) (L' := [(4, (0, 8)), (0, (4, 377)), (1, (0, x1)), (2, (4, x2)), (3, (4, x3))]) D rfl nl_240 rfl rfl fun D =>
        j_goto (pc := 376) D rfl <|
        fk_jump cut_240_461 rfl rfl)) (fun m4 q3 h1 e1 =>
      j_tx (hx_240 _))
theorem e_240_379 (d : Nat) (x1 x2 x3 x4 : Int) {h : fi_H} (H : Shp h) : c_240_379 d x1 x2 x3 x4 h =
  dv_ (fi_vt 216 (h 0 x3.toNat 0)) fun m4 => ca_ (fj_run d m4 h [(4, x3), (4, 155)]) 0
    (fun v2 h1 =>
    if v2 = 0 then
      c_240_461 d x1 x2 x4 h1
    else
      c_240_461 d x1 x2 9 h1)
    (fun q3 h1 => tx_ q3 h1) := by
  unfold c_240_379
  exact
    have D : fk_D 240 [(379, some [0, 1, 2, 3, 4], .aload_n 3, 1, 0, 0, 0), (380, none, .ldc_w 326, 3, 4, 155, 0), (383, none, .invokevirtual 194, 3, 1, 216, 1), (386, none, .ifCond .eq 75, 3, 461, 0, 0), (389, none, .bipush 9, 2, 0, 9, 0), (391, none, .istore 4, 2, 0, 0, 0), (393, none, .goto 68, 3, 461, 0, 0)] := fq_of2 cd_240 ow_240 cl_240 rfl (pc := 379) (by decide +kernel)
    j_aldn (pc := 379) D rfl rfl rfl fun D =>
    j_ldcw (pc := 380) D rfl fun D =>
    j_ivu (pc := 383) (dd := 216) (a := [(4, 155)]) (rest := []) H.2.1 D rfl rfl rfl rfl rfl (fun m4 v2 h1 e1 D =>
      have T := fj_run_ok _ _ _ _ _ _ H.1 e1
      have H := shp_st H T
      j_ifeq (pc := 386) D rfl (fun q =>
        fk_jump cut_240_461 rfl rfl) (fun q D =>
        j_bp (pc := 389) D rfl fun D =>
        j_ist (pc := 391) (L' := [(4, (0, 9)), (0, (4, 377)), (1, (0, x1)), (2, (4, x2)), (3, (4, x3))]) D rfl nl_240 rfl rfl fun D =>
        j_goto (pc := 393) D rfl <|
        fk_jump cut_240_461 rfl rfl)) (fun m4 q3 h1 e1 =>
      j_tx (hx_240 _))
theorem e_240_396 (d : Nat) (x1 x2 x3 x4 : Int) {h : fi_H} (H : Shp h) : c_240_396 d x1 x2 x3 x4 h =
  dv_ (fi_vt 216 (h 0 x3.toNat 0)) fun m4 => ca_ (fj_run d m4 h [(4, x3), (4, 157)]) 0
    (fun v2 h1 =>
    if v2 = 0 then
      c_240_461 d x1 x2 x4 h1
    else
      c_240_461 d x1 x2 10 h1)
    (fun q3 h1 => tx_ q3 h1) := by
  unfold c_240_396
  exact
    have D : fk_D 240 [(396, some [0, 1, 2, 3, 4], .aload_n 3, 1, 0, 0, 0), (397, none, .ldc_w 328, 3, 4, 157, 0), (400, none, .invokevirtual 194, 3, 1, 216, 1), (403, none, .ifCond .eq 58, 3, 461, 0, 0), (406, none, .bipush 10, 2, 0, 10, 0), (408, none, .istore 4, 2, 0, 0, 0), (410, none, .goto 51, 3, 461, 0, 0)] := fq_of2 cd_240 ow_240 cl_240 rfl (pc := 396) (by decide +kernel)
    j_aldn (pc := 396) D rfl rfl rfl fun D =>
    j_ldcw (pc := 397) D rfl fun D =>
    j_ivu (pc := 400) (dd := 216) (a := [(4, 157)]) (rest := []) H.2.1 D rfl rfl rfl rfl rfl (fun m4 v2 h1 e1 D =>
      have T := fj_run_ok _ _ _ _ _ _ H.1 e1
      have H := shp_st H T
      j_ifeq (pc := 403) D rfl (fun q =>
        fk_jump cut_240_461 rfl rfl) (fun q D =>
        j_bp (pc := 406) D rfl fun D =>
        j_ist (pc := 408) (L' := [(4, (0, 10)), (0, (4, 377)), (1, (0, x1)), (2, (4, x2)), (3, (4, x3))]) D rfl nl_240 rfl rfl fun D =>
        j_goto (pc := 410) D rfl <|
        fk_jump cut_240_461 rfl rfl)) (fun m4 q3 h1 e1 =>
      j_tx (hx_240 _))
theorem e_240_413 (d : Nat) (x1 x2 x3 x4 : Int) {h : fi_H} (H : Shp h) : c_240_413 d x1 x2 x3 x4 h =
  dv_ (fi_vt 216 (h 0 x3.toNat 0)) fun m4 => ca_ (fj_run d m4 h [(4, x3), (4, 255)]) 0
    (fun v2 h1 =>
    if v2 = 0 then
      c_240_461 d x1 x2 x4 h1
    else
      c_240_461 d x1 x2 11 h1)
    (fun q3 h1 => tx_ q3 h1) := by
  unfold c_240_413
  exact
    have D : fk_D 240 [(413, some [0, 1, 2, 3, 4], .aload_n 3, 1, 0, 0, 0), (414, none, .ldc_w 344, 3, 4, 255, 0), (417, none, .invokevirtual 194, 3, 1, 216, 1), (420, none, .ifCond .eq 41, 3, 461, 0, 0), (423, none, .bipush 11, 2, 0, 11, 0), (425, none, .istore 4, 2, 0, 0, 0), (427, none, .goto 34, 3, 461, 0, 0)] := fq_of2 cd_240 ow_240 cl_240 rfl (pc := 413) (by decide +kernel)
    j_aldn (pc := 413) D rfl rfl rfl fun D =>
    j_ldcw (pc := 414) D rfl fun D =>
    j_ivu (pc := 417) (dd := 216) (a := [(4, 255)]) (rest := []) H.2.1 D rfl rfl rfl rfl rfl (fun m4 v2 h1 e1 D =>
      have T := fj_run_ok _ _ _ _ _ _ H.1 e1
      have H := shp_st H T
      j_ifeq (pc := 420) D rfl (fun q =>
        fk_jump cut_240_461 rfl rfl) (fun q D =>
        j_bp (pc := 423) D rfl fun D =>
        j_ist (pc := 425) (L' := [(4, (0, 11)), (0, (4, 377)), (1, (0, x1)), (2, (4, x2)), (3, (4, x3))]) D rfl nl_240 rfl rfl fun D =>
        j_goto (pc := 427) D rfl <|
        fk_jump cut_240_461 rfl rfl)) (fun m4 q3 h1 e1 =>
      j_tx (hx_240 _))
theorem e_240_430 (d : Nat) (x1 x2 x3 x4 : Int) {h : fi_H} (H : Shp h) : c_240_430 d x1 x2 x3 x4 h =
  dv_ (fi_vt 216 (h 0 x3.toNat 0)) fun m4 => ca_ (fj_run d m4 h [(4, x3), (4, 257)]) 0
    (fun v2 h1 =>
    if v2 = 0 then
      c_240_461 d x1 x2 x4 h1
    else
      c_240_461 d x1 x2 12 h1)
    (fun q3 h1 => tx_ q3 h1) := by
  unfold c_240_430
  exact
    have D : fk_D 240 [(430, some [0, 1, 2, 3, 4], .aload_n 3, 1, 0, 0, 0), (431, none, .ldc_w 346, 3, 4, 257, 0), (434, none, .invokevirtual 194, 3, 1, 216, 1), (437, none, .ifCond .eq 24, 3, 461, 0, 0), (440, none, .bipush 12, 2, 0, 12, 0), (442, none, .istore 4, 2, 0, 0, 0), (444, none, .goto 17, 3, 461, 0, 0)] := fq_of2 cd_240 ow_240 cl_240 rfl (pc := 430) (by decide +kernel)
    j_aldn (pc := 430) D rfl rfl rfl fun D =>
    j_ldcw (pc := 431) D rfl fun D =>
    j_ivu (pc := 434) (dd := 216) (a := [(4, 257)]) (rest := []) H.2.1 D rfl rfl rfl rfl rfl (fun m4 v2 h1 e1 D =>
      have T := fj_run_ok _ _ _ _ _ _ H.1 e1
      have H := shp_st H T
      j_ifeq (pc := 437) D rfl (fun q =>
        fk_jump cut_240_461 rfl rfl) (fun q D =>
        j_bp (pc := 440) D rfl fun D =>
        j_ist (pc := 442) (L' := [(4, (0, 12)), (0, (4, 377)), (1, (0, x1)), (2, (4, x2)), (3, (4, x3))]) D rfl nl_240 rfl rfl fun D =>
        j_goto (pc := 444) D rfl <|
        fk_jump cut_240_461 rfl rfl)) (fun m4 q3 h1 e1 =>
      j_tx (hx_240 _))
theorem e_240_447 (d : Nat) (x1 x2 x3 x4 : Int) {h : fi_H} (H : Shp h) : c_240_447 d x1 x2 x3 x4 h =
  dv_ (fi_vt 216 (h 0 x3.toNat 0)) fun m4 => ca_ (fj_run d m4 h [(4, x3), (4, 259)]) 0
    (fun v2 h1 =>
    if v2 = 0 then
      c_240_461 d x1 x2 x4 h1
    else
      c_240_461 d x1 x2 13 h1)
    (fun q3 h1 => tx_ q3 h1) := by
  unfold c_240_447
  exact
    have D : fk_D 240 [(447, some [0, 1, 2, 3, 4], .aload_n 3, 1, 0, 0, 0), (448, none, .ldc_w 348, 3, 4, 259, 0), (451, none, .invokevirtual 194, 3, 1, 216, 1), (454, none, .ifCond .eq 7, 3, 461, 0, 0), (457, none, .bipush 13, 2, 0, 13, 0), (459, none, .istore 4, 2, 0, 0, 0)] := fq_of2 cd_240 ow_240 cl_240 rfl (pc := 447) (by decide +kernel)
    j_aldn (pc := 447) D rfl rfl rfl fun D =>
    j_ldcw (pc := 448) D rfl fun D =>
    j_ivu (pc := 451) (dd := 216) (a := [(4, 259)]) (rest := []) H.2.1 D rfl rfl rfl rfl rfl (fun m4 v2 h1 e1 D =>
      have T := fj_run_ok _ _ _ _ _ _ H.1 e1
      have H := shp_st H T
      j_ifeq (pc := 454) D rfl (fun q =>
        fk_jump cut_240_461 rfl rfl) (fun q D =>
        j_bp (pc := 457) D rfl fun D =>
        j_ist (pc := 459) (L' := [(4, (0, 13)), (0, (4, 377)), (1, (0, x1)), (2, (4, x2)), (3, (4, x3))]) D rfl nl_240 rfl rfl fun D =>
        fk_jump cut_240_461 rfl rfl)) (fun m4 q3 h1 e1 =>
      j_tx (hx_240 _))
theorem e_240_461 (d : Nat) (x1 x2 x4 : Int) {h : fi_H} (H : Shp h) : c_240_461 d x1 x2 x4 h =
  if x4 = 0 then
    c_240_532 d x1 x2 h
  else if x4 = 1 then
    c_240_532 d x1 x2 h
  else if x4 = 2 then
    c_240_532 d x1 x2 h
  else if x4 = 3 then
    c_240_555 d x1 h
  else if x4 = 4 then
    c_240_561 d x1 h
  else if x4 = 5 then
    c_240_567 d x1 h
  else if x4 = 6 then
    c_240_576 d x1 h
  else if x4 = 7 then
    c_240_585 d x1 h
  else if x4 = 8 then
    c_240_594 d x1 h
  else if x4 = 9 then
    c_240_603 d x1 h
  else if x4 = 10 then
    c_240_612 d x1 h
  else if x4 = 11 then
    c_240_621 d x1 x2 h
  else if x4 = 12 then
    c_240_621 d x1 x2 h
  else if x4 = 13 then
    c_240_621 d x1 x2 h
  else 
    c_240_628 d x1 x2 h := by
  unfold c_240_461
  exact
    have D : fk_D 240 [(461, some [0, 1, 2, 4], .iload 4, 2, 0, 0, 0), (463, none, .tableswitch 165 0 13 #[69, 69, 69, 92, 98, 104, 113, 122, 131, 140, 149, 158, 158, 158], 69, 0, 0, 0)] := fq_of3 cd_240 ow_240 cl_240 rfl (pc := 461) (by decide +kernel)
    j_ild (pc := 461) D rfl rfl rfl fun D =>
    have N : fk_ni (x4) [] := trivial
    j_tc (pc := 463) 0 (t := 532) D N rfl (by decide +kernel) (fun q =>
      fk_jump cut_240_532 rfl rfl) (fun N =>
      j_tc 1 (t := 532) D N rfl (by decide +kernel) (fun q =>
        fk_jump cut_240_532 rfl rfl) (fun N =>
        j_tc 2 (t := 532) D N rfl (by decide +kernel) (fun q =>
          fk_jump cut_240_532 rfl rfl) (fun N =>
          j_tc 3 (t := 555) D N rfl (by decide +kernel) (fun q =>
            fk_jump cut_240_555 rfl rfl) (fun N =>
            j_tc 4 (t := 561) D N rfl (by decide +kernel) (fun q =>
              fk_jump cut_240_561 rfl rfl) (fun N =>
              j_tc 5 (t := 567) D N rfl (by decide +kernel) (fun q =>
                fk_jump cut_240_567 rfl rfl) (fun N =>
                j_tc 6 (t := 576) D N rfl (by decide +kernel) (fun q =>
                  fk_jump cut_240_576 rfl rfl) (fun N =>
                  j_tc 7 (t := 585) D N rfl (by decide +kernel) (fun q =>
                    fk_jump cut_240_585 rfl rfl) (fun N =>
                    j_tc 8 (t := 594) D N rfl (by decide +kernel) (fun q =>
                      fk_jump cut_240_594 rfl rfl) (fun N =>
                      j_tc 9 (t := 603) D N rfl (by decide +kernel) (fun q =>
                        fk_jump cut_240_603 rfl rfl) (fun N =>
                        j_tc 10 (t := 612) D N rfl (by decide +kernel) (fun q =>
                          fk_jump cut_240_612 rfl rfl) (fun N =>
                          j_tc 11 (t := 621) D N rfl (by decide +kernel) (fun q =>
                            fk_jump cut_240_621 rfl rfl) (fun N =>
                            j_tc 12 (t := 621) D N rfl (by decide +kernel) (fun q =>
                              fk_jump cut_240_621 rfl rfl) (fun N =>
                              j_tc 13 (t := 621) D N rfl (by decide +kernel) (fun q =>
                                fk_jump cut_240_621 rfl rfl) (fun N =>
                                j_td (t := 628) D N rfl (by decide +kernel) (by decide +kernel) <|
                                fk_jump cut_240_628 rfl rfl))))))))))))))
theorem e_240_532 (d : Nat) (x1 x2 : Int) {h : fi_H} (H : Shp h) : c_240_532 d x1 x2 h =
  cv_ (fj_run d 166 h [(4, 377)])
    (fun h1 =>
    cv_ (fj_run d 243 h1 [(4, 377), (0, 1), (0, x1)])
      (fun h4 =>
      nw_ h4 114 6 0 fun r7 h8 =>
      cv_ (fj_run d 246 h8 [(4, r7), (4, 303), (4, x2)])
        (fun h9 =>
        some (.inl (some (4, r7)), h9))
        (fun q11 h9 => tx_ q11 h9))
      (fun q6 h4 => tx_ q6 h4))
    (fun q3 h1 => tx_ q3 h1) := by
  unfold c_240_532
  exact
    have D : fk_D 240 [(532, some [0, 1, 2], .aload_n 0, 1, 0, 0, 0), (533, none, .invokevirtual 206, 3, 0, 261, 0), (536, none, .aload_n 0, 1, 0, 0, 0), (537, none, .iconst 1, 1, 0, 1, 0), (538, none, .iload_n 1, 1, 0, 0, 0), (539, none, .invokevirtual 740, 3, 2, 310, 0), (542, none, .new 826, 3, 114, 6, 0), (545, none, .dup, 1, 0, 0, 0), (546, none, .aload_n 0, 1, 0, 0, 0), (547, none, .getfield 3, 3, 182, 115, 12), (550, none, .aload_n 2, 1, 0, 0, 0), (551, none, .invokespecial 828, 3, 2, 246, 0), (554, none, .areturn, 1, 0, 0, 0)] := fq_of2 cd_240 ow_240 cl_240 rfl (pc := 532) (by decide +kernel)
    j_aldn (pc := 532) D rfl rfl rfl fun D =>
    j_ivv (pc := 533) (m := 166) (dd := 261) (a := []) (rest := []) D rfl rfl rfl rfl rfl (by decide) (s0_377 H) (by decide +kernel) (fun h1 e1 D =>
      have T := fj_run_ok _ _ _ _ _ _ H.1 e1
      have H := shp_st H T
      j_aldn (pc := 536) D rfl rfl rfl fun D =>
      j_ic (pc := 537) D rfl fun D =>
      j_ildn (pc := 538) D rfl rfl rfl fun D =>
      j_ivv (pc := 539) (m := 243) (dd := 310) (a := [(0, 1), (0, x1)]) (rest := []) D rfl rfl rfl rfl rfl (by decide) (s0_377 H) (by decide +kernel) (fun h4 e1 D =>
        have T := fj_run_ok _ _ _ _ _ _ H.1 e1
        have H := shp_st H T
        j_new (pc := 542) D rfl fun r7 h8 er eh8 S D =>
        have gt_r7 := nw_gt H.1 er
        have kc_r7 := nw_cls H.1 er eh8
        have T := fj_hs_ok H.1 S
        have H := shp_st H T
        j_sh (pc := 545) D rfl rfl rfl fun D =>
        j_aldn (pc := 546) D rfl rfl rfl fun D =>
        j_gfc (pc := 547) (a := 377) D rfl rfl (by decide) rfl (s0_377 H) rfl (sf_182_377 H) fun D =>
        j_aldn (pc := 550) D rfl rfl rfl fun D =>
        j_spv (pc := 551) (m := 246) (a := [(4, 303), (4, x2)]) (rest := [(4, r7)]) D rfl rfl rfl rfl (by rw [show h8 0 r7.toNat 0 = 114 from kc_r7]; decide) (gt_nz gt_r7) (fun h9 e1 D =>
          have T := fj_run_ok _ _ _ _ _ _ H.1 e1
          have kc_r7 := cls_st H.1 T.2 kc_r7 (by decide)
          have H := shp_st H T
          j_aret D rt_240) (fun q11 h9 e1 =>
          j_tx (hx_240 _))) (fun q6 h4 e1 =>
        j_tx (hx_240 _))) (fun q3 h1 e1 =>
      j_tx (hx_240 _))
theorem e_240_555 (d : Nat) (x1 : Int) {h : fi_H} (H : Shp h) : c_240_555 d x1 h =
  ca_ (fj_run d 247 h [(4, 377), (0, x1)]) 4
    (fun v2 h1 =>
    some (.inl (some (4, v2)), h1))
    (fun q3 h1 => tx_ q3 h1) := by
  unfold c_240_555
  exact
    have D : fk_D 240 [(555, some [0, 1], .aload_n 0, 1, 0, 0, 0), (556, none, .iload_n 1, 1, 0, 0, 0), (557, none, .invokevirtual 831, 3, 1, 319, 5), (560, none, .areturn, 1, 0, 0, 0)] := fq_of2 cd_240 ow_240 cl_240 rfl (pc := 555) (by decide +kernel)
    j_aldn (pc := 555) D rfl rfl rfl fun D =>
    j_ildn (pc := 556) D rfl rfl rfl fun D =>
    j_iv (pc := 557) (m := 247) (dd := 319) (a := [(0, x1)]) (rest := []) D rfl rfl rfl rfl rfl (by decide) (s0_377 H) (by decide +kernel) (fun v2 h1 e1 D =>
      have T := fj_run_ok _ _ _ _ _ _ H.1 e1
      have H := shp_st H T
      j_aret D rt_240) (fun q3 h1 e1 =>
      j_tx (hx_240 _))
theorem e_240_561 (d : Nat) (x1 : Int) {h : fi_H} (H : Shp h) : c_240_561 d x1 h =
  ca_ (fj_run d 251 h [(4, 377), (0, x1)]) 4
    (fun v2 h1 =>
    some (.inl (some (4, v2)), h1))
    (fun q3 h1 => tx_ q3 h1) := by
  unfold c_240_561
  exact
    have D : fk_D 240 [(561, some [0, 1], .aload_n 0, 1, 0, 0, 0), (562, none, .iload_n 1, 1, 0, 0, 0), (563, none, .invokevirtual 834, 3, 1, 320, 5), (566, none, .areturn, 1, 0, 0, 0)] := fq_of2 cd_240 ow_240 cl_240 rfl (pc := 561) (by decide +kernel)
    j_aldn (pc := 561) D rfl rfl rfl fun D =>
    j_ildn (pc := 562) D rfl rfl rfl fun D =>
    j_iv (pc := 563) (m := 251) (dd := 320) (a := [(0, x1)]) (rest := []) D rfl rfl rfl rfl rfl (by decide) (s0_377 H) (by decide +kernel) (fun v2 h1 e1 D =>
      have T := fj_run_ok _ _ _ _ _ _ H.1 e1
      have H := shp_st H T
      j_aret D rt_240) (fun q3 h1 e1 =>
      j_tx (hx_240 _))
theorem e_240_567 (d : Nat) (x1 : Int) {h : fi_H} (H : Shp h) : c_240_567 d x1 h =
  ca_ (fj_run d 254 h [(4, 377), (4, 54), (0, x1)]) 4
    (fun v2 h1 =>
    some (.inl (some (4, v2)), h1))
    (fun q3 h1 => tx_ q3 h1) := by
  unfold c_240_567
  exact
    have D : fk_D 240 [(567, some [0, 1], .aload_n 0, 1, 0, 0, 0), (568, none, .getstatic 836, 3, 4, 54, 0), (571, none, .iload_n 1, 1, 0, 0, 0), (572, none, .invokevirtual 842, 3, 2, 321, 5), (575, none, .areturn, 1, 0, 0, 0)] := fq_of2 cd_240 ow_240 cl_240 rfl (pc := 567) (by decide +kernel)
    j_aldn (pc := 567) D rfl rfl rfl fun D =>
    j_gs (pc := 568) D rfl fun D =>
    j_ildn (pc := 571) D rfl rfl rfl fun D =>
    j_iv (pc := 572) (m := 254) (dd := 321) (a := [(4, 54), (0, x1)]) (rest := []) D rfl rfl rfl rfl rfl (by decide) (s0_377 H) (by decide +kernel) (fun v2 h1 e1 D =>
      have T := fj_run_ok _ _ _ _ _ _ H.1 e1
      have H := shp_st H T
      j_aret D rt_240) (fun q3 h1 e1 =>
      j_tx (hx_240 _))
theorem e_240_576 (d : Nat) (x1 : Int) {h : fi_H} (H : Shp h) : c_240_576 d x1 h =
  ca_ (fj_run d 254 h [(4, 377), (4, 55), (0, x1)]) 4
    (fun v2 h1 =>
    some (.inl (some (4, v2)), h1))
    (fun q3 h1 => tx_ q3 h1) := by
  unfold c_240_576
  exact
    have D : fk_D 240 [(576, some [0, 1], .aload_n 0, 1, 0, 0, 0), (577, none, .getstatic 846, 3, 4, 55, 0), (580, none, .iload_n 1, 1, 0, 0, 0), (581, none, .invokevirtual 842, 3, 2, 321, 5), (584, none, .areturn, 1, 0, 0, 0)] := fq_of2 cd_240 ow_240 cl_240 rfl (pc := 576) (by decide +kernel)
    j_aldn (pc := 576) D rfl rfl rfl fun D =>
    j_gs (pc := 577) D rfl fun D =>
    j_ildn (pc := 580) D rfl rfl rfl fun D =>
    j_iv (pc := 581) (m := 254) (dd := 321) (a := [(4, 55), (0, x1)]) (rest := []) D rfl rfl rfl rfl rfl (by decide) (s0_377 H) (by decide +kernel) (fun v2 h1 e1 D =>
      have T := fj_run_ok _ _ _ _ _ _ H.1 e1
      have H := shp_st H T
      j_aret D rt_240) (fun q3 h1 e1 =>
      j_tx (hx_240 _))
theorem e_240_585 (d : Nat) (x1 : Int) {h : fi_H} (H : Shp h) : c_240_585 d x1 h =
  ca_ (fj_run d 254 h [(4, 377), (4, 56), (0, x1)]) 4
    (fun v2 h1 =>
    some (.inl (some (4, v2)), h1))
    (fun q3 h1 => tx_ q3 h1) := by
  unfold c_240_585
  exact
    have D : fk_D 240 [(585, some [0, 1], .aload_n 0, 1, 0, 0, 0), (586, none, .getstatic 848, 3, 4, 56, 0), (589, none, .iload_n 1, 1, 0, 0, 0), (590, none, .invokevirtual 842, 3, 2, 321, 5), (593, none, .areturn, 1, 0, 0, 0)] := fq_of2 cd_240 ow_240 cl_240 rfl (pc := 585) (by decide +kernel)
    j_aldn (pc := 585) D rfl rfl rfl fun D =>
    j_gs (pc := 586) D rfl fun D =>
    j_ildn (pc := 589) D rfl rfl rfl fun D =>
    j_iv (pc := 590) (m := 254) (dd := 321) (a := [(4, 56), (0, x1)]) (rest := []) D rfl rfl rfl rfl rfl (by decide) (s0_377 H) (by decide +kernel) (fun v2 h1 e1 D =>
      have T := fj_run_ok _ _ _ _ _ _ H.1 e1
      have H := shp_st H T
      j_aret D rt_240) (fun q3 h1 e1 =>
      j_tx (hx_240 _))
theorem e_240_594 (d : Nat) (x1 : Int) {h : fi_H} (H : Shp h) : c_240_594 d x1 h =
  ca_ (fj_run d 254 h [(4, 377), (4, 57), (0, x1)]) 4
    (fun v2 h1 =>
    some (.inl (some (4, v2)), h1))
    (fun q3 h1 => tx_ q3 h1) := by
  unfold c_240_594
  exact
    have D : fk_D 240 [(594, some [0, 1], .aload_n 0, 1, 0, 0, 0), (595, none, .getstatic 851, 3, 4, 57, 0), (598, none, .iload_n 1, 1, 0, 0, 0), (599, none, .invokevirtual 842, 3, 2, 321, 5), (602, none, .areturn, 1, 0, 0, 0)] := fq_of2 cd_240 ow_240 cl_240 rfl (pc := 594) (by decide +kernel)
    j_aldn (pc := 594) D rfl rfl rfl fun D =>
    j_gs (pc := 595) D rfl fun D =>
    j_ildn (pc := 598) D rfl rfl rfl fun D =>
    j_iv (pc := 599) (m := 254) (dd := 321) (a := [(4, 57), (0, x1)]) (rest := []) D rfl rfl rfl rfl rfl (by decide) (s0_377 H) (by decide +kernel) (fun v2 h1 e1 D =>
      have T := fj_run_ok _ _ _ _ _ _ H.1 e1
      have H := shp_st H T
      j_aret D rt_240) (fun q3 h1 e1 =>
      j_tx (hx_240 _))
theorem e_240_603 (d : Nat) (x1 : Int) {h : fi_H} (H : Shp h) : c_240_603 d x1 h =
  ca_ (fj_run d 254 h [(4, 377), (4, 58), (0, x1)]) 4
    (fun v2 h1 =>
    some (.inl (some (4, v2)), h1))
    (fun q3 h1 => tx_ q3 h1) := by
  unfold c_240_603
  exact
    have D : fk_D 240 [(603, some [0, 1], .aload_n 0, 1, 0, 0, 0), (604, none, .getstatic 854, 3, 4, 58, 0), (607, none, .iload_n 1, 1, 0, 0, 0), (608, none, .invokevirtual 842, 3, 2, 321, 5), (611, none, .areturn, 1, 0, 0, 0)] := fq_of2 cd_240 ow_240 cl_240 rfl (pc := 603) (by decide +kernel)
    j_aldn (pc := 603) D rfl rfl rfl fun D =>
    j_gs (pc := 604) D rfl fun D =>
    j_ildn (pc := 607) D rfl rfl rfl fun D =>
    j_iv (pc := 608) (m := 254) (dd := 321) (a := [(4, 58), (0, x1)]) (rest := []) D rfl rfl rfl rfl rfl (by decide) (s0_377 H) (by decide +kernel) (fun v2 h1 e1 D =>
      have T := fj_run_ok _ _ _ _ _ _ H.1 e1
      have H := shp_st H T
      j_aret D rt_240) (fun q3 h1 e1 =>
      j_tx (hx_240 _))
theorem e_240_612 (d : Nat) (x1 : Int) {h : fi_H} (H : Shp h) : c_240_612 d x1 h =
  ca_ (fj_run d 254 h [(4, 377), (4, 59), (0, x1)]) 4
    (fun v2 h1 =>
    some (.inl (some (4, v2)), h1))
    (fun q3 h1 => tx_ q3 h1) := by
  unfold c_240_612
  exact
    have D : fk_D 240 [(612, some [0, 1], .aload_n 0, 1, 0, 0, 0), (613, none, .getstatic 857, 3, 4, 59, 0), (616, none, .iload_n 1, 1, 0, 0, 0), (617, none, .invokevirtual 842, 3, 2, 321, 5), (620, none, .areturn, 1, 0, 0, 0)] := fq_of2 cd_240 ow_240 cl_240 rfl (pc := 612) (by decide +kernel)
    j_aldn (pc := 612) D rfl rfl rfl fun D =>
    j_gs (pc := 613) D rfl fun D =>
    j_ildn (pc := 616) D rfl rfl rfl fun D =>
    j_iv (pc := 617) (m := 254) (dd := 321) (a := [(4, 59), (0, x1)]) (rest := []) D rfl rfl rfl rfl rfl (by decide) (s0_377 H) (by decide +kernel) (fun v2 h1 e1 D =>
      have T := fj_run_ok _ _ _ _ _ _ H.1 e1
      have H := shp_st H T
      j_aret D rt_240) (fun q3 h1 e1 =>
      j_tx (hx_240 _))
theorem e_240_621 (d : Nat) (x1 x2 : Int) {h : fi_H} (H : Shp h) : c_240_621 d x1 x2 h =
  ca_ (fj_run d 257 h [(4, 377), (4, x2), (0, x1)]) 4
    (fun v2 h1 =>
    some (.inl (some (4, v2)), h1))
    (fun q3 h1 => tx_ q3 h1) := by
  unfold c_240_621
  exact
    have D : fk_D 240 [(621, some [0, 1, 2], .aload_n 0, 1, 0, 0, 0), (622, none, .aload_n 2, 1, 0, 0, 0), (623, none, .iload_n 1, 1, 0, 0, 0), (624, none, .invokevirtual 860, 3, 2, 322, 5), (627, none, .areturn, 1, 0, 0, 0)] := fq_of2 cd_240 ow_240 cl_240 rfl (pc := 621) (by decide +kernel)
    j_aldn (pc := 621) D rfl rfl rfl fun D =>
    j_aldn (pc := 622) D rfl rfl rfl fun D =>
    j_ildn (pc := 623) D rfl rfl rfl fun D =>
    j_iv (pc := 624) (m := 257) (dd := 322) (a := [(4, x2), (0, x1)]) (rest := []) D rfl rfl rfl rfl rfl (by decide) (s0_377 H) (by decide +kernel) (fun v2 h1 e1 D =>
      have T := fj_run_ok _ _ _ _ _ _ H.1 e1
      have H := shp_st H T
      j_aret D rt_240) (fun q3 h1 e1 =>
      j_tx (hx_240 _))
theorem e_240_628 (d : Nat) (x1 x2 : Int) {h : fi_H} (H : Shp h) : c_240_628 d x1 x2 h =
  ca_ (fj_run d 180 h [(4, x2)]) 4
    (fun v2 h1 =>
    if v2 = 0 then
      ca_ (fj_run d 211 h1 [(4, 377)]) 0
        (fun v5 h4 =>
        if 0 ≤ v5 ∧ v5 < 40 then
        if h4 0 (h4 12 320 v5.toNat).toNat 0 = 124 then
        if h4 323 (h4 12 320 v5.toNat).toNat 0 = 0 then
          cv_ (fj_run d 166 h4 [(4, 377)])
            (fun h9 =>
            cv_ (fj_run d 243 h9 [(4, 377), (0, 1), (0, x1)])
              (fun h12 =>
              if h12 0 (h12 12 320 v5.toNat).toNat 0 = 124 then
              if h12 322 (h12 12 320 v5.toNat).toNat 0 = 0 then
                nw_ h12 106 7 0 fun r16 h17 =>
                cv_ (fj_run d 289 h17 [(4, r16), (4, 303), (0, v5)])
                  (fun h18 =>
                  some (.inl (some (4, r16)), h18))
                  (fun q20 h18 => tx_ q20 h18)
              else
                nw_ h12 123 7 0 fun r21 h22 =>
                cv_ (fj_run d 288 h22 [(4, r21), (4, 303), (0, v5)])
                  (fun h23 =>
                  some (.inl (some (4, r21)), h23))
                  (fun q25 h23 => tx_ q25 h23)
              else none)
              (fun q14 h12 => tx_ q14 h12))
            (fun q11 h9 => tx_ q11 h9)
        else
          ca_ (fj_run d 164 h4 [(4, 377), (0, 2)]) 4
            (fun v27 h26 =>
            if v27 ≠ 0 then
            tx_ v27.toNat h26
            else none)
            (fun q28 h26 => tx_ q28 h26)
        else none
        else none)
        (fun q6 h4 => tx_ q6 h4)
    else
      ca_ (fj_run d 259 h1 [(4, 377), (4, v2), (0, x1)]) 4
        (fun v30 h29 =>
        some (.inl (some (4, v30)), h29))
        (fun q31 h29 => tx_ q31 h29))
    (fun q3 h1 => tx_ q3 h1) := by
  unfold c_240_628
  exact
    have D : fk_D 240 [(628, some [0, 1, 2], .aload_n 2, 1, 0, 0, 0), (629, none, .invokestatic 356, 3, 1, 180, 5), (632, none, .astore_n 3, 1, 0, 0, 0), (633, none, .aload_n 3, 1, 0, 0, 0), (634, none, .ifnull 10, 3, 644, 0, 0), (637, none, .aload_n 0, 1, 0, 0, 0), (638, none, .aload_n 3, 1, 0, 0, 0), (639, none, .iload_n 1, 1, 0, 0, 0), (640, none, .invokevirtual 864, 3, 2, 323, 5), (643, none, .areturn, 1, 0, 0, 0)] := fq_of2 cd_240 ow_240 cl_240 rfl (pc := 628) (by decide +kernel)
    j_aldn (pc := 628) D rfl rfl rfl fun D =>
    j_is (pc := 629) (m := 180) (a := [(4, x2)]) (rest := []) D rfl rfl rfl rfl (fun v2 h1 e1 D =>
      have T := fj_run_ok _ _ _ _ _ _ H.1 e1
      have H := shp_st H T
      j_astn (pc := 632) (L' := [(3, (4, v2)), (0, (4, 377)), (1, (0, x1)), (2, (4, x2))]) D rfl nl_240 rfl rfl fun D =>
      j_aldn (pc := 633) D rfl rfl rfl fun D =>
      j_null (pc := 634) D rfl (fun q =>
        have D : fk_D 240 [(644, none, .aload_n 0, 1, 0, 0, 0), (645, none, .invokevirtual 632, 3, 0, 293, 1), (648, none, .istore 4, 2, 0, 0, 0), (650, none, .aload_n 0, 1, 0, 0, 0), (651, none, .getfield 3, 3, 182, 115, 12), (654, none, .getfield 368, 3, 214, 100, 12), (657, none, .iload 4, 2, 0, 0, 0), (659, none, .aaload, 1, 0, 0, 0), (660, none, .getfield 648, 3, 323, (-124), 4), (663, none, .ifCond .eq 9, 3, 672, 0, 0), (666, none, .aload_n 0, 1, 0, 0, 0), (667, none, .iconst 2, 1, 0, 2, 0), (668, none, .invokevirtual 190, 3, 1, 258, 5), (671, none, .athrow, 1, 0, 0, 0)] := fq_of2 cd_240 ow_240 cl_240 rfl (pc := 644) (by decide +kernel)
        j_aldn (pc := 644) D rfl rfl rfl fun D =>
        j_iv (pc := 645) (m := 211) (dd := 293) (a := []) (rest := []) D rfl rfl rfl rfl rfl (by decide) (s0_377 H) (by decide +kernel) (fun v5 h4 e1 D =>
          have T := fj_run_ok _ _ _ _ _ _ H.1 e1
          have H := shp_st H T
          j_ist (pc := 648) (L' := [(4, (0, v5)), (3, (4, v2)), (0, (4, 377)), (1, (0, x1)), (2, (4, x2))]) D rfl nl_240 rfl rfl fun D =>
          j_aldn (pc := 650) D rfl rfl rfl fun D =>
          j_gfc (pc := 651) (a := 377) D rfl rfl (by decide) rfl (s0_377 H) rfl (sf_182_377 H) fun D =>
          j_gfc (pc := 654) (a := 303) D rfl rfl (by decide) rfl (s0_303 H) rfl (sf_214_303 H) fun D =>
          j_ild (pc := 657) D rfl rfl rfl fun D =>
          j_al (pc := 659) (a := 320) (e := 12) D rfl rfl rfl (by decide) (s0_320 H) (s1_320 H) ⟨rfl, rfl, rfl⟩ rfl gn fun qb7 D =>
          j_gfo (pc := 660) H.2.1 D rfl rfl rfl rfl fun kc8 D =>
          j_ifeq (pc := 663) D rfl (fun q =>
            have D : fk_D 240 [(672, none, .aload_n 0, 1, 0, 0, 0), (673, none, .invokevirtual 206, 3, 0, 261, 0), (676, none, .aload_n 0, 1, 0, 0, 0), (677, none, .iconst 1, 1, 0, 1, 0), (678, none, .iload_n 1, 1, 0, 0, 0), (679, none, .invokevirtual 740, 3, 2, 310, 0), (682, none, .aload_n 0, 1, 0, 0, 0), (683, none, .getfield 3, 3, 182, 115, 12), (686, none, .getfield 368, 3, 214, 100, 12), (689, none, .iload 4, 2, 0, 0, 0), (691, none, .aaload, 1, 0, 0, 0), (692, none, .getfield 504, 3, 322, (-124), 4), (695, none, .ifCond .eq 19, 3, 714, 0, 0), (698, none, .new 868, 3, 123, 7, 0), (701, none, .dup, 1, 0, 0, 0), (702, none, .aload_n 0, 1, 0, 0, 0), (703, none, .getfield 3, 3, 182, 115, 12), (706, none, .iload 4, 2, 0, 0, 0), (708, none, .invokespecial 870, 3, 2, 288, 0), (711, none, .goto 16, 3, 727, 0, 0)] := fq_of2 cd_240 ow_240 cl_240 rfl (pc := 672) (by decide +kernel)
            j_aldn (pc := 672) D rfl rfl rfl fun D =>
            j_ivv (pc := 673) (m := 166) (dd := 261) (a := []) (rest := []) D rfl rfl rfl rfl rfl (by decide) (s0_377 H) (by decide +kernel) (fun h9 e1 D =>
              have T := fj_run_ok _ _ _ _ _ _ H.1 e1
              have H := shp_st H T
              j_aldn (pc := 676) D rfl rfl rfl fun D =>
              j_ic (pc := 677) D rfl fun D =>
              j_ildn (pc := 678) D rfl rfl rfl fun D =>
              j_ivv (pc := 679) (m := 243) (dd := 310) (a := [(0, 1), (0, x1)]) (rest := []) D rfl rfl rfl rfl rfl (by decide) (s0_377 H) (by decide +kernel) (fun h12 e1 D =>
                have T := fj_run_ok _ _ _ _ _ _ H.1 e1
                have H := shp_st H T
                j_aldn (pc := 682) D rfl rfl rfl fun D =>
                j_gfc (pc := 683) (a := 377) D rfl rfl (by decide) rfl (s0_377 H) rfl (sf_182_377 H) fun D =>
                j_gfc (pc := 686) (a := 303) D rfl rfl (by decide) rfl (s0_303 H) rfl (sf_214_303 H) fun D =>
                j_ild (pc := 689) D rfl rfl rfl fun D =>
                j_al (pc := 691) (a := 320) (e := 12) D rfl rfl rfl (by decide) (s0_320 H) (s1_320 H) ⟨rfl, rfl, rfl⟩ rfl (gy qb7) fun q D =>
                j_gfo (pc := 692) H.2.1 D rfl rfl rfl rfl fun kc15 D =>
                j_ifeq (pc := 695) D rfl (fun q =>
                  have D : fk_D 240 [(714, none, .new 873, 3, 106, 7, 0), (717, none, .dup, 1, 0, 0, 0), (718, none, .aload_n 0, 1, 0, 0, 0), (719, none, .getfield 3, 3, 182, 115, 12), (722, none, .iload 4, 2, 0, 0, 0), (724, none, .invokespecial 875, 3, 2, 289, 0), (727, none, .areturn, 1, 0, 0, 0)] := fq_of2 cd_240 ow_240 cl_240 rfl (pc := 714) (by decide +kernel)
                  j_new (pc := 714) D rfl fun r16 h17 er eh17 S D =>
                  have gt_r16 := nw_gt H.1 er
                  have kc_r16 := nw_cls H.1 er eh17
                  have T := fj_hs_ok H.1 S
                  have H := shp_st H T
                  j_sh (pc := 717) D rfl rfl rfl fun D =>
                  j_aldn (pc := 718) D rfl rfl rfl fun D =>
                  j_gfc (pc := 719) (a := 377) D rfl rfl (by decide) rfl (s0_377 H) rfl (sf_182_377 H) fun D =>
                  j_ild (pc := 722) D rfl rfl rfl fun D =>
                  j_spv (pc := 724) (m := 289) (a := [(4, 303), (0, v5)]) (rest := [(4, r16)]) D rfl rfl rfl rfl (by rw [show h17 0 r16.toNat 0 = 106 from kc_r16]; decide) (gt_nz gt_r16) (fun h18 e1 D =>
                    have T := fj_run_ok _ _ _ _ _ _ H.1 e1
                    have kc_r16 := cls_st H.1 T.2 kc_r16 (by decide)
                    have H := shp_st H T
                    j_aret D rt_240) (fun q20 h18 e1 =>
                    j_tx (hx_240 _))) (fun q D =>
                  j_new (pc := 698) D rfl fun r21 h22 er eh22 S D =>
                  have gt_r21 := nw_gt H.1 er
                  have kc_r21 := nw_cls H.1 er eh22
                  have T := fj_hs_ok H.1 S
                  have H := shp_st H T
                  j_sh (pc := 701) D rfl rfl rfl fun D =>
                  j_aldn (pc := 702) D rfl rfl rfl fun D =>
                  j_gfc (pc := 703) (a := 377) D rfl rfl (by decide) rfl (s0_377 H) rfl (sf_182_377 H) fun D =>
                  j_ild (pc := 706) D rfl rfl rfl fun D =>
                  j_spv (pc := 708) (m := 288) (a := [(4, 303), (0, v5)]) (rest := [(4, r21)]) D rfl rfl rfl rfl (by rw [show h22 0 r21.toNat 0 = 123 from kc_r21]; decide) (gt_nz gt_r21) (fun h23 e1 D =>
                    have T := fj_run_ok _ _ _ _ _ _ H.1 e1
                    have kc_r21 := cls_st H.1 T.2 kc_r21 (by decide)
                    have H := shp_st H T
                    j_goto (pc := 711) D rfl <|
                    have D : fk_D 240 [(727, none, .areturn, 1, 0, 0, 0)] := fq_of2 cd_240 ow_240 cl_240 rfl (pc := 727) (by decide +kernel)
                    j_aret D rt_240) (fun q25 h23 e1 =>
                    j_tx (hx_240 _)))) (fun q14 h12 e1 =>
                j_tx (hx_240 _))) (fun q11 h9 e1 =>
              j_tx (hx_240 _))) (fun q D =>
            j_aldn (pc := 666) D rfl rfl rfl fun D =>
            j_ic (pc := 667) D rfl fun D =>
            j_iv (pc := 668) (m := 164) (dd := 258) (a := [(0, 2)]) (rest := []) D rfl rfl rfl rfl rfl (by decide) (s0_377 H) (by decide +kernel) (fun v27 h26 e1 D =>
              have T := fj_run_ok _ _ _ _ _ _ H.1 e1
              have H := shp_st H T
              j_at (pc := 671) D gn <|
              j_tx (hx_240 _)) (fun q28 h26 e1 =>
              j_tx (hx_240 _)))) (fun q6 h4 e1 =>
          j_tx (hx_240 _))) (fun q D =>
        j_aldn (pc := 637) D rfl rfl rfl fun D =>
        j_aldn (pc := 638) D rfl rfl rfl fun D =>
        j_ildn (pc := 639) D rfl rfl rfl fun D =>
        j_iv (pc := 640) (m := 259) (dd := 323) (a := [(4, v2), (0, x1)]) (rest := []) D rfl rfl rfl rfl rfl (by decide) (s0_377 H) (by decide +kernel) (fun v30 h29 e1 D =>
          have T := fj_run_ok _ _ _ _ _ _ H.1 e1
          have H := shp_st H T
          j_aret D rt_240) (fun q31 h29 e1 =>
          j_tx (hx_240 _)))) (fun q3 h1 e1 =>
      j_tx (hx_240 _))
theorem m_240 (d : Nat) {h : fi_H} (H : Shp h) : fj_run (d + 1) 240 h [(4, 377)] =
  if 0 ≤ h 158 377 0 ∧ h 158 377 0 < 1202 then
  ca_ (fj_run d 183 h [(4, 377), (0, 40)]) 0
    (fun v3 h2 =>
    if v3 = 0 then
      ca_ (fj_run d 191 h2 [(4, 377)]) 0
        (fun v6 h5 =>
        if v6 = 0 then
          if 0 ≤ h5 158 377 0 ∧ h5 158 377 0 < 1202 then
          if h5 8 378 (h5 158 377 0).toNat = 2 then
            dv_ (fi_vt 215 (h5 0 (h5 12 383 (h5 158 377 0).toNat).toNat 0)) fun m12 => ca_ (fj_run d m12 h5 [(4, h5 12 383 (h5 158 377 0).toNat)]) 0
              (fun v10 h9 =>
              if v10 = (-899648223) then
                c_240_430 d (h 9 379 (h 158 377 0).toNat) (h5 12 383 (h5 158 377 0).toNat) (h5 12 383 (h5 158 377 0).toNat) (-1) h9
              else if v10 = (-606534881) then
                c_240_396 d (h 9 379 (h 158 377 0).toNat) (h5 12 383 (h5 158 377 0).toNat) (h5 12 383 (h5 158 377 0).toNat) (-1) h9
              else if v10 = (-216634360) then
                c_240_447 d (h 9 379 (h 158 377 0).toNat) (h5 12 383 (h5 158 377 0).toNat) (h5 12 383 (h5 158 377 0).toNat) (-1) h9
              else if v10 = 96673 then
                c_240_362 d (h 9 379 (h 158 377 0).toNat) (h5 12 383 (h5 158 377 0).toNat) (h5 12 383 (h5 158 377 0).toNat) (-1) h9
              else if v10 = 96748 then
                c_240_345 d (h 9 379 (h 158 377 0).toNat) (h5 12 383 (h5 158 377 0).toNat) (h5 12 383 (h5 158 377 0).toNat) (-1) h9
              else if v10 = 99228 then
                c_240_232 d (h 9 379 (h 158 377 0).toNat) (h5 12 383 (h5 158 377 0).toNat) (h5 12 383 (h5 158 377 0).toNat) (-1) h9
              else if v10 = 103066 then
                c_240_280 d (h 9 379 (h 158 377 0).toNat) (h5 12 383 (h5 158 377 0).toNat) (h5 12 383 (h5 158 377 0).toNat) (-1) h9
              else if v10 = 114251 then
                c_240_312 d (h 9 379 (h 158 377 0).toNat) (h5 12 383 (h5 158 377 0).toNat) (h5 12 383 (h5 158 377 0).toNat) (-1) h9
              else if v10 = 3423444 then
                c_240_296 d (h 9 379 (h 158 377 0).toNat) (h5 12 383 (h5 158 377 0).toNat) (h5 12 383 (h5 158 377 0).toNat) (-1) h9
              else if v10 = 3526476 then
                c_240_248 d (h 9 379 (h 158 377 0).toNat) (h5 12 383 (h5 158 377 0).toNat) (h5 12 383 (h5 158 377 0).toNat) (-1) h9
              else if v10 = 94851343 then
                c_240_328 d (h 9 379 (h 158 377 0).toNat) (h5 12 383 (h5 158 377 0).toNat) (h5 12 383 (h5 158 377 0).toNat) (-1) h9
              else if v10 = 102865796 then
                c_240_413 d (h 9 379 (h 158 377 0).toNat) (h5 12 383 (h5 158 377 0).toNat) (h5 12 383 (h5 158 377 0).toNat) (-1) h9
              else if v10 = 109757585 then
                c_240_264 d (h 9 379 (h 158 377 0).toNat) (h5 12 383 (h5 158 377 0).toNat) (h5 12 383 (h5 158 377 0).toNat) (-1) h9
              else if v10 = 201724889 then
                c_240_379 d (h 9 379 (h 158 377 0).toNat) (h5 12 383 (h5 158 377 0).toNat) (h5 12 383 (h5 158 377 0).toNat) (-1) h9
              else 
                c_240_461 d (h 9 379 (h 158 377 0).toNat) (h5 12 383 (h5 158 377 0).toNat) (-1) h9)
              (fun q11 h9 => tx_ q11 h9)
          else
            ca_ (fj_run d 164 h5 [(4, 377), (0, 1)]) 4
              (fun v14 h13 =>
              if v14 ≠ 0 then
              tx_ v14.toNat h13
              else none)
              (fun q15 h13 => tx_ q15 h13)
          else none
        else
          cv_ (fj_run d 243 h5 [(4, 377), (0, 1), (0, h 9 379 (h 158 377 0).toNat)])
            (fun h16 =>
            nw_ h16 103 7 0 fun r19 h20 =>
            cv_ (fj_run d 244 h20 [(4, r19), (4, 303), (4, h20 167 377 0), (1, h20 168 377 0), (1, h20 169 377 0)])
              (fun h21 =>
              some (.inl (some (4, r19)), h21))
              (fun q23 h21 => tx_ q23 h21))
            (fun q18 h16 => tx_ q18 h16))
        (fun q7 h5 => tx_ q7 h5)
    else
      cv_ (fj_run d 241 h2 [(4, 377)])
        (fun h24 =>
        ca_ (fj_run d 231 h24 [(4, 377)]) 4
          (fun v28 h27 =>
          cv_ (fj_run d 242 h27 [(4, 377)])
            (fun h30 =>
            some (.inl (some (4, v28)), h30))
            (fun q32 h30 => tx_ q32 h30))
          (fun q29 h27 => tx_ q29 h27))
        (fun q26 h24 => tx_ q26 h24))
    (fun q4 h2 => tx_ q4 h2)
  else none := by
  rw [fj_run_eq d (by decide) h [(4, 377)] (Nat.le_of_ble_eq_true (by rw [nl_240]; rfl))]
  show gG (fj_run d) 240 0 [(0, (4, 377))] [] h = _
  exact
    have D : fk_D 240 [(0, none, .aload_n 0, 1, 0, 0, 0), (1, none, .getfield 19, 3, 150, 115, 12), (4, none, .aload_n 0, 1, 0, 0, 0), (5, none, .getfield 104, 3, 158, 115, 10), (8, none, .saload, 1, 0, 0, 0), (9, none, .istore_n 1, 1, 0, 0, 0), (10, none, .aload_n 0, 1, 0, 0, 0), (11, none, .bipush 40, 2, 0, 40, 0), (13, none, .invokevirtual 202, 3, 1, 260, 1), (16, none, .ifCond .eq 18, 3, 34, 0, 0), (19, none, .aload_n 0, 1, 0, 0, 0), (20, none, .invokevirtual 213, 3, 0, 263, 0), (23, none, .aload_n 0, 1, 0, 0, 0), (24, none, .invokevirtual 688, 3, 0, 301, 5), (27, none, .astore_n 2, 1, 0, 0, 0), (28, none, .aload_n 0, 1, 0, 0, 0), (29, none, .invokevirtual 818, 3, 0, 318, 0), (32, none, .aload_n 2, 1, 0, 0, 0), (33, none, .areturn, 1, 0, 0, 0)] := fq_of2 cd_240 ow_240 cl_240 rfl (pc := 0) (by decide +kernel)
    j_aldn (pc := 0) D rfl rfl rfl fun D =>
    j_gfc (pc := 1) (a := 377) D rfl rfl (by decide) rfl (s0_377 H) rfl (sf_150_377 H) fun D =>
    j_aldn (pc := 4) D rfl rfl rfl fun D =>
    j_gf (pc := 5) (a := 377) D rfl rfl (by decide) rfl (s0_377 H) rfl fun D =>
    j_al (pc := 8) (a := 379) (e := 9) D rfl rfl rfl (by decide) (s0_379 H) (s1_379 H) ⟨rfl, rfl, rfl⟩ rfl gn fun qb1 D =>
    j_istn (pc := 9) (L' := [(1, (0, h 9 379 (h 158 377 0).toNat)), (0, (4, 377))]) D rfl nl_240 rfl rfl fun D =>
    j_aldn (pc := 10) D rfl rfl rfl fun D =>
    j_bp (pc := 11) D rfl fun D =>
    j_iv (pc := 13) (m := 183) (dd := 260) (a := [(0, 40)]) (rest := []) D rfl rfl rfl rfl rfl (by decide) (s0_377 H) (by decide +kernel) (fun v3 h2 e1 D =>
      have T := fj_run_ok _ _ _ _ _ _ H.1 e1
      have H := shp_st H T
      j_ifeq (pc := 16) D rfl (fun q =>
        have D : fk_D 240 [(34, none, .aload_n 0, 1, 0, 0, 0), (35, none, .invokevirtual 445, 3, 0, 272, 1), (38, none, .ifCond .eq 33, 3, 71, 0, 0), (41, none, .aload_n 0, 1, 0, 0, 0), (42, none, .iconst 1, 1, 0, 1, 0), (43, none, .iload_n 1, 1, 0, 0, 0), (44, none, .invokevirtual 740, 3, 2, 310, 0), (47, none, .new 821, 3, 103, 7, 0), (50, none, .dup, 1, 0, 0, 0), (51, none, .aload_n 0, 1, 0, 0, 0), (52, none, .getfield 3, 3, 182, 115, 12), (55, none, .aload_n 0, 1, 0, 0, 0), (56, none, .getfield 414, 3, 167, 115, 12), (59, none, .aload_n 0, 1, 0, 0, 0), (60, none, .getfield 402, 3, 168, 115, 11), (63, none, .aload_n 0, 1, 0, 0, 0), (64, none, .getfield 405, 3, 169, 115, 11), (67, none, .invokespecial 823, 3, 4, 244, 0), (70, none, .areturn, 1, 0, 0, 0)] := fq_of2 cd_240 ow_240 cl_240 rfl (pc := 34) (by decide +kernel)
        j_aldn (pc := 34) D rfl rfl rfl fun D =>
        j_iv (pc := 35) (m := 191) (dd := 272) (a := []) (rest := []) D rfl rfl rfl rfl rfl (by decide) (s0_377 H) (by decide +kernel) (fun v6 h5 e1 D =>
          have T := fj_run_ok _ _ _ _ _ _ H.1 e1
          have H := shp_st H T
          j_ifeq (pc := 38) D rfl (fun q =>
            have D : fk_D 240 [(71, none, .aload_n 0, 1, 0, 0, 0), (72, none, .getfield 15, 3, 149, 115, 12), (75, none, .aload_n 0, 1, 0, 0, 0), (76, none, .getfield 104, 3, 158, 115, 10), (79, none, .baload, 1, 0, 0, 0), (80, none, .iconst 2, 1, 0, 2, 0), (81, none, .if_icmp .eq 9, 3, 90, 0, 0), (84, none, .aload_n 0, 1, 0, 0, 0), (85, none, .iconst 1, 1, 0, 1, 0), (86, none, .invokevirtual 190, 3, 1, 258, 5), (89, none, .athrow, 1, 0, 0, 0)] := fq_of2 cd_240 ow_240 cl_240 rfl (pc := 71) (by decide +kernel)
            j_aldn (pc := 71) D rfl rfl rfl fun D =>
            j_gfc (pc := 72) (a := 377) D rfl rfl (by decide) rfl (s0_377 H) rfl (sf_149_377 H) fun D =>
            j_aldn (pc := 75) D rfl rfl rfl fun D =>
            j_gf (pc := 76) (a := 377) D rfl rfl (by decide) rfl (s0_377 H) rfl fun D =>
            j_al (pc := 79) (a := 378) (e := 8) D rfl rfl rfl (by decide) (s0_378 H) (s1_378 H) ⟨rfl, rfl, rfl⟩ rfl gn fun qb8 D =>
            j_ic (pc := 80) D rfl fun D =>
            j_ieq (pc := 81) D rfl (fun q =>
              have D : fk_D 240 [(90, none, .aload_n 0, 1, 0, 0, 0), (91, none, .getfield 37, 3, 154, 115, 12), (94, none, .aload_n 0, 1, 0, 0, 0), (95, none, .getfield 104, 3, 158, 115, 10), (98, none, .aaload, 1, 0, 0, 0), (99, none, .astore_n 2, 1, 0, 0, 0), (100, none, .aload_n 2, 1, 0, 0, 0), (101, none, .astore_n 3, 1, 0, 0, 0), (102, none, .iconst (-1), 1, 0, (-1), 0), (103, none, .istore 4, 2, 0, 0, 0), (105, none, .aload_n 3, 1, 0, 0, 0), (106, none, .invokevirtual 220, 3, 0, 215, 1), (109, none, .lookupswitch 352 #[(-899648223, 321), (-606534881, 287), (-216634360, 338), (96673, 253), (96748, 236), (99228, 123), (103066, 171), (114251, 203), (3423444, 187), (3526476, 139), (94851343, 219), (102865796, 304), (109757585, 155), (201724889, 270)], 123, 0, 0, 0)] := fq_of3 cd_240 ow_240 cl_240 rfl (pc := 90) (by decide +kernel)
              j_aldn (pc := 90) D rfl rfl rfl fun D =>
              j_gfc (pc := 91) (a := 377) D rfl rfl (by decide) rfl (s0_377 H) rfl (sf_154_377 H) fun D =>
              j_aldn (pc := 94) D rfl rfl rfl fun D =>
              j_gf (pc := 95) (a := 377) D rfl rfl (by decide) rfl (s0_377 H) rfl fun D =>
              j_al (pc := 98) (a := 383) (e := 12) D rfl rfl rfl (by decide) (s0_383 H) (s1_383 H) ⟨rfl, rfl, rfl⟩ rfl (gy qb8) fun q D =>
              j_astn (pc := 99) (L' := [(2, (4, h5 12 383 (h5 158 377 0).toNat)), (1, (0, h 9 379 (h 158 377 0).toNat)), (0, (4, 377))]) D rfl nl_240 rfl rfl fun D =>
              j_aldn (pc := 100) D rfl rfl rfl fun D =>
              j_astn (pc := 101) (L' := [(3, (4, h5 12 383 (h5 158 377 0).toNat)), (2, (4, h5 12 383 (h5 158 377 0).toNat)), (1, (0, h 9 379 (h 158 377 0).toNat)), (0, (4, 377))]) D rfl nl_240 rfl rfl fun D =>
              j_ic (pc := 102) D rfl fun D =>
              j_ist (pc := 103) (L' := [(4, (0, (-1))), (3, (4, h5 12 383 (h5 158 377 0).toNat)), (2, (4, h5 12 383 (h5 158 377 0).toNat)), (1, (0, h 9 379 (h 158 377 0).toNat)), (0, (4, 377))]) D rfl nl_240 rfl rfl fun D =>
              j_aldn (pc := 105) D rfl rfl rfl fun D =>
              j_ivu (pc := 106) (dd := 215) (a := []) (rest := []) H.2.1 D rfl rfl rfl rfl rfl (fun m12 v10 h9 e1 D =>
                have T := fj_run_ok _ _ _ _ _ _ H.1 e1
                have H := shp_st H T
                have N : fk_ni (v10) [] := trivial
                j_lc (pc := 109) (-899648223) (t := 430) D N rfl (by decide +kernel) (by decide +kernel) (fun q =>
                  fk_jump cut_240_430 rfl rfl) (fun N =>
                  j_lc (-606534881) (t := 396) D N rfl (by decide +kernel) (by decide +kernel) (fun q =>
                    fk_jump cut_240_396 rfl rfl) (fun N =>
                    j_lc (-216634360) (t := 447) D N rfl (by decide +kernel) (by decide +kernel) (fun q =>
                      fk_jump cut_240_447 rfl rfl) (fun N =>
                      j_lc 96673 (t := 362) D N rfl (by decide +kernel) (by decide +kernel) (fun q =>
                        fk_jump cut_240_362 rfl rfl) (fun N =>
                        j_lc 96748 (t := 345) D N rfl (by decide +kernel) (by decide +kernel) (fun q =>
                          fk_jump cut_240_345 rfl rfl) (fun N =>
                          j_lc 99228 (t := 232) D N rfl (by decide +kernel) (by decide +kernel) (fun q =>
                            fk_jump cut_240_232 rfl rfl) (fun N =>
                            j_lc 103066 (t := 280) D N rfl (by decide +kernel) (by decide +kernel) (fun q =>
                              fk_jump cut_240_280 rfl rfl) (fun N =>
                              j_lc 114251 (t := 312) D N rfl (by decide +kernel) (by decide +kernel) (fun q =>
                                fk_jump cut_240_312 rfl rfl) (fun N =>
                                j_lc 3423444 (t := 296) D N rfl (by decide +kernel) (by decide +kernel) (fun q =>
                                  fk_jump cut_240_296 rfl rfl) (fun N =>
                                  j_lc 3526476 (t := 248) D N rfl (by decide +kernel) (by decide +kernel) (fun q =>
                                    fk_jump cut_240_248 rfl rfl) (fun N =>
                                    j_lc 94851343 (t := 328) D N rfl (by decide +kernel) (by decide +kernel) (fun q =>
                                      fk_jump cut_240_328 rfl rfl) (fun N =>
                                      j_lc 102865796 (t := 413) D N rfl (by decide +kernel) (by decide +kernel) (fun q =>
                                        fk_jump cut_240_413 rfl rfl) (fun N =>
                                        j_lc 109757585 (t := 264) D N rfl (by decide +kernel) (by decide +kernel) (fun q =>
                                          fk_jump cut_240_264 rfl rfl) (fun N =>
                                          j_lc 201724889 (t := 379) D N rfl (by decide +kernel) (by decide +kernel) (fun q =>
                                            fk_jump cut_240_379 rfl rfl) (fun N =>
                                            j_ldf (t := 461) D N rfl (by decide +kernel) (by decide +kernel) (by decide +kernel) <|
                                            fk_jump cut_240_461 rfl rfl))))))))))))))) (fun m12 q11 h9 e1 =>
                j_tx (hx_240 _))) (fun q D =>
              j_aldn (pc := 84) D rfl rfl rfl fun D =>
              j_ic (pc := 85) D rfl fun D =>
              j_iv (pc := 86) (m := 164) (dd := 258) (a := [(0, 1)]) (rest := []) D rfl rfl rfl rfl rfl (by decide) (s0_377 H) (by decide +kernel) (fun v14 h13 e1 D =>
                have T := fj_run_ok _ _ _ _ _ _ H.1 e1
                have H := shp_st H T
                j_at (pc := 89) D gn <|
                j_tx (hx_240 _)) (fun q15 h13 e1 =>
                j_tx (hx_240 _)))) (fun q D =>
            j_aldn (pc := 41) D rfl rfl rfl fun D =>
            j_ic (pc := 42) D rfl fun D =>
            j_ildn (pc := 43) D rfl rfl rfl fun D =>
            j_ivv (pc := 44) (m := 243) (dd := 310) (a := [(0, 1), (0, h 9 379 (h 158 377 0).toNat)]) (rest := []) D rfl rfl rfl rfl rfl (by decide) (s0_377 H) (by decide +kernel) (fun h16 e1 D =>
              have T := fj_run_ok _ _ _ _ _ _ H.1 e1
              have H := shp_st H T
              j_new (pc := 47) D rfl fun r19 h20 er eh20 S D =>
              have gt_r19 := nw_gt H.1 er
              have kc_r19 := nw_cls H.1 er eh20
              have T := fj_hs_ok H.1 S
              have H := shp_st H T
              j_sh (pc := 50) D rfl rfl rfl fun D =>
              j_aldn (pc := 51) D rfl rfl rfl fun D =>
              j_gfc (pc := 52) (a := 377) D rfl rfl (by decide) rfl (s0_377 H) rfl (sf_182_377 H) fun D =>
              j_aldn (pc := 55) D rfl rfl rfl fun D =>
              j_gf (pc := 56) (a := 377) D rfl rfl (by decide) rfl (s0_377 H) rfl fun D =>
              j_aldn (pc := 59) D rfl rfl rfl fun D =>
              j_gf (pc := 60) (a := 377) D rfl rfl (by decide) rfl (s0_377 H) rfl fun D =>
              j_aldn (pc := 63) D rfl rfl rfl fun D =>
              j_gf (pc := 64) (a := 377) D rfl rfl (by decide) rfl (s0_377 H) rfl fun D =>
              j_spv (pc := 67) (m := 244) (a := [(4, 303), (4, h20 167 377 0), (1, h20 168 377 0), (1, h20 169 377 0)]) (rest := [(4, r19)]) D rfl rfl rfl rfl (by rw [show h20 0 r19.toNat 0 = 103 from kc_r19]; decide) (gt_nz gt_r19) (fun h21 e1 D =>
                have T := fj_run_ok _ _ _ _ _ _ H.1 e1
                have kc_r19 := cls_st H.1 T.2 kc_r19 (by decide)
                have H := shp_st H T
                j_aret D rt_240) (fun q23 h21 e1 =>
                j_tx (hx_240 _))) (fun q18 h16 e1 =>
              j_tx (hx_240 _)))) (fun q7 h5 e1 =>
          j_tx (hx_240 _))) (fun q D =>
        j_aldn (pc := 19) D rfl rfl rfl fun D =>
        j_ivv (pc := 20) (m := 241) (dd := 263) (a := []) (rest := []) D rfl rfl rfl rfl rfl (by decide) (s0_377 H) (by decide +kernel) (fun h24 e1 D =>
          have T := fj_run_ok _ _ _ _ _ _ H.1 e1
          have H := shp_st H T
          j_aldn (pc := 23) D rfl rfl rfl fun D =>
          j_iv (pc := 24) (m := 231) (dd := 301) (a := []) (rest := []) D rfl rfl rfl rfl rfl (by decide) (s0_377 H) (by decide +kernel) (fun v28 h27 e1 D =>
            have T := fj_run_ok _ _ _ _ _ _ H.1 e1
            have H := shp_st H T
            j_astn (pc := 27) (L' := [(2, (4, v28)), (1, (0, h 9 379 (h 158 377 0).toNat)), (0, (4, 377))]) D rfl nl_240 rfl rfl fun D =>
            j_aldn (pc := 28) D rfl rfl rfl fun D =>
            j_ivv (pc := 29) (m := 242) (dd := 318) (a := []) (rest := []) D rfl rfl rfl rfl rfl (by decide) (s0_377 H) (by decide +kernel) (fun h30 e1 D =>
              have T := fj_run_ok _ _ _ _ _ _ H.1 e1
              have H := shp_st H T
              j_aldn (pc := 32) D rfl rfl rfl fun D =>
              j_aret D rt_240) (fun q32 h30 e1 =>
              j_tx (hx_240 _))) (fun q29 h27 e1 =>
            j_tx (hx_240 _))) (fun q26 h24 e1 =>
          j_tx (hx_240 _)))) (fun q4 h2 e1 =>
      j_tx (hx_240 _))
/-! 241 StatuteHouse$Reader.opens()V -/
theorem cd_241 : fi_code 241 = prog_53_method_19_code := rfl
theorem hx_241 : ∀ pc, fi_hat 241 pc = none := fun pc => by unfold fi_hat; rw [show fi_hh 241 = [] from rfl]; rfl
theorem rt_241 : fi_ret 241 = none := rfl
theorem nl_241 : fi_nl 241 = 1 := rfl
theorem ow_241 : fi_ow 241 = 15 := rfl
theorem cl_241 : fj_cutT.getD 241 [] = [] := rfl
theorem m_241 (d : Nat) {h : fi_H} (H : Shp h) : fj_run (d + 1) 241 h [(4, 377)] =
  if h 159 377 0 = 40 then
    ca_ (fj_run d 164 h [(4, 377), (0, 4)]) 4
      (fun v2 h1 =>
      if v2 ≠ 0 then
      tx_ v2.toNat h1
      else none)
      (fun q3 h1 => tx_ q3 h1)
  else
    lt_ (fi_upd h 159 377 0 (wI ((h 159 377 0) + 1))) fun h4 =>
    cv_ (fj_run d 166 h4 [(4, 377)])
      (fun h5 =>
      some (.inl none, h5))
      (fun q7 h5 => tx_ q7 h5) := by
  rw [fj_run_eq d (by decide) h [(4, 377)] (Nat.le_of_ble_eq_true (by rw [nl_241]; rfl))]
  show gG (fj_run d) 241 0 [(0, (4, 377))] [] h = _
  exact
    have D : fk_D 241 [(0, none, .aload_n 0, 1, 0, 0, 0), (1, none, .getfield 110, 3, 159, 115, 10), (4, none, .bipush 40, 2, 0, 40, 0), (6, none, .if_icmp .ne 9, 3, 15, 0, 0), (9, none, .aload_n 0, 1, 0, 0, 0), (10, none, .iconst 4, 1, 0, 4, 0), (11, none, .invokevirtual 190, 3, 1, 258, 5), (14, none, .athrow, 1, 0, 0, 0)] := fq_of2 cd_241 ow_241 cl_241 rfl (pc := 0) (by decide +kernel)
    j_aldn (pc := 0) D rfl rfl rfl fun D =>
    j_gf (pc := 1) (a := 377) D rfl rfl (by decide) rfl (s0_377 H) rfl fun D =>
    j_bp (pc := 4) D rfl fun D =>
    j_ine (pc := 6) D rfl (fun q D =>
      j_aldn (pc := 9) D rfl rfl rfl fun D =>
      j_ic (pc := 10) D rfl fun D =>
      j_iv (pc := 11) (m := 164) (dd := 258) (a := [(0, 4)]) (rest := []) D rfl rfl rfl rfl rfl (by decide) (s0_377 H) (by decide +kernel) (fun v2 h1 e1 D =>
        have T := fj_run_ok _ _ _ _ _ _ H.1 e1
        have H := shp_st H T
        j_at (pc := 14) D gn <|
        j_tx (hx_241 _)) (fun q3 h1 e1 =>
        j_tx (hx_241 _))) (fun q =>
      have D : fk_D 241 [(15, none, .aload_n 0, 1, 0, 0, 0), (16, none, .dup, 1, 0, 0, 0), (17, none, .getfield 110, 3, 159, 115, 10), (20, none, .iconst 1, 1, 0, 1, 0), (21, none, .iadd, 1, 0, 0, 0), (22, none, .putfield 110, 3, 159, 115, 10), (25, none, .aload_n 0, 1, 0, 0, 0), (26, none, .invokevirtual 206, 3, 0, 261, 0), (29, none, .return_, 1, 0, 0, 0)] := fq_of2 cd_241 ow_241 cl_241 rfl (pc := 15) (by decide +kernel)
      j_aldn (pc := 15) D rfl rfl rfl fun D =>
      j_sh (pc := 16) D rfl rfl rfl fun D =>
      j_gf (pc := 17) (a := 377) D rfl rfl (by decide) rfl (s0_377 H) rfl fun D =>
      j_ic (pc := 20) D rfl fun D =>
      j_iadd (pc := 21) D rfl fun D =>
      j_pf (pc := 22) (a := 377) D rfl rfl rfl (s0_377 H) rfl rfl (gy (by decide)) (gy rfl) fun h4 eh4 S D =>
      have T := fj_hs_ok H.1 S
      have H := shp_st H T
      j_aldn (pc := 25) D rfl rfl rfl fun D =>
      j_ivv (pc := 26) (m := 166) (dd := 261) (a := []) (rest := []) D rfl rfl rfl rfl rfl (by decide) (s0_377 H) (by decide +kernel) (fun h5 e1 D =>
        have T := fj_run_ok _ _ _ _ _ _ H.1 e1
        have H := shp_st H T
        j_vret D rt_241) (fun q7 h5 e1 =>
        j_tx (hx_241 _)))
/-! 242 StatuteHouse$Reader.closes()V -/
theorem cd_242 : fi_code 242 = prog_53_method_21_code := rfl
theorem hx_242 : ∀ pc, fi_hat 242 pc = none := fun pc => by unfold fi_hat; rw [show fi_hh 242 = [] from rfl]; rfl
theorem rt_242 : fi_ret 242 = none := rfl
theorem nl_242 : fi_nl 242 = 1 := rfl
theorem ow_242 : fi_ow 242 = 15 := rfl
theorem cl_242 : fj_cutT.getD 242 [] = [] := rfl
theorem m_242 (d : Nat) {h : fi_H} (H : Shp h) : fj_run (d + 1) 242 h [(4, 377)] =
  cv_ (fj_run d 182 h [(4, 377), (0, 41)])
    (fun h1 =>
    lt_ (fi_upd h1 159 377 0 (wI ((h1 159 377 0) - 1))) fun h4 =>
    some (.inl none, h4))
    (fun q3 h1 => tx_ q3 h1) := by
  rw [fj_run_eq d (by decide) h [(4, 377)] (Nat.le_of_ble_eq_true (by rw [nl_242]; rfl))]
  show gG (fj_run d) 242 0 [(0, (4, 377))] [] h = _
  exact
    have D : fk_D 242 [(0, none, .aload_n 0, 1, 0, 0, 0), (1, none, .bipush 41, 2, 0, 41, 0), (3, none, .invokevirtual 216, 3, 1, 264, 0), (6, none, .aload_n 0, 1, 0, 0, 0), (7, none, .dup, 1, 0, 0, 0), (8, none, .getfield 110, 3, 159, 115, 10), (11, none, .iconst 1, 1, 0, 1, 0), (12, none, .isub, 1, 0, 0, 0), (13, none, .putfield 110, 3, 159, 115, 10), (16, none, .return_, 1, 0, 0, 0)] := fq_of2 cd_242 ow_242 cl_242 rfl (pc := 0) (by decide +kernel)
    j_aldn (pc := 0) D rfl rfl rfl fun D =>
    j_bp (pc := 1) D rfl fun D =>
    j_ivv (pc := 3) (m := 182) (dd := 264) (a := [(0, 41)]) (rest := []) D rfl rfl rfl rfl rfl (by decide) (s0_377 H) (by decide +kernel) (fun h1 e1 D =>
      have T := fj_run_ok _ _ _ _ _ _ H.1 e1
      have H := shp_st H T
      j_aldn (pc := 6) D rfl rfl rfl fun D =>
      j_sh (pc := 7) D rfl rfl rfl fun D =>
      j_gf (pc := 8) (a := 377) D rfl rfl (by decide) rfl (s0_377 H) rfl fun D =>
      j_ic (pc := 11) D rfl fun D =>
      j_isub (pc := 12) D rfl fun D =>
      j_pf (pc := 13) (a := 377) D rfl rfl rfl (s0_377 H) rfl rfl (gy (by decide)) (gy rfl) fun h4 eh4 S D =>
      have T := fj_hs_ok H.1 S
      have H := shp_st H T
      j_vret D rt_242) (fun q3 h1 e1 =>
      j_tx (hx_242 _))
/-! 243 StatuteHouse$Reader.made(II)V -/
theorem cd_243 : fi_code 243 = prog_53_method_65_code := rfl
theorem hx_243 : ∀ pc, fi_hat 243 pc = none := fun pc => by unfold fi_hat; rw [show fi_hh 243 = [] from rfl]; rfl
theorem rt_243 : fi_ret 243 = none := rfl
theorem nl_243 : fi_nl 243 = 3 := rfl
theorem ow_243 : fi_ow 243 = 15 := rfl
theorem cl_243 : fj_cutT.getD 243 [] = [(24, [0, 2])] := rfl
theorem cut_243_24 : fj_cut 243 24 = some [0, 2] := by decide +kernel
noncomputable def c_243_24 (d : Nat) (x2 : Int) (h : fi_H) : fk_R := gG (fj_run d) 243 24 [(0, (4, 377)), (2, (0, x2))] [] h
theorem e_243_24 (d : Nat) (x2 : Int) {h : fi_H} (H : Shp h) : c_243_24 d x2 h =
  ca_ (fj_run d 165 h [(4, 303), (0, 6), (0, x2)]) 4
    (fun v2 h1 =>
    if v2 ≠ 0 then
    tx_ v2.toNat h1
    else none)
    (fun q3 h1 => tx_ q3 h1) := by
  unfold c_243_24
  exact
    have D : fk_D 243 [(24, some [0, 2], .aload_n 0, 1, 0, 0, 0), (25, none, .getfield 3, 3, 182, 115, 12), (28, none, .bipush 6, 2, 0, 6, 0), (30, none, .iload_n 2, 1, 0, 0, 0), (31, none, .invokevirtual 186, 3, 2, 257, 5), (34, none, .athrow, 1, 0, 0, 0)] := fq_of2 cd_243 ow_243 cl_243 rfl (pc := 24) (by decide +kernel)
    j_aldn (pc := 24) D rfl rfl rfl fun D =>
    j_gfc (pc := 25) (a := 377) D rfl rfl (by decide) rfl (s0_377 H) rfl (sf_182_377 H) fun D =>
    j_bp (pc := 28) D rfl fun D =>
    j_ildn (pc := 30) D rfl rfl rfl fun D =>
    j_iv (pc := 31) (m := 165) (dd := 257) (a := [(0, 6), (0, x2)]) (rest := []) D rfl rfl rfl rfl rfl (by decide) (s0_303 H) (by decide +kernel) (fun v2 h1 e1 D =>
      have T := fj_run_ok _ _ _ _ _ _ H.1 e1
      have H := shp_st H T
      j_at (pc := 34) D gn <|
      j_tx (hx_243 _)) (fun q3 h1 e1 =>
      j_tx (hx_243 _))
theorem m_243 (d : Nat) (x1 x2 : Int) {h : fi_H} (H : Shp h) : fj_run (d + 1) 243 h [(4, 377), (0, x1), (0, x2)] =
  if 16 < x1 then
    c_243_24 d x2 h
  else
    if wI ((h 231 303 0) + (h 162 377 0)) = 8000 then
      c_243_24 d x2 h
    else
      lt_ (fi_upd h 162 377 0 (wI ((h 162 377 0) + 1))) fun h1 =>
      some (.inl none, h1) := by
  rw [fj_run_eq d (by decide) h [(4, 377), (0, x1), (0, x2)] (Nat.le_of_ble_eq_true (by rw [nl_243]; rfl))]
  show gG (fj_run d) 243 0 [(0, (4, 377)), (1, (0, x1)), (2, (0, x2))] [] h = _
  exact
    have D : fk_D 243 [(0, none, .iload_n 1, 1, 0, 0, 0), (1, none, .bipush 16, 2, 0, 16, 0), (3, none, .if_icmp .gt 21, 3, 24, 0, 0), (6, none, .aload_n 0, 1, 0, 0, 0), (7, none, .getfield 3, 3, 182, 115, 12), (10, none, .getfield 748, 3, 231, 100, 10), (13, none, .aload_n 0, 1, 0, 0, 0), (14, none, .getfield 119, 3, 162, 115, 10), (17, none, .iadd, 1, 0, 0, 0), (18, none, .sipush 8000, 3, 0, 8000, 0), (21, none, .if_icmp .ne 14, 3, 35, 0, 0)] := fq_of2 cd_243 ow_243 cl_243 rfl (pc := 0) (by decide +kernel)
    j_ildn (pc := 0) D rfl rfl rfl fun D =>
    j_bp (pc := 1) D rfl fun D =>
    j_igt (pc := 3) D rfl (fun q =>
      fk_jump cut_243_24 rfl rfl) (fun q D =>
      j_aldn (pc := 6) D rfl rfl rfl fun D =>
      j_gfc (pc := 7) (a := 377) D rfl rfl (by decide) rfl (s0_377 H) rfl (sf_182_377 H) fun D =>
      j_gf (pc := 10) (a := 303) D rfl rfl (by decide) rfl (s0_303 H) rfl fun D =>
      j_aldn (pc := 13) D rfl rfl rfl fun D =>
      j_gf (pc := 14) (a := 377) D rfl rfl (by decide) rfl (s0_377 H) rfl fun D =>
      j_iadd (pc := 17) D rfl fun D =>
      j_sp (pc := 18) D rfl fun D =>
      j_ine (pc := 21) D rfl (fun q D =>
        fk_jump cut_243_24 rfl rfl) (fun q =>
        have D : fk_D 243 [(35, none, .aload_n 0, 1, 0, 0, 0), (36, none, .dup, 1, 0, 0, 0), (37, none, .getfield 119, 3, 162, 115, 10), (40, none, .iconst 1, 1, 0, 1, 0), (41, none, .iadd, 1, 0, 0, 0), (42, none, .putfield 119, 3, 162, 115, 10), (45, none, .return_, 1, 0, 0, 0)] := fq_of2 cd_243 ow_243 cl_243 rfl (pc := 35) (by decide +kernel)
        j_aldn (pc := 35) D rfl rfl rfl fun D =>
        j_sh (pc := 36) D rfl rfl rfl fun D =>
        j_gf (pc := 37) (a := 377) D rfl rfl (by decide) rfl (s0_377 H) rfl fun D =>
        j_ic (pc := 40) D rfl fun D =>
        j_iadd (pc := 41) D rfl fun D =>
        j_pf (pc := 42) (a := 377) D rfl rfl rfl (s0_377 H) rfl rfl (gy (by decide)) (gy rfl) fun h1 eh1 S D =>
        have T := fj_hs_ok H.1 S
        have H := shp_st H T
        j_vret D rt_243))
/-! 244 StatuteHouse$Constant.<init>(LStatuteHouse;LStatuteHouse$Kind;JJ)V -/
theorem cd_244 : fi_code 244 = prog_5_method_1_code := rfl
theorem hx_244 : ∀ pc, fi_hat 244 pc = none := fun pc => by unfold fi_hat; rw [show fi_hh 244 = [] from rfl]; rfl
theorem rt_244 : fi_ret 244 = none := rfl
theorem nl_244 : fi_nl 244 = 7 := rfl
theorem ow_244 : fi_ow 244 = 3 := rfl
theorem cl_244 : fj_cutT.getD 244 [] = [] := rfl
theorem m_244 (d : Nat) (x0 x1 x2 x3 x5 : Int) {h : fi_H} (H : Shp h) (hk : h 0 x0.toNat 0 = 103) : fj_run (d + 1) 244 h [(4, x0), (4, x1), (4, x2), (1, x3), (1, x5)] =
  if 302 < x0 then
  if h 339 x0.toNat 0 = 0 then
  lt_ (fi_upd h 339 x0.toNat 0 x1) fun h1 =>
  cv_ (fj_run d 245 h1 [(4, x0), (4, x1), (4, x2), (0, 1)])
    (fun h2 =>
    if 302 < x0 then
    if h2 337 x0.toNat 0 = 0 then
    lt_ (fi_upd h2 337 x0.toNat 0 x3) fun h5 =>
    if 302 < x0 then
    if h5 338 x0.toNat 0 = 0 then
    lt_ (fi_upd h5 338 x0.toNat 0 x5) fun h6 =>
    some (.inl none, h6)
    else none
    else none
    else none
    else none)
    (fun q4 h2 => tx_ q4 h2)
  else none
  else none := by
  rw [fj_run_eq d (by decide) h [(4, x0), (4, x1), (4, x2), (1, x3), (1, x5)] (Nat.le_of_ble_eq_true (by rw [nl_244]; rfl))]
  show gG (fj_run d) 244 0 [(0, (4, x0)), (1, (4, x1)), (2, (4, x2)), (3, (1, x3)), (5, (1, x5))] [] h = _
  exact
    have D : fk_D 244 [(0, none, .aload_n 0, 1, 0, 0, 0), (1, none, .aload_n 1, 1, 0, 0, 0), (2, none, .putfield 1, 3, 339, 103, 112), (5, none, .aload_n 0, 1, 0, 0, 0), (6, none, .aload_n 1, 1, 0, 0, 0), (7, none, .aload_n 2, 1, 0, 0, 0), (8, none, .iconst 1, 1, 0, 1, 0), (9, none, .invokespecial 7, 3, 3, 245, 0), (12, none, .aload_n 0, 1, 0, 0, 0), (13, none, .lload_n 3, 1, 0, 0, 0), (14, none, .putfield 13, 3, 337, 103, 111), (17, none, .aload_n 0, 1, 0, 0, 0), (18, none, .lload 5, 2, 0, 0, 0), (20, none, .putfield 17, 3, 338, 103, 111), (23, none, .return_, 1, 0, 0, 0)] := fq_of2 cd_244 ow_244 cl_244 rfl (pc := 0) (by decide +kernel)
    j_aldn (pc := 0) D rfl rfl rfl fun D =>
    j_aldn (pc := 1) D rfl rfl rfl fun D =>
    j_pfF (pc := 2) (a := x0.toNat) (ty := 12) D rfl rfl rfl hk ⟨rfl, rfl⟩ rfl gn (gy rfl) gn fun h1 eh1 S D =>
    have T := fj_hs_ok H.1 S
    have hk := cls_st H.1 T.2 hk (by decide)
    have H := shp_st H T
    j_aldn (pc := 5) D rfl rfl rfl fun D =>
    j_aldn (pc := 6) D rfl rfl rfl fun D =>
    j_aldn (pc := 7) D rfl rfl rfl fun D =>
    j_ic (pc := 8) D rfl fun D =>
    j_spv (pc := 9) (m := 245) (a := [(4, x1), (4, x2), (0, 1)]) (rest := []) D rfl rfl rfl rfl (by rw [show h1 0 x0.toNat 0 = 103 from hk]; decide) (nz_cls H.2.1 hk (by decide)) (fun h2 e1 D =>
      have T := fj_run_ok _ _ _ _ _ _ H.1 e1
      have hk := cls_st H.1 T.2 hk (by decide)
      have H := shp_st H T
      j_aldn (pc := 12) D rfl rfl rfl fun D =>
      j_lldn (pc := 13) D rfl rfl rfl fun D =>
      j_pfF (pc := 14) (a := x0.toNat) (ty := 11) D rfl rfl rfl hk ⟨rfl, rfl⟩ rfl gn (gy rfl) gn fun h5 eh5 S D =>
      have T := fj_hs_ok H.1 S
      have hk := cls_st H.1 T.2 hk (by decide)
      have H := shp_st H T
      j_aldn (pc := 17) D rfl rfl rfl fun D =>
      j_lld (pc := 18) D rfl rfl rfl fun D =>
      j_pfF (pc := 20) (a := x0.toNat) (ty := 11) D rfl rfl rfl hk ⟨rfl, rfl⟩ rfl gn (gy rfl) gn fun h6 eh6 S D =>
      have T := fj_hs_ok H.1 S
      have hk := cls_st H.1 T.2 hk (by decide)
      have H := shp_st H T
      j_vret D rt_244) (fun q4 h2 e1 =>
      j_tx (hx_244 _))
/-! 245 StatuteHouse$Part.<init>(LStatuteHouse;LStatuteHouse$Kind;I)V -/
theorem cd_245 : fi_code 245 = prog_50_method_1_code := rfl
theorem hx_245 : ∀ pc, fi_hat 245 pc = none := fun pc => by unfold fi_hat; rw [show fi_hh 245 = [] from rfl]; rfl
theorem rt_245 : fi_ret 245 = none := rfl
theorem nl_245 : fi_nl 245 = 4 := rfl
theorem ow_245 : fi_ow 245 = 66 := rfl
theorem cl_245 : fj_cutT.getD 245 [] = [] := rfl
theorem m_245 (d : Nat) (x0 x1 x2 x3 : Int) {h : fi_H} {k0 : Int} (H : Shp h) (hk : h 0 x0.toNat 0 = k0) (hk0 : k0 ≠ 0) : fj_run (d + 1) 245 h [(4, x0), (4, x1), (4, x2), (0, x3)] =
  if 302 < x0 ∧ fi_in (h 0 x0.toNat 0) 343 = true ∧ h 0 x0.toNat 0 < 134 then
  if 100 ≤ 112 → h 343 x0.toNat 0 = 0 then
  lt_ (fi_upd h 343 x0.toNat 0 x1) fun h1 =>
  if 100 ≤ h1 0 x0.toNat 0 ∧ h1 0 x0.toNat 0 < 134 then
  cv_ (fj_run d 1009 h1 [(4, x0)])
    (fun h2 =>
    if 302 < x0 ∧ fi_in (h2 0 x0.toNat 0) 340 = true ∧ h2 0 x0.toNat 0 < 134 then
    if 100 ≤ 112 → h2 340 x0.toNat 0 = 0 then
    lt_ (fi_upd h2 340 x0.toNat 0 x2) fun h5 =>
    if 302 < x0 ∧ fi_in (h5 0 x0.toNat 0) 341 = true ∧ h5 0 x0.toNat 0 < 134 then
    if 100 ≤ 110 → h5 341 x0.toNat 0 = 0 then
    lt_ (fi_upd h5 341 x0.toNat 0 x3) fun h6 =>
    some (.inl none, h6)
    else none
    else none
    else none
    else none)
    (fun q4 h2 => tx_ q4 h2)
  else none
  else none
  else none := by
  rw [fj_run_eq d (by decide) h [(4, x0), (4, x1), (4, x2), (0, x3)] (Nat.le_of_ble_eq_true (by rw [nl_245]; rfl))]
  show gG (fj_run d) 245 0 [(0, (4, x0)), (1, (4, x1)), (2, (4, x2)), (3, (0, x3))] [] h = _
  exact
    have D : fk_D 245 [(0, none, .aload_n 0, 1, 0, 0, 0), (1, none, .aload_n 1, 1, 0, 0, 0), (2, none, .putfield 3, 3, 343, 0, 112), (5, none, .aload_n 0, 1, 0, 0, 0), (6, none, .invokespecial 9, 3, 0, 1009, 0), (9, none, .aload_n 0, 1, 0, 0, 0), (10, none, .aload_n 2, 1, 0, 0, 0), (11, none, .putfield 15, 3, 340, 0, 112), (14, none, .aload_n 0, 1, 0, 0, 0), (15, none, .iload_n 3, 1, 0, 0, 0), (16, none, .putfield 19, 3, 341, 0, 110), (19, none, .return_, 1, 0, 0, 0)] := fq_of2 cd_245 ow_245 cl_245 rfl (pc := 0) (by decide +kernel)
    j_aldn (pc := 0) D rfl rfl rfl fun D =>
    j_aldn (pc := 1) D rfl rfl rfl fun D =>
    j_pfu (pc := 2) (ty := 12) D rfl rfl rfl gn (gy rfl) gn fun h1 eh1 S D =>
    have T := fj_hs_ok H.1 S
    have hk := cls_st H.1 T.2 hk hk0
    have H := shp_st H T
    j_aldn (pc := 5) D rfl rfl rfl fun D =>
    j_spuv (pc := 6) (m := 1009) (a := []) (rest := []) H.2.1 D rfl rfl rfl rfl (fun h2 e1 D =>
      have T := fj_run_ok _ _ _ _ _ _ H.1 e1
      have hk := cls_st H.1 T.2 hk hk0
      have H := shp_st H T
      j_aldn (pc := 9) D rfl rfl rfl fun D =>
      j_aldn (pc := 10) D rfl rfl rfl fun D =>
      j_pfu (pc := 11) (ty := 12) D rfl rfl rfl gn (gy rfl) gn fun h5 eh5 S D =>
      have T := fj_hs_ok H.1 S
      have hk := cls_st H.1 T.2 hk hk0
      have H := shp_st H T
      j_aldn (pc := 14) D rfl rfl rfl fun D =>
      j_ildn (pc := 15) D rfl rfl rfl fun D =>
      j_pfu (pc := 16) (ty := 10) D rfl rfl rfl gn (gy rfl) gn fun h6 eh6 S D =>
      have T := fj_hs_ok H.1 S
      have hk := cls_st H.1 T.2 hk hk0
      have H := shp_st H T
      j_vret D rt_245) (fun q4 h2 e1 =>
      j_tx (hx_245 _))
/-! 246 StatuteHouse$Plain.<init>(LStatuteHouse;Ljava/lang/String;)V -/
theorem cd_246 : fi_code 246 = prog_52_method_1_code := rfl
theorem hx_246 : ∀ pc, fi_hat 246 pc = none := fun pc => by unfold fi_hat; rw [show fi_hh 246 = [] from rfl]; rfl
theorem rt_246 : fi_ret 246 = none := rfl
theorem nl_246 : fi_nl 246 = 3 := rfl
theorem ow_246 : fi_ow 246 = 14 := rfl
theorem cl_246 : fj_cutT.getD 246 [] = [(25, [0, 2])] := rfl
theorem cut_246_25 : fj_cut 246 25 = some [0, 2] := by decide +kernel
noncomputable def c_246_25 (d : Nat) (x0 x2 s0 s1 s2 : Int) (h : fi_H) : fk_R := gG (fj_run d) 246 25 [(0, (4, x0)), (2, (4, x2))] [(4, s2), (4, s1), (4, s0)] h
theorem e_246_25 (d : Nat) (x0 x2 s0 s1 s2 : Int) {h : fi_H} (H : Shp h) (hk : h 0 x0.toNat 0 = 114) : c_246_25 d x0 x2 s0 s1 s2 h =
  if 100 ≤ h 0 s0.toNat 0 ∧ h 0 s0.toNat 0 < 134 then
  cv_ (fj_run d 245 h [(4, s0), (4, s1), (4, s2), (0, 1)])
    (fun h1 =>
    if 302 < x0 then
    if h1 344 x0.toNat 0 = 0 then
    lt_ (fi_upd h1 344 x0.toNat 0 x2) fun h4 =>
    some (.inl none, h4)
    else none
    else none)
    (fun q3 h1 => tx_ q3 h1)
  else none := by
  unfold c_246_25
  exact
    have D : fk_D 246 [(25, some [0, 2], .iconst 1, 1, 0, 1, 0), (26, none, .invokespecial 24, 3, 3, 245, 0), (29, none, .aload_n 0, 1, 0, 0, 0), (30, none, .aload_n 2, 1, 0, 0, 0), (31, none, .putfield 30, 3, 344, 114, 112), (34, none, .return_, 1, 0, 0, 0)] := fq_of2 cd_246 ow_246 cl_246 rfl (pc := 25) (by decide +kernel)
    j_ic (pc := 25) D rfl fun D =>
    j_spuv (pc := 26) (m := 245) (a := [(4, s1), (4, s2), (0, 1)]) (rest := []) H.2.1 D rfl rfl rfl rfl (fun h1 e1 D =>
      have T := fj_run_ok _ _ _ _ _ _ H.1 e1
      have hk := cls_st H.1 T.2 hk (by decide)
      have H := shp_st H T
      j_aldn (pc := 29) D rfl rfl rfl fun D =>
      j_aldn (pc := 30) D rfl rfl rfl fun D =>
      j_pfF (pc := 31) (a := x0.toNat) (ty := 12) D rfl rfl rfl hk ⟨rfl, rfl⟩ rfl gn (gy rfl) gn fun h4 eh4 S D =>
      have T := fj_hs_ok H.1 S
      have hk := cls_st H.1 T.2 hk (by decide)
      have H := shp_st H T
      j_vret D rt_246) (fun q3 h1 e1 =>
      j_tx (hx_246 _))
theorem m_246 (d : Nat) (x0 x1 x2 : Int) {h : fi_H} (H : Shp h) (hk : h 0 x0.toNat 0 = 114) : fj_run (d + 1) 246 h [(4, x0), (4, x1), (4, x2)] =
  if 302 < x0 then
  if h 345 x0.toNat 0 = 0 then
  lt_ (fi_upd h 345 x0.toNat 0 x1) fun h1 =>
  dv_ (fi_vt 216 (h1 0 x2.toNat 0)) fun m5 => ca_ (fj_run d m5 h1 [(4, x2), (4, 233)]) 0
    (fun v3 h2 =>
    if v3 = 0 then
      c_246_25 d x0 x2 x0 x1 9 h2
    else
      c_246_25 d x0 x2 x0 x1 6 h2)
    (fun q4 h2 => tx_ q4 h2)
  else none
  else none := by
  rw [fj_run_eq d (by decide) h [(4, x0), (4, x1), (4, x2)] (Nat.le_of_ble_eq_true (by rw [nl_246]; rfl))]
  show gG (fj_run d) 246 0 [(0, (4, x0)), (1, (4, x1)), (2, (4, x2))] [] h = _
  exact
    have D : fk_D 246 [(0, none, .aload_n 0, 1, 0, 0, 0), (1, none, .aload_n 1, 1, 0, 0, 0), (2, none, .putfield 1, 3, 345, 114, 112), (5, none, .aload_n 0, 1, 0, 0, 0), (6, none, .aload_n 1, 1, 0, 0, 0), (7, none, .aload_n 2, 1, 0, 0, 0), (8, none, .ldc 7, 2, 4, 233, 0), (10, none, .invokevirtual 9, 3, 1, 216, 1), (13, none, .ifCond .eq 9, 3, 22, 0, 0), (16, none, .getstatic 15, 3, 4, 6, 0), (19, none, .goto 6, 3, 25, 0, 0)] := fq_of2 cd_246 ow_246 cl_246 rfl (pc := 0) (by decide +kernel)
    j_aldn (pc := 0) D rfl rfl rfl fun D =>
    j_aldn (pc := 1) D rfl rfl rfl fun D =>
    j_pfF (pc := 2) (a := x0.toNat) (ty := 12) D rfl rfl rfl hk ⟨rfl, rfl⟩ rfl gn (gy rfl) gn fun h1 eh1 S D =>
    have T := fj_hs_ok H.1 S
    have hk := cls_st H.1 T.2 hk (by decide)
    have H := shp_st H T
    j_aldn (pc := 5) D rfl rfl rfl fun D =>
    j_aldn (pc := 6) D rfl rfl rfl fun D =>
    j_aldn (pc := 7) D rfl rfl rfl fun D =>
    j_ldc (pc := 8) D rfl fun D =>
    j_ivu (pc := 10) (dd := 216) (a := [(4, 233)]) (rest := [(4, x1), (4, x0)]) H.2.1 D rfl rfl rfl rfl rfl (fun m5 v3 h2 e1 D =>
      have T := fj_run_ok _ _ _ _ _ _ H.1 e1
      have hk := cls_st H.1 T.2 hk (by decide)
      have H := shp_st H T
      j_ifeq (pc := 13) D rfl (fun q =>
        have D : fk_D 246 [(22, none, .getstatic 21, 3, 4, 9, 0)] := fq_of2 cd_246 ow_246 cl_246 rfl (pc := 22) (by decide +kernel)
        j_gs (pc := 22) D rfl fun D =>
        fk_jump cut_246_25 rfl rfl) (fun q D =>
        j_gs (pc := 16) D rfl fun D =>
        j_goto (pc := 19) D rfl <|
        fk_jump cut_246_25 rfl rfl)) (fun m5 q4 h2 e1 =>
      j_tx (hx_246 _))
/-! 247 StatuteHouse$Reader.has(I)LStatuteHouse$Part; -/
theorem cd_247 : fi_code 247 = prog_53_method_77_code := rfl
theorem hx_247 : ∀ pc, fi_hat 247 pc = none := fun pc => by unfold fi_hat; rw [show fi_hh 247 = [] from rfl]; rfl
theorem rt_247 : fj_ft (fi_ret 247) = 5 := rfl
theorem nl_247 : fi_nl 247 = 3 := rfl
theorem ow_247 : fi_ow 247 = 15 := rfl
theorem cl_247 : fj_cutT.getD 247 [] = [] := rfl
theorem m_247 (d : Nat) (x1 : Int) {h : fi_H} (H : Shp h) : fj_run (d + 1) 247 h [(4, 377), (0, x1)] =
  cv_ (fj_run d 166 h [(4, 377)])
    (fun h1 =>
    cv_ (fj_run d 248 h1 [(4, 377)])
      (fun h4 =>
      ca_ (fj_run d 210 h4 [(4, 377)]) 0
        (fun v8 h7 =>
        cv_ (fj_run d 166 h7 [(4, 377)])
          (fun h10 =>
          cv_ (fj_run d 242 h10 [(4, 377)])
            (fun h13 =>
            cv_ (fj_run d 243 h13 [(4, 377), (0, 1), (0, x1)])
              (fun h16 =>
              nw_ h16 109 7 0 fun r19 h20 =>
              cv_ (fj_run d 249 h20 [(4, r19), (4, 303), (0, v8)])
                (fun h21 =>
                some (.inl (some (4, r19)), h21))
                (fun q23 h21 => tx_ q23 h21))
              (fun q18 h16 => tx_ q18 h16))
            (fun q15 h13 => tx_ q15 h13))
          (fun q12 h10 => tx_ q12 h10))
        (fun q9 h7 => tx_ q9 h7))
      (fun q6 h4 => tx_ q6 h4))
    (fun q3 h1 => tx_ q3 h1) := by
  rw [fj_run_eq d (by decide) h [(4, 377), (0, x1)] (Nat.le_of_ble_eq_true (by rw [nl_247]; rfl))]
  show gG (fj_run d) 247 0 [(0, (4, 377)), (1, (0, x1))] [] h = _
  exact
    have D : fk_D 247 [(0, none, .aload_n 0, 1, 0, 0, 0), (1, none, .invokevirtual 206, 3, 0, 261, 0), (4, none, .aload_n 0, 1, 0, 0, 0), (5, none, .invokevirtual 879, 3, 0, 324, 0), (8, none, .aload_n 0, 1, 0, 0, 0), (9, none, .invokevirtual 531, 3, 0, 281, 1), (12, none, .istore_n 2, 1, 0, 0, 0), (13, none, .aload_n 0, 1, 0, 0, 0), (14, none, .invokevirtual 206, 3, 0, 261, 0), (17, none, .aload_n 0, 1, 0, 0, 0), (18, none, .invokevirtual 818, 3, 0, 318, 0), (21, none, .aload_n 0, 1, 0, 0, 0), (22, none, .iconst 1, 1, 0, 1, 0), (23, none, .iload_n 1, 1, 0, 0, 0), (24, none, .invokevirtual 740, 3, 2, 310, 0), (27, none, .new 882, 3, 109, 7, 0), (30, none, .dup, 1, 0, 0, 0), (31, none, .aload_n 0, 1, 0, 0, 0), (32, none, .getfield 3, 3, 182, 115, 12), (35, none, .iload_n 2, 1, 0, 0, 0)] := fq_of2 cd_247 ow_247 cl_247 rfl (pc := 0) (by decide +kernel)
    j_aldn (pc := 0) D rfl rfl rfl fun D =>
    j_ivv (pc := 1) (m := 166) (dd := 261) (a := []) (rest := []) D rfl rfl rfl rfl rfl (by decide) (s0_377 H) (by decide +kernel) (fun h1 e1 D =>
      have T := fj_run_ok _ _ _ _ _ _ H.1 e1
      have H := shp_st H T
      j_aldn (pc := 4) D rfl rfl rfl fun D =>
      j_ivv (pc := 5) (m := 248) (dd := 324) (a := []) (rest := []) D rfl rfl rfl rfl rfl (by decide) (s0_377 H) (by decide +kernel) (fun h4 e1 D =>
        have T := fj_run_ok _ _ _ _ _ _ H.1 e1
        have H := shp_st H T
        j_aldn (pc := 8) D rfl rfl rfl fun D =>
        j_iv (pc := 9) (m := 210) (dd := 281) (a := []) (rest := []) D rfl rfl rfl rfl rfl (by decide) (s0_377 H) (by decide +kernel) (fun v8 h7 e1 D =>
          have T := fj_run_ok _ _ _ _ _ _ H.1 e1
          have H := shp_st H T
          j_istn (pc := 12) (L' := [(2, (0, v8)), (0, (4, 377)), (1, (0, x1))]) D rfl nl_247 rfl rfl fun D =>
          j_aldn (pc := 13) D rfl rfl rfl fun D =>
          j_ivv (pc := 14) (m := 166) (dd := 261) (a := []) (rest := []) D rfl rfl rfl rfl rfl (by decide) (s0_377 H) (by decide +kernel) (fun h10 e1 D =>
            have T := fj_run_ok _ _ _ _ _ _ H.1 e1
            have H := shp_st H T
            j_aldn (pc := 17) D rfl rfl rfl fun D =>
            j_ivv (pc := 18) (m := 242) (dd := 318) (a := []) (rest := []) D rfl rfl rfl rfl rfl (by decide) (s0_377 H) (by decide +kernel) (fun h13 e1 D =>
              have T := fj_run_ok _ _ _ _ _ _ H.1 e1
              have H := shp_st H T
              j_aldn (pc := 21) D rfl rfl rfl fun D =>
              j_ic (pc := 22) D rfl fun D =>
              j_ildn (pc := 23) D rfl rfl rfl fun D =>
              j_ivv (pc := 24) (m := 243) (dd := 310) (a := [(0, 1), (0, x1)]) (rest := []) D rfl rfl rfl rfl rfl (by decide) (s0_377 H) (by decide +kernel) (fun h16 e1 D =>
                have T := fj_run_ok _ _ _ _ _ _ H.1 e1
                have H := shp_st H T
                j_new (pc := 27) D rfl fun r19 h20 er eh20 S D =>
                have gt_r19 := nw_gt H.1 er
                have kc_r19 := nw_cls H.1 er eh20
                have T := fj_hs_ok H.1 S
                have H := shp_st H T
                j_sh (pc := 30) D rfl rfl rfl fun D =>
                j_aldn (pc := 31) D rfl rfl rfl fun D =>
                j_gfc (pc := 32) (a := 377) D rfl rfl (by decide) rfl (s0_377 H) rfl (sf_182_377 H) fun D =>
                j_ildn (pc := 35) D rfl rfl rfl fun D =>
                have D : fk_D 247 [(36, none, .invokespecial 884, 3, 2, 249, 0), (39, none, .areturn, 1, 0, 0, 0)] := fq_of2 cd_247 ow_247 cl_247 rfl (pc := 36) (by decide +kernel)
                j_spv (pc := 36) (m := 249) (a := [(4, 303), (0, v8)]) (rest := [(4, r19)]) D rfl rfl rfl rfl (by rw [show h20 0 r19.toNat 0 = 109 from kc_r19]; decide) (gt_nz gt_r19) (fun h21 e1 D =>
                  have T := fj_run_ok _ _ _ _ _ _ H.1 e1
                  have kc_r19 := cls_st H.1 T.2 kc_r19 (by decide)
                  have H := shp_st H T
                  j_aret D rt_247) (fun q23 h21 e1 =>
                  j_tx (hx_247 _))) (fun q18 h16 e1 =>
                j_tx (hx_247 _))) (fun q15 h13 e1 =>
              j_tx (hx_247 _))) (fun q12 h10 e1 =>
            j_tx (hx_247 _))) (fun q9 h7 e1 =>
          j_tx (hx_247 _))) (fun q6 h4 e1 =>
        j_tx (hx_247 _))) (fun q3 h1 e1 =>
      j_tx (hx_247 _))
/-! 248 StatuteHouse$Reader.needOpen()V -/
theorem cd_248 : fi_code 248 = prog_53_method_20_code := rfl
theorem hx_248 : ∀ pc, fi_hat 248 pc = none := fun pc => by unfold fi_hat; rw [show fi_hh 248 = [] from rfl]; rfl
theorem rt_248 : fi_ret 248 = none := rfl
theorem nl_248 : fi_nl 248 = 1 := rfl
theorem ow_248 : fi_ow 248 = 15 := rfl
theorem cl_248 : fj_cutT.getD 248 [] = [] := rfl
theorem m_248 (d : Nat) {h : fi_H} (H : Shp h) : fj_run (d + 1) 248 h [(4, 377)] =
  ca_ (fj_run d 183 h [(4, 377), (0, 40)]) 0
    (fun v2 h1 =>
    if v2 = 0 then
      ca_ (fj_run d 164 h1 [(4, 377), (0, 1)]) 4
        (fun v5 h4 =>
        if v5 ≠ 0 then
        tx_ v5.toNat h4
        else none)
        (fun q6 h4 => tx_ q6 h4)
    else
      cv_ (fj_run d 241 h1 [(4, 377)])
        (fun h7 =>
        some (.inl none, h7))
        (fun q9 h7 => tx_ q9 h7))
    (fun q3 h1 => tx_ q3 h1) := by
  rw [fj_run_eq d (by decide) h [(4, 377)] (Nat.le_of_ble_eq_true (by rw [nl_248]; rfl))]
  show gG (fj_run d) 248 0 [(0, (4, 377))] [] h = _
  exact
    have D : fk_D 248 [(0, none, .aload_n 0, 1, 0, 0, 0), (1, none, .bipush 40, 2, 0, 40, 0), (3, none, .invokevirtual 202, 3, 1, 260, 1), (6, none, .ifCond .ne 9, 3, 15, 0, 0), (9, none, .aload_n 0, 1, 0, 0, 0), (10, none, .iconst 1, 1, 0, 1, 0), (11, none, .invokevirtual 190, 3, 1, 258, 5), (14, none, .athrow, 1, 0, 0, 0)] := fq_of2 cd_248 ow_248 cl_248 rfl (pc := 0) (by decide +kernel)
    j_aldn (pc := 0) D rfl rfl rfl fun D =>
    j_bp (pc := 1) D rfl fun D =>
    j_iv (pc := 3) (m := 183) (dd := 260) (a := [(0, 40)]) (rest := []) D rfl rfl rfl rfl rfl (by decide) (s0_377 H) (by decide +kernel) (fun v2 h1 e1 D =>
      have T := fj_run_ok _ _ _ _ _ _ H.1 e1
      have H := shp_st H T
      j_ifne (pc := 6) D rfl (fun q D =>
        j_aldn (pc := 9) D rfl rfl rfl fun D =>
        j_ic (pc := 10) D rfl fun D =>
        j_iv (pc := 11) (m := 164) (dd := 258) (a := [(0, 1)]) (rest := []) D rfl rfl rfl rfl rfl (by decide) (s0_377 H) (by decide +kernel) (fun v5 h4 e1 D =>
          have T := fj_run_ok _ _ _ _ _ _ H.1 e1
          have H := shp_st H T
          j_at (pc := 14) D gn <|
          j_tx (hx_248 _)) (fun q6 h4 e1 =>
          j_tx (hx_248 _))) (fun q =>
        have D : fk_D 248 [(15, none, .aload_n 0, 1, 0, 0, 0), (16, none, .invokevirtual 213, 3, 0, 263, 0), (19, none, .return_, 1, 0, 0, 0)] := fq_of2 cd_248 ow_248 cl_248 rfl (pc := 15) (by decide +kernel)
        j_aldn (pc := 15) D rfl rfl rfl fun D =>
        j_ivv (pc := 16) (m := 241) (dd := 263) (a := []) (rest := []) D rfl rfl rfl rfl rfl (by decide) (s0_377 H) (by decide +kernel) (fun h7 e1 D =>
          have T := fj_run_ok _ _ _ _ _ _ H.1 e1
          have H := shp_st H T
          j_vret D rt_248) (fun q9 h7 e1 =>
          j_tx (hx_248 _)))) (fun q3 h1 e1 =>
      j_tx (hx_248 _))
/-! 249 StatuteHouse$Has.<init>(LStatuteHouse;I)V -/
theorem cd_249 : fi_code 249 = prog_37_method_1_code := rfl
theorem hx_249 : ∀ pc, fi_hat 249 pc = none := fun pc => by unfold fi_hat; rw [show fi_hh 249 = [] from rfl]; rfl
theorem rt_249 : fi_ret 249 = none := rfl
theorem nl_249 : fi_nl 249 = 3 := rfl
theorem ow_249 : fi_ow 249 = 9 := rfl
theorem cl_249 : fj_cutT.getD 249 [] = [] := rfl
theorem m_249 (d : Nat) (x0 x1 x2 : Int) {h : fi_H} (H : Shp h) (hk : h 0 x0.toNat 0 = 109) : fj_run (d + 1) 249 h [(4, x0), (4, x1), (0, x2)] =
  if 302 < x0 then
  if h 346 x0.toNat 0 = 0 then
  lt_ (fi_upd h 346 x0.toNat 0 x1) fun h1 =>
  cv_ (fj_run d 250 h1 [(4, x0), (4, x1), (4, 2), (0, x2)])
    (fun h2 =>
    some (.inl none, h2))
    (fun q4 h2 => tx_ q4 h2)
  else none
  else none := by
  rw [fj_run_eq d (by decide) h [(4, x0), (4, x1), (0, x2)] (Nat.le_of_ble_eq_true (by rw [nl_249]; rfl))]
  show gG (fj_run d) 249 0 [(0, (4, x0)), (1, (4, x1)), (2, (0, x2))] [] h = _
  exact
    have D : fk_D 249 [(0, none, .aload_n 0, 1, 0, 0, 0), (1, none, .aload_n 1, 1, 0, 0, 0), (2, none, .putfield 1, 3, 346, 109, 112), (5, none, .aload_n 0, 1, 0, 0, 0), (6, none, .aload_n 1, 1, 0, 0, 0), (7, none, .getstatic 7, 3, 4, 2, 0), (10, none, .iload_n 2, 1, 0, 0, 0), (11, none, .invokespecial 13, 3, 3, 250, 0), (14, none, .return_, 1, 0, 0, 0)] := fq_of2 cd_249 ow_249 cl_249 rfl (pc := 0) (by decide +kernel)
    j_aldn (pc := 0) D rfl rfl rfl fun D =>
    j_aldn (pc := 1) D rfl rfl rfl fun D =>
    j_pfF (pc := 2) (a := x0.toNat) (ty := 12) D rfl rfl rfl hk ⟨rfl, rfl⟩ rfl gn (gy rfl) gn fun h1 eh1 S D =>
    have T := fj_hs_ok H.1 S
    have hk := cls_st H.1 T.2 hk (by decide)
    have H := shp_st H T
    j_aldn (pc := 5) D rfl rfl rfl fun D =>
    j_aldn (pc := 6) D rfl rfl rfl fun D =>
    j_gs (pc := 7) D rfl fun D =>
    j_ildn (pc := 10) D rfl rfl rfl fun D =>
    j_spv (pc := 11) (m := 250) (a := [(4, x1), (4, 2), (0, x2)]) (rest := []) D rfl rfl rfl rfl (by rw [show h1 0 x0.toNat 0 = 109 from hk]; decide) (nz_cls H.2.1 hk (by decide)) (fun h2 e1 D =>
      have T := fj_run_ok _ _ _ _ _ _ H.1 e1
      have hk := cls_st H.1 T.2 hk (by decide)
      have H := shp_st H T
      j_vret D rt_249) (fun q4 h2 e1 =>
      j_tx (hx_249 _))
/-! 250 StatuteHouse$Named.<init>(LStatuteHouse;LStatuteHouse$Kind;I)V -/
theorem cd_250 : fi_code 250 = prog_48_method_1_code := rfl
theorem hx_250 : ∀ pc, fi_hat 250 pc = none := fun pc => by unfold fi_hat; rw [show fi_hh 250 = [] from rfl]; rfl
theorem rt_250 : fi_ret 250 = none := rfl
theorem nl_250 : fi_nl 250 = 4 := rfl
theorem ow_250 : fi_ow 250 = 65 := rfl
theorem cl_250 : fj_cutT.getD 250 [] = [] := rfl
theorem m_250 (d : Nat) (x0 x1 x2 x3 : Int) {h : fi_H} {k0 : Int} (H : Shp h) (hk : h 0 x0.toNat 0 = k0) (hk0 : k0 ≠ 0) : fj_run (d + 1) 250 h [(4, x0), (4, x1), (4, x2), (0, x3)] =
  if 302 < x0 ∧ fi_in (h 0 x0.toNat 0) 348 = true ∧ h 0 x0.toNat 0 < 134 then
  if 100 ≤ 112 → h 348 x0.toNat 0 = 0 then
  lt_ (fi_upd h 348 x0.toNat 0 x1) fun h1 =>
  if 100 ≤ h1 0 x0.toNat 0 ∧ h1 0 x0.toNat 0 < 134 then
  cv_ (fj_run d 245 h1 [(4, x0), (4, x1), (4, x2), (0, 1)])
    (fun h2 =>
    if 302 < x0 ∧ fi_in (h2 0 x0.toNat 0) 347 = true ∧ h2 0 x0.toNat 0 < 134 then
    if 100 ≤ 110 → h2 347 x0.toNat 0 = 0 then
    lt_ (fi_upd h2 347 x0.toNat 0 x3) fun h5 =>
    some (.inl none, h5)
    else none
    else none)
    (fun q4 h2 => tx_ q4 h2)
  else none
  else none
  else none := by
  rw [fj_run_eq d (by decide) h [(4, x0), (4, x1), (4, x2), (0, x3)] (Nat.le_of_ble_eq_true (by rw [nl_250]; rfl))]
  show gG (fj_run d) 250 0 [(0, (4, x0)), (1, (4, x1)), (2, (4, x2)), (3, (0, x3))] [] h = _
  exact
    have D : fk_D 250 [(0, none, .aload_n 0, 1, 0, 0, 0), (1, none, .aload_n 1, 1, 0, 0, 0), (2, none, .putfield 1, 3, 348, 0, 112), (5, none, .aload_n 0, 1, 0, 0, 0), (6, none, .aload_n 1, 1, 0, 0, 0), (7, none, .aload_n 2, 1, 0, 0, 0), (8, none, .iconst 1, 1, 0, 1, 0), (9, none, .invokespecial 7, 3, 3, 245, 0), (12, none, .aload_n 0, 1, 0, 0, 0), (13, none, .iload_n 3, 1, 0, 0, 0), (14, none, .putfield 13, 3, 347, 0, 110), (17, none, .return_, 1, 0, 0, 0)] := fq_of2 cd_250 ow_250 cl_250 rfl (pc := 0) (by decide +kernel)
    j_aldn (pc := 0) D rfl rfl rfl fun D =>
    j_aldn (pc := 1) D rfl rfl rfl fun D =>
    j_pfu (pc := 2) (ty := 12) D rfl rfl rfl gn (gy rfl) gn fun h1 eh1 S D =>
    have T := fj_hs_ok H.1 S
    have hk := cls_st H.1 T.2 hk hk0
    have H := shp_st H T
    j_aldn (pc := 5) D rfl rfl rfl fun D =>
    j_aldn (pc := 6) D rfl rfl rfl fun D =>
    j_aldn (pc := 7) D rfl rfl rfl fun D =>
    j_ic (pc := 8) D rfl fun D =>
    j_spuv (pc := 9) (m := 245) (a := [(4, x1), (4, x2), (0, 1)]) (rest := []) H.2.1 D rfl rfl rfl rfl (fun h2 e1 D =>
      have T := fj_run_ok _ _ _ _ _ _ H.1 e1
      have hk := cls_st H.1 T.2 hk hk0
      have H := shp_st H T
      j_aldn (pc := 12) D rfl rfl rfl fun D =>
      j_ildn (pc := 13) D rfl rfl rfl fun D =>
      j_pfu (pc := 14) (ty := 10) D rfl rfl rfl gn (gy rfl) gn fun h5 eh5 S D =>
      have T := fj_hs_ok H.1 S
      have hk := cls_st H.1 T.2 hk hk0
      have H := shp_st H T
      j_vret D rt_250) (fun q4 h2 e1 =>
      j_tx (hx_250 _))
