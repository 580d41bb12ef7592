/-! forms of methods 70..89, printed by gen/forms.py -/
set_option maxRecDepth 100000
/-! 70 StatuteHouse.gaps(III)I -/
theorem cd_70 : fi_code 70 = prog_1_method_52_code := rfl
theorem hx_70 : ∀ pc, fi_hat 70 pc = none := fun pc => by unfold fi_hat; rw [show fi_hh 70 = [] from rfl]; rfl
theorem rt_70 : fi_ret 70 = some .int := rfl
theorem nl_70 : fi_nl 70 = 13 := rfl
theorem ow_70 : fi_ow 70 = 0 := rfl
theorem cl_70 : fj_cutT.getD 70 [] = [(68, [0, 2, 4, 5, 6]), (105, [0, 2, 4, 5, 6, 8, 9, 10]), (160, [0, 2, 4, 5, 6, 8, 9, 10]), (183, [0, 2, 4, 5, 6]), (260, [0, 2, 4, 6, 7, 8, 9, 10]), (288, [0, 2, 4, 6, 7, 8, 9, 10, 11, 12]), (320, [0, 2, 4, 6, 7, 8, 9, 10, 12]), (349, [0, 2, 4, 6, 7, 8, 9, 10]), (358, [0, 2, 4, 6, 7, 8, 9, 10]), (378, [0, 2, 4, 6, 7, 8, 9, 10]), (381, [0, 2, 4, 6, 7, 8, 9, 10])] := rfl
theorem cut_70_68 : fj_cut 70 68 = some [0, 2, 4, 5, 6] := by decide +kernel
noncomputable def c_70_68 (d : Nat) (x2 x4 x5 x6 : Int) (h : fi_H) : fk_R := gG (fj_run d) 70 68 [(0, (4, 303)), (2, (0, x2)), (4, (4, x4)), (5, (0, x5)), (6, (4, x6))] [] h
theorem cut_70_105 : fj_cut 70 105 = some [0, 2, 4, 5, 6, 8, 9, 10] := by decide +kernel
noncomputable def c_70_105 (d : Nat) (x2 x4 x5 x6 x8 x9 x10 : Int) (h : fi_H) : fk_R := gG (fj_run d) 70 105 [(0, (4, 303)), (2, (0, x2)), (4, (4, x4)), (5, (0, x5)), (6, (4, x6)), (8, (4, x8)), (9, (0, x9)), (10, (0, x10))] [] h
theorem cut_70_160 : fj_cut 70 160 = some [0, 2, 4, 5, 6, 8, 9, 10] := by decide +kernel
noncomputable def c_70_160 (d : Nat) (x2 x4 x5 x6 x8 x9 x10 : Int) (h : fi_H) : fk_R := gG (fj_run d) 70 160 [(0, (4, 303)), (2, (0, x2)), (4, (4, x4)), (5, (0, x5)), (6, (4, x6)), (8, (4, x8)), (9, (0, x9)), (10, (0, x10))] [] h
theorem cut_70_183 : fj_cut 70 183 = some [0, 2, 4, 5, 6] := by decide +kernel
noncomputable def c_70_183 (d : Nat) (x2 x4 x5 x6 : Int) (h : fi_H) : fk_R := gG (fj_run d) 70 183 [(0, (4, 303)), (2, (0, x2)), (4, (4, x4)), (5, (0, x5)), (6, (0, x6))] [] h
theorem cut_70_260 : fj_cut 70 260 = some [0, 2, 4, 6, 7, 8, 9, 10] := by decide +kernel
noncomputable def c_70_260 (d : Nat) (x2 x4 x6 x7 x8 x9 x10 : Int) (h : fi_H) : fk_R := gG (fj_run d) 70 260 [(0, (4, 303)), (2, (0, x2)), (4, (4, x4)), (6, (0, x6)), (7, (0, x7)), (8, (0, x8)), (9, (0, x9)), (10, (0, x10))] [] h
theorem cut_70_288 : fj_cut 70 288 = some [0, 2, 4, 6, 7, 8, 9, 10, 11, 12] := by decide +kernel
noncomputable def c_70_288 (d : Nat) (x2 x4 x6 x7 x8 x9 x10 x11 x12 : Int) (h : fi_H) : fk_R := gG (fj_run d) 70 288 [(0, (4, 303)), (2, (0, x2)), (4, (4, x4)), (6, (0, x6)), (7, (0, x7)), (8, (0, x8)), (9, (0, x9)), (10, (0, x10)), (11, (0, x11)), (12, (0, x12))] [] h
theorem cut_70_320 : fj_cut 70 320 = some [0, 2, 4, 6, 7, 8, 9, 10, 12] := by decide +kernel
noncomputable def c_70_320 (d : Nat) (x2 x4 x6 x7 x8 x9 x10 x12 s0 s1 : Int) (h : fi_H) : fk_R := gG (fj_run d) 70 320 [(0, (4, 303)), (2, (0, x2)), (4, (4, x4)), (6, (0, x6)), (7, (0, x7)), (8, (0, x8)), (9, (0, x9)), (10, (0, x10)), (12, (0, x12))] [(0, s1), (0, s0)] h
theorem cut_70_349 : fj_cut 70 349 = some [0, 2, 4, 6, 7, 8, 9, 10] := by decide +kernel
noncomputable def c_70_349 (d : Nat) (x2 x4 x6 x7 x8 x9 x10 : Int) (h : fi_H) : fk_R := gG (fj_run d) 70 349 [(0, (4, 303)), (2, (0, x2)), (4, (4, x4)), (6, (0, x6)), (7, (0, x7)), (8, (0, x8)), (9, (0, x9)), (10, (0, x10))] [] h
theorem cut_70_358 : fj_cut 70 358 = some [0, 2, 4, 6, 7, 8, 9, 10] := by decide +kernel
noncomputable def c_70_358 (d : Nat) (x2 x4 x6 x7 x8 x9 x10 : Int) (h : fi_H) : fk_R := gG (fj_run d) 70 358 [(0, (4, 303)), (2, (0, x2)), (4, (4, x4)), (6, (0, x6)), (7, (0, x7)), (8, (0, x8)), (9, (0, x9)), (10, (0, x10))] [] h
theorem cut_70_378 : fj_cut 70 378 = some [0, 2, 4, 6, 7, 8, 9, 10] := by decide +kernel
noncomputable def c_70_378 (d : Nat) (x2 x4 x6 x7 x8 x9 x10 : Int) (h : fi_H) : fk_R := gG (fj_run d) 70 378 [(0, (4, 303)), (2, (0, x2)), (4, (4, x4)), (6, (0, x6)), (7, (0, x7)), (8, (0, x8)), (9, (0, x9)), (10, (0, x10))] [] h
theorem cut_70_381 : fj_cut 70 381 = some [0, 2, 4, 6, 7, 8, 9, 10] := by decide +kernel
noncomputable def c_70_381 (d : Nat) (x2 x4 x6 x7 x8 x9 x10 : Int) (h : fi_H) : fk_R := gG (fj_run d) 70 381 [(0, (4, 303)), (2, (0, x2)), (4, (4, x4)), (6, (0, x6)), (7, (0, x7)), (8, (0, x8)), (9, (0, x9)), (10, (0, x10))] [] h
theorem e_70_68 (d : Nat) (x2 x4 x5 x6 : Int) {h : fi_H} (H : Shp h) : c_70_68 d x2 x4 x5 x6 h =
  dv_ (fi_vt 148 (h 0 x6.toNat 0)) fun m4 => ca_ (fj_run d m4 h [(4, x6)]) 0
    (fun v2 h1 =>
    if v2 = 0 then
      lt_ (fi_upd h1 278 303 0 0) fun h5 =>
      if h5 0 x4.toNat 0 = 120 then
      if h5 0 (h5 200 x4.toNat 0).toNat 0 = 9 ∧ 0 ≤ x2 ∧ x2 < h5 1 (h5 200 x4.toNat 0).toNat 0 then
      c_70_183 d x2 x4 x5 (h5 9 (h5 200 x4.toNat 0).toNat x2.toNat) h5
      else none
      else none
    else
      dv_ (fi_vt 149 (h1 0 x6.toNat 0)) fun m10 => ca_ (fj_run d m10 h1 [(4, x6)]) 4
        (fun v8 h7 =>
        if v8 = 0 ∨ (fi_sup (h7 0 v8.toNat 0)).contains 126 = true then
        if h7 0 v8.toNat 0 = 126 then
        if fk_isA (h7 0 (h7 374 v8.toNat 0).toNat 0) = true then
        c_70_105 d x2 x4 x5 x6 (h7 374 v8.toNat 0) (h7 1 (h7 374 v8.toNat 0).toNat 0) 0 h7
        else none
        else none
        else none)
        (fun q9 h7 => tx_ q9 h7))
    (fun q3 h1 => tx_ q3 h1) := by
  unfold c_70_68
  exact
    have D : fk_D 70 [(68, some [0, 2, 4, 5, 6], .aload 6, 2, 0, 0, 0), (70, none, .invokeinterface 540 1, 5, 0, 148, 1), (75, none, .ifCond .eq 94, 3, 169, 0, 0), (78, none, .aload 6, 2, 0, 0, 0), (80, none, .invokeinterface 546 1, 5, 0, 149, 5), (85, none, .checkcast 549, 3, 126, 0, 0), (88, none, .astore 7, 2, 0, 0, 0), (90, none, .aload 7, 2, 0, 0, 0), (92, none, .getfield 551, 3, 374, (-126), 12), (95, none, .astore 8, 2, 0, 0, 0), (97, none, .aload 8, 2, 0, 0, 0), (99, none, .arraylength, 1, 0, 0, 0), (100, none, .istore 9, 2, 0, 0, 0), (102, none, .iconst 0, 1, 0, 0, 0), (103, none, .istore 10, 2, 0, 0, 0)] := fq_of2 cd_70 ow_70 cl_70 rfl (pc := 68) (by decide +kernel)
    j_ald (pc := 68) D rfl rfl rfl fun D =>
    j_ivu (pc := 70) (dd := 148) (a := []) (rest := []) H.2.1 D rfl rfl rfl rfl rfl (fun m4 v2 h1 e1 D =>
      have T := fj_run_ok _ _ _ _ _ _ H.1 e1
      have H := shp_st H T
      j_ifeq (pc := 75) D rfl (fun q =>
        have D : fk_D 70 [(169, none, .aload_n 0, 1, 0, 0, 0), (170, none, .iconst 0, 1, 0, 0, 0), (171, none, .putfield 598, 3, 278, 100, 4), (174, none, .aload 4, 2, 0, 0, 0), (176, none, .getfield 364, 3, 200, (-120), 12), (179, none, .iload_n 2, 1, 0, 0, 0), (180, none, .saload, 1, 0, 0, 0), (181, none, .istore 6, 2, 0, 0, 0)] := fq_of2 cd_70 ow_70 cl_70 rfl (pc := 169) (by decide +kernel)
        j_aldn (pc := 169) D rfl rfl rfl fun D =>
        j_ic (pc := 170) D rfl fun D =>
        j_pf (pc := 171) (a := 303) D rfl rfl rfl (s0_303 H) rfl rfl (gy (by decide)) (gy (by decide)) fun h5 eh5 S D =>
        have T := fj_hs_ok H.1 S
        have H := shp_st H T
        j_ald (pc := 174) D rfl rfl rfl fun D =>
        j_gfo (pc := 176) H.2.1 D rfl rfl rfl rfl fun kc6 D =>
        j_ildn (pc := 179) D rfl rfl rfl fun D =>
        j_alp (pc := 180) (e := 9) H.2.1 D rfl rfl ⟨rfl, rfl, rfl⟩ rfl fun q q2 D =>
        j_ist (pc := 181) (L' := [(6, (0, h5 9 (h5 200 x4.toNat 0).toNat x2.toNat)), (0, (4, 303)), (2, (0, x2)), (4, (4, x4)), (5, (0, x5))]) D rfl nl_70 rfl rfl fun D =>
        fk_jump cut_70_183 rfl rfl) (fun q D =>
        j_ald (pc := 78) D rfl rfl rfl fun D =>
        j_ivu (pc := 80) (dd := 149) (a := []) (rest := []) H.2.1 D rfl rfl rfl rfl rfl (fun m10 v8 h7 e1 D =>
          have T := fj_run_ok _ _ _ _ _ _ H.1 e1
          have H := shp_st H T
          j_cast (pc := 85) D rfl gn fun D =>
          j_ast (pc := 88) (L' := [(7, (4, v8)), (0, (4, 303)), (2, (0, x2)), (4, (4, x4)), (5, (0, x5)), (6, (4, x6))]) D rfl nl_70 rfl rfl fun D =>
          j_ald (pc := 90) D rfl rfl rfl fun D =>
          j_gfo (pc := 92) H.2.1 D rfl rfl rfl rfl fun kc11 D =>
          j_ast (pc := 95) (L' := [(8, (4, h7 374 v8.toNat 0)), (7, (4, v8)), (0, (4, 303)), (2, (0, x2)), (4, (4, x4)), (5, (0, x5)), (6, (4, x6))]) D rfl nl_70 rfl rfl fun D =>
          j_ald (pc := 97) D rfl rfl rfl fun D =>
          j_lenu (pc := 99) H.2.1 D rfl fun q D =>
          j_ist (pc := 100) (L' := [(9, (0, h7 1 (h7 374 v8.toNat 0).toNat 0)), (8, (4, h7 374 v8.toNat 0)), (7, (4, v8)), (0, (4, 303)), (2, (0, x2)), (4, (4, x4)), (5, (0, x5)), (6, (4, x6))]) D rfl nl_70 rfl rfl fun D =>
          j_ic (pc := 102) D rfl fun D =>
          j_ist (pc := 103) (L' := [(10, (0, 0)), (9, (0, h7 1 (h7 374 v8.toNat 0).toNat 0)), (8, (4, h7 374 v8.toNat 0)), (7, (4, v8)), (0, (4, 303)), (2, (0, x2)), (4, (4, x4)), (5, (0, x5)), (6, (4, x6))]) D rfl nl_70 rfl rfl fun D =>
          fk_jump cut_70_105 rfl rfl) (fun m10 q9 h7 e1 =>
          j_tx (hx_70 _)))) (fun m4 q3 h1 e1 =>
      j_tx (hx_70 _))
theorem e_70_105 (d : Nat) (x2 x4 x5 x6 x8 x9 x10 : Int) {h : fi_H} (H : Shp h) : c_70_105 d x2 x4 x5 x6 x8 x9 x10 h =
  if x10 < x9 then
    if (20 ≤ h 0 x8.toNat 0 ∧ h 0 x8.toNat 0 < 30) ∧ 0 ≤ x10 ∧ x10 < h 1 x8.toNat 0 then
    if h 0 (h 12 x8.toNat x10.toNat).toNat 0 = 117 then
    if h 137 (h 12 x8.toNat x10.toNat).toNat 0 = x2 then
      dv_ (fi_vt 142 (h 0 x4.toNat 0)) fun m5 => ca_ (fj_run d m5 h [(4, x4), (4, h 12 x8.toNat x10.toNat)]) 0
        (fun v3 h2 =>
        if v3 = 0 then
          if h2 141 (h 12 x8.toNat x10.toNat).toNat 0 = 0 then
            c_70_160 d x2 x4 (wI (x5 + 1)) x6 x8 x9 x10 h2
          else
            dv_ (fi_vt 156 (h2 0 (h2 141 (h 12 x8.toNat x10.toNat).toNat 0).toNat 0)) fun m9 => cv_ (fj_run d m9 h2 [(4, h2 141 (h 12 x8.toNat x10.toNat).toNat 0)])
              (fun h6 =>
              c_70_160 d x2 x4 (wI (x5 + 1)) x6 x8 x9 x10 h6)
              (fun q8 h6 => tx_ q8 h6)
        else
          c_70_160 d x2 x4 x5 x6 x8 x9 x10 h2)
        (fun q4 h2 => tx_ q4 h2)
    else
      c_70_160 d x2 x4 x5 x6 x8 x9 x10 h
    else none
    else none
  else
    c_70_68 d x2 x4 x5 x6 h := by
  unfold c_70_105
  exact
    have D : fk_D 70 [(105, some [0, 2, 4, 5, 6, 8, 9, 10], .iload 10, 2, 0, 0, 0), (107, none, .iload 9, 2, 0, 0, 0), (109, none, .if_icmp .ge 57, 3, 166, 0, 0), (112, none, .aload 8, 2, 0, 0, 0), (114, none, .iload 10, 2, 0, 0, 0), (116, none, .aaload, 1, 0, 0, 0), (117, none, .astore 11, 2, 0, 0, 0), (119, none, .aload 11, 2, 0, 0, 0), (121, none, .getfield 378, 3, 137, (-117), 10), (124, none, .iload_n 2, 1, 0, 0, 0), (125, none, .if_icmp .ne 35, 3, 160, 0, 0), (128, none, .aload 4, 2, 0, 0, 0), (130, none, .aload 11, 2, 0, 0, 0), (132, none, .invokevirtual 496, 3, 1, 142, 1), (135, none, .ifCond .eq 6, 3, 141, 0, 0), (138, none, .goto 22, 3, 160, 0, 0)] := fq_of2 cd_70 ow_70 cl_70 rfl (pc := 105) (by decide +kernel)
    j_ild (pc := 105) D rfl rfl rfl fun D =>
    j_ild (pc := 107) D rfl rfl rfl fun D =>
    j_ige (pc := 109) D rfl (fun q D =>
      j_ald (pc := 112) D rfl rfl rfl fun D =>
      j_ild (pc := 114) D rfl rfl rfl fun D =>
      j_alr (pc := 116) H.2.1 D rfl rfl fun q q2 D =>
      j_ast (pc := 117) (L' := [(11, (4, h 12 x8.toNat x10.toNat)), (0, (4, 303)), (2, (0, x2)), (4, (4, x4)), (5, (0, x5)), (6, (4, x6)), (8, (4, x8)), (9, (0, x9)), (10, (0, x10))]) D rfl nl_70 rfl rfl fun D =>
      j_ald (pc := 119) D rfl rfl rfl fun D =>
      j_gfo (pc := 121) H.2.1 D rfl rfl rfl rfl fun kc1 D =>
      j_ildn (pc := 124) D rfl rfl rfl fun D =>
      j_ine (pc := 125) D rfl (fun q D =>
        j_ald (pc := 128) D rfl rfl rfl fun D =>
        j_ald (pc := 130) D rfl rfl rfl fun D =>
        j_ivu (pc := 132) (dd := 142) (a := [(4, h 12 x8.toNat x10.toNat)]) (rest := []) H.2.1 D rfl rfl rfl rfl rfl (fun m5 v3 h2 e1 D =>
          have T := fj_run_ok _ _ _ _ _ _ H.1 e1
          have kc1 := cls_st H.1 T.2 kc1 (by decide)
          have H := shp_st H T
          j_ifeq (pc := 135) D rfl (fun q =>
            have D : fk_D 70 [(141, none, .iinc 5 1, 3, 0, 1, 0), (144, none, .aload 11, 2, 0, 0, 0), (146, none, .getfield 393, 3, 141, 117, 12), (149, none, .ifnull 11, 3, 160, 0, 0), (152, none, .aload 11, 2, 0, 0, 0), (154, none, .getfield 393, 3, 141, 117, 12), (157, none, .invokevirtual 621, 3, 0, 156, 0)] := fq_of2 cd_70 ow_70 cl_70 rfl (pc := 141) (by decide +kernel)
            j_inc (pc := 141) (L' := [(5, (0, wI (x5 + 1))), (11, (4, h 12 x8.toNat x10.toNat)), (0, (4, 303)), (2, (0, x2)), (4, (4, x4)), (6, (4, x6)), (8, (4, x8)), (9, (0, x9)), (10, (0, x10))]) D rfl rfl rfl (by decide +kernel) rfl fun D =>
            j_ald (pc := 144) D rfl rfl rfl fun D =>
            j_gf (pc := 146) (a := (h 12 x8.toNat x10.toNat).toNat) D rfl rfl (nz_cls H.2.1 kc1 (by decide)) rfl kc1 rfl fun D =>
            j_null (pc := 149) D rfl (fun q =>
              fk_jump cut_70_160 rfl rfl) (fun q D =>
              j_ald (pc := 152) D rfl rfl rfl fun D =>
              j_gf (pc := 154) (a := (h 12 x8.toNat x10.toNat).toNat) D rfl rfl (nz_cls H.2.1 kc1 (by decide)) rfl kc1 rfl fun D =>
              j_ivuv (pc := 157) (dd := 156) (a := []) (rest := []) H.2.1 D rfl rfl rfl rfl rfl (fun m9 h6 e1 D =>
                have T := fj_run_ok _ _ _ _ _ _ H.1 e1
                have kc1 := cls_st H.1 T.2 kc1 (by decide)
                have H := shp_st H T
                fk_jump cut_70_160 rfl rfl) (fun m9 q8 h6 e1 =>
                j_tx (hx_70 _)))) (fun q D =>
            j_goto (pc := 138) D rfl <|
            fk_jump cut_70_160 rfl rfl)) (fun m5 q4 h2 e1 =>
          j_tx (hx_70 _))) (fun q =>
        fk_jump cut_70_160 rfl rfl)) (fun q =>
      have D : fk_D 70 [(166, none, .goto (-98), 3, 68, 0, 0)] := fq_of2 cd_70 ow_70 cl_70 rfl (pc := 166) (by decide +kernel)
      j_goto (pc := 166) D rfl <|
      fk_jump cut_70_68 rfl rfl)
theorem e_70_160 (d : Nat) (x2 x4 x5 x6 x8 x9 x10 : Int) {h : fi_H} (H : Shp h) : c_70_160 d x2 x4 x5 x6 x8 x9 x10 h =
  c_70_105 d x2 x4 x5 x6 x8 x9 (wI (x10 + 1)) h := by
  unfold c_70_160
  exact
    have D : fk_D 70 [(160, some [0, 2, 4, 5, 6, 8, 9, 10], .iinc 10 1, 3, 0, 1, 0), (163, none, .goto (-58), 3, 105, 0, 0)] := fq_of2 cd_70 ow_70 cl_70 rfl (pc := 160) (by decide +kernel)
    j_inc (pc := 160) (L' := [(10, (0, wI (x10 + 1))), (0, (4, 303)), (2, (0, x2)), (4, (4, x4)), (5, (0, x5)), (6, (4, x6)), (8, (4, x8)), (9, (0, x9))]) D rfl rfl rfl (by decide +kernel) rfl fun D =>
    j_goto (pc := 163) D rfl <|
    fk_jump cut_70_105 rfl rfl
theorem e_70_183 (d : Nat) (x2 x4 x5 x6 : Int) {h : fi_H} (H : Shp h) : c_70_183 d x2 x4 x5 x6 h =
  if x6 = (-1) then
    if 40 < x5 then
      some (.inl (some (0, (-4))), h)
    else
      if 8 < h 275 303 0 then
        some (.inl (some (0, (-4))), h)
      else
        if h 278 303 0 = 0 then
          c_70_260 d x2 x4 0 0 (-1) (-1) 0 h
        else
          some (.inl (some (0, (-4))), h)
  else
    if 0 ≤ x6 ∧ x6 < 500 then
    ca_ (fj_run d 76 h [(4, 303), (4, x4), (4, h 12 355 x6.toNat), (0, 0), (0, 0)]) 0
      (fun v3 h2 =>
      if h2 0 x4.toNat 0 = 120 then
      if h2 0 (h2 203 x4.toNat 0).toNat 0 = 9 ∧ 0 ≤ x6 ∧ x6 < h2 1 (h2 203 x4.toNat 0).toNat 0 then
      c_70_183 d x2 x4 x5 (h2 9 (h2 203 x4.toNat 0).toNat x6.toNat) h2
      else none
      else none)
      (fun q4 h2 => tx_ q4 h2)
    else none := by
  unfold c_70_183
  exact
    have D : fk_D 70 [(183, some [0, 2, 4, 5, 6], .iload 6, 2, 0, 0, 0), (185, none, .iconst (-1), 1, 0, (-1), 0), (186, none, .if_icmp .eq 33, 3, 219, 0, 0), (189, none, .aload_n 0, 1, 0, 0, 0), (190, none, .aload 4, 2, 0, 0, 0), (192, none, .aload_n 0, 1, 0, 0, 0), (193, none, .getfield 360, 3, 228, 100, 12), (196, none, .iload 6, 2, 0, 0, 0), (198, none, .aaload, 1, 0, 0, 0), (199, none, .iconst 0, 1, 0, 0, 0), (200, none, .iconst 0, 1, 0, 0, 0), (201, none, .invokevirtual 601, 3, 4, 153, 1), (204, none, .istore 7, 2, 0, 0, 0), (206, none, .aload 4, 2, 0, 0, 0), (208, none, .getfield 371, 3, 203, (-120), 12), (211, none, .iload 6, 2, 0, 0, 0), (213, none, .saload, 1, 0, 0, 0), (214, none, .istore 6, 2, 0, 0, 0), (216, none, .goto (-33), 3, 183, 0, 0)] := fq_of2 cd_70 ow_70 cl_70 rfl (pc := 183) (by decide +kernel)
    j_ild (pc := 183) D rfl rfl rfl fun D =>
    j_ic (pc := 185) D rfl fun D =>
    j_ieq (pc := 186) D rfl (fun q =>
      have D : fk_D 70 [(219, none, .iload 5, 2, 0, 0, 0), (221, none, .bipush 40, 2, 0, 40, 0), (223, none, .if_icmp .gt 19, 3, 242, 0, 0), (226, none, .aload_n 0, 1, 0, 0, 0), (227, none, .getfield 618, 3, 275, 100, 10), (230, none, .bipush 8, 2, 0, 8, 0), (232, none, .if_icmp .gt 10, 3, 242, 0, 0), (235, none, .aload_n 0, 1, 0, 0, 0), (236, none, .getfield 598, 3, 278, 100, 4), (239, none, .ifCond .eq 6, 3, 245, 0, 0), (242, none, .bipush (-4), 2, 0, (-4), 0), (244, none, .ireturn, 1, 0, 0, 0)] := fq_of2 cd_70 ow_70 cl_70 rfl (pc := 219) (by decide +kernel)
      j_ild (pc := 219) D rfl rfl rfl fun D =>
      j_bp (pc := 221) D rfl fun D =>
      j_igt (pc := 223) D rfl (fun q =>
        have D : fk_D 70 [(242, none, .bipush (-4), 2, 0, (-4), 0), (244, none, .ireturn, 1, 0, 0, 0)] := fq_of2 cd_70 ow_70 cl_70 rfl (pc := 242) (by decide +kernel)
        j_bp (pc := 242) D rfl fun D =>
        j_iret D rt_70) (fun q D =>
        j_aldn (pc := 226) D rfl rfl rfl fun D =>
        j_gf (pc := 227) (a := 303) D rfl rfl (by decide) rfl (s0_303 H) rfl fun D =>
        j_bp (pc := 230) D rfl fun D =>
        j_igt (pc := 232) D rfl (fun q =>
          have D : fk_D 70 [(242, none, .bipush (-4), 2, 0, (-4), 0), (244, none, .ireturn, 1, 0, 0, 0)] := fq_of2 cd_70 ow_70 cl_70 rfl (pc := 242) (by decide +kernel)
          j_bp (pc := 242) D rfl fun D =>
          j_iret D rt_70) (fun q D =>
          j_aldn (pc := 235) D rfl rfl rfl fun D =>
          j_gf (pc := 236) (a := 303) D rfl rfl (by decide) rfl (s0_303 H) rfl fun D =>
          j_ifeq (pc := 239) D rfl (fun q =>
            have D : fk_D 70 [(245, none, .iconst 0, 1, 0, 0, 0), (246, none, .istore 6, 2, 0, 0, 0), (248, none, .iconst 0, 1, 0, 0, 0), (249, none, .istore 7, 2, 0, 0, 0), (251, none, .iconst (-1), 1, 0, (-1), 0), (252, none, .istore 8, 2, 0, 0, 0), (254, none, .iconst (-1), 1, 0, (-1), 0), (255, none, .istore 9, 2, 0, 0, 0), (257, none, .iconst 0, 1, 0, 0, 0), (258, none, .istore 10, 2, 0, 0, 0)] := fq_of2 cd_70 ow_70 cl_70 rfl (pc := 245) (by decide +kernel)
            j_ic (pc := 245) D rfl fun D =>
            j_ist (pc := 246) (L' := [(6, (0, 0)), (0, (4, 303)), (2, (0, x2)), (4, (4, x4)), (5, (0, x5))]) D rfl nl_70 rfl rfl fun D =>
            j_ic (pc := 248) D rfl fun D =>
            j_ist (pc := 249) (L' := [(7, (0, 0)), (6, (0, 0)), (0, (4, 303)), (2, (0, x2)), (4, (4, x4)), (5, (0, x5))]) D rfl nl_70 rfl rfl fun D =>
            j_ic (pc := 251) D rfl fun D =>
            j_ist (pc := 252) (L' := [(8, (0, (-1))), (7, (0, 0)), (6, (0, 0)), (0, (4, 303)), (2, (0, x2)), (4, (4, x4)), (5, (0, x5))]) D rfl nl_70 rfl rfl fun D =>
            j_ic (pc := 254) D rfl fun D =>
            j_ist (pc := 255) (L' := [(9, (0, (-1))), (8, (0, (-1))), (7, (0, 0)), (6, (0, 0)), (0, (4, 303)), (2, (0, x2)), (4, (4, x4)), (5, (0, x5))]) D rfl nl_70 rfl rfl fun D =>
            j_ic (pc := 257) D rfl fun D =>
            j_ist (pc := 258) (L' := [(10, (0, 0)), (9, (0, (-1))), (8, (0, (-1))), (7, (0, 0)), (6, (0, 0)), (0, (4, 303)), (2, (0, x2)), (4, (4, x4)), (5, (0, x5))]) D rfl nl_70 rfl rfl fun D =>
            fk_jump cut_70_260 rfl rfl) (fun q D =>
            j_bp (pc := 242) D rfl fun D =>
            j_iret D rt_70)))) (fun q D =>
      j_aldn (pc := 189) D rfl rfl rfl fun D =>
      j_ald (pc := 190) D rfl rfl rfl fun D =>
      j_aldn (pc := 192) D rfl rfl rfl fun D =>
      j_gfc (pc := 193) (a := 303) D rfl rfl (by decide) rfl (s0_303 H) rfl (sf_228_303 H) fun D =>
      j_ild (pc := 196) D rfl rfl rfl fun D =>
      j_al (pc := 198) (a := 355) (e := 12) D rfl rfl rfl (by decide) (s0_355 H) (s1_355 H) ⟨rfl, rfl, rfl⟩ rfl gn fun qb1 D =>
      j_ic (pc := 199) D rfl fun D =>
      j_ic (pc := 200) D rfl fun D =>
      j_iv (pc := 201) (m := 76) (dd := 153) (a := [(4, x4), (4, h 12 355 x6.toNat), (0, 0), (0, 0)]) (rest := []) D rfl rfl rfl rfl rfl (by decide) (s0_303 H) (by decide +kernel) (fun v3 h2 e1 D =>
        have T := fj_run_ok _ _ _ _ _ _ H.1 e1
        have H := shp_st H T
        j_ist (pc := 204) (L' := [(7, (0, v3)), (0, (4, 303)), (2, (0, x2)), (4, (4, x4)), (5, (0, x5)), (6, (0, x6))]) D rfl nl_70 rfl rfl fun D =>
        j_ald (pc := 206) D rfl rfl rfl fun D =>
        j_gfo (pc := 208) H.2.1 D rfl rfl rfl rfl fun kc5 D =>
        j_ild (pc := 211) D rfl rfl rfl fun D =>
        j_alp (pc := 213) (e := 9) H.2.1 D rfl rfl ⟨rfl, rfl, rfl⟩ rfl fun q q2 D =>
        j_ist (pc := 214) (L' := [(6, (0, h2 9 (h2 203 x4.toNat 0).toNat x6.toNat)), (7, (0, v3)), (0, (4, 303)), (2, (0, x2)), (4, (4, x4)), (5, (0, x5))]) D rfl nl_70 rfl rfl fun D =>
        j_goto (pc := 216) D rfl <|
        fk_jump cut_70_183 rfl rfl) (fun q4 h2 e1 =>
        j_tx (hx_70 _)))
theorem e_70_260 (d : Nat) (x2 x4 x6 x7 x8 x9 x10 : Int) {h : fi_H} (H : Shp h) : c_70_260 d x2 x4 x6 x7 x8 x9 x10 h =
  if x10 < sl_ 1 (h 275 303 0) then
    lt_ (fi_upd h 277 303 0 0) fun h1 =>
    if h1 0 x4.toNat 0 = 120 then
    if h1 0 (h1 200 x4.toNat 0).toNat 0 = 9 ∧ 0 ≤ x2 ∧ x2 < h1 1 (h1 200 x4.toNat 0).toNat 0 then
    c_70_288 d x2 x4 x6 x7 x8 x9 x10 0 (h1 9 (h1 200 x4.toNat 0).toNat x2.toNat) h1
    else none
    else none
  else
    lt_ (fi_upd h 10 407 0 (h 275 303 0)) fun h3 =>
    lt_ (fi_upd h3 10 407 1 x6) fun h4 =>
    lt_ (fi_upd h4 10 407 2 x7) fun h5 =>
    lt_ (fi_upd h5 10 407 3 x8) fun h6 =>
    lt_ (fi_upd h6 10 407 4 x9) fun h7 =>
    some (.inl (some (0, wI (x6 + x7))), h7) := by
  unfold c_70_260
  exact
    have D : fk_D 70 [(260, some [0, 2, 4, 6, 7, 8, 9, 10], .iload 10, 2, 0, 0, 0), (262, none, .iconst 1, 1, 0, 1, 0), (263, none, .aload_n 0, 1, 0, 0, 0), (264, none, .getfield 618, 3, 275, 100, 10), (267, none, .ishl, 1, 0, 0, 0), (268, none, .if_icmp .ge 119, 3, 387, 0, 0), (271, none, .aload_n 0, 1, 0, 0, 0), (272, none, .iconst 0, 1, 0, 0, 0), (273, none, .putfield 604, 3, 277, 100, 4), (276, none, .iconst 0, 1, 0, 0, 0), (277, none, .istore 11, 2, 0, 0, 0), (279, none, .aload 4, 2, 0, 0, 0), (281, none, .getfield 364, 3, 200, (-120), 12), (284, none, .iload_n 2, 1, 0, 0, 0), (285, none, .saload, 1, 0, 0, 0), (286, none, .istore 12, 2, 0, 0, 0)] := fq_of2 cd_70 ow_70 cl_70 rfl (pc := 260) (by decide +kernel)
    j_ild (pc := 260) D rfl rfl rfl fun D =>
    j_ic (pc := 262) D rfl fun D =>
    j_aldn (pc := 263) D rfl rfl rfl fun D =>
    j_gf (pc := 264) (a := 303) D rfl rfl (by decide) rfl (s0_303 H) rfl fun D =>
    j_ishl (pc := 267) D rfl fun D =>
    j_ige (pc := 268) D rfl (fun q D =>
      j_aldn (pc := 271) D rfl rfl rfl fun D =>
      j_ic (pc := 272) D rfl fun D =>
      j_pf (pc := 273) (a := 303) D rfl rfl rfl (s0_303 H) rfl rfl (gy (by decide)) (gy (by decide)) fun h1 eh1 S D =>
      have T := fj_hs_ok H.1 S
      have H := shp_st H T
      j_ic (pc := 276) D rfl fun D =>
      j_ist (pc := 277) (L' := [(11, (0, 0)), (0, (4, 303)), (2, (0, x2)), (4, (4, x4)), (6, (0, x6)), (7, (0, x7)), (8, (0, x8)), (9, (0, x9)), (10, (0, x10))]) D rfl nl_70 rfl rfl fun D =>
      j_ald (pc := 279) D rfl rfl rfl fun D =>
      j_gfo (pc := 281) H.2.1 D rfl rfl rfl rfl fun kc2 D =>
      j_ildn (pc := 284) D rfl rfl rfl fun D =>
      j_alp (pc := 285) (e := 9) H.2.1 D rfl rfl ⟨rfl, rfl, rfl⟩ rfl fun q q2 D =>
      j_ist (pc := 286) (L' := [(12, (0, h1 9 (h1 200 x4.toNat 0).toNat x2.toNat)), (11, (0, 0)), (0, (4, 303)), (2, (0, x2)), (4, (4, x4)), (6, (0, x6)), (7, (0, x7)), (8, (0, x8)), (9, (0, x9)), (10, (0, x10))]) D rfl nl_70 rfl rfl fun D =>
      fk_jump cut_70_288 rfl rfl) (fun q =>
      have D : fk_D 70 [(387, none, .aload_n 0, 1, 0, 0, 0), (388, none, .getfield 624, 3, 276, 100, 12), (391, none, .iconst 0, 1, 0, 0, 0), (392, none, .aload_n 0, 1, 0, 0, 0), (393, none, .getfield 618, 3, 275, 100, 10), (396, none, .iastore, 1, 0, 0, 0), (397, none, .aload_n 0, 1, 0, 0, 0), (398, none, .getfield 624, 3, 276, 100, 12), (401, none, .iconst 1, 1, 0, 1, 0), (402, none, .iload 6, 2, 0, 0, 0), (404, none, .iastore, 1, 0, 0, 0), (405, none, .aload_n 0, 1, 0, 0, 0), (406, none, .getfield 624, 3, 276, 100, 12), (409, none, .iconst 2, 1, 0, 2, 0), (410, none, .iload 7, 2, 0, 0, 0), (412, none, .iastore, 1, 0, 0, 0), (413, none, .aload_n 0, 1, 0, 0, 0), (414, none, .getfield 624, 3, 276, 100, 12), (417, none, .iconst 3, 1, 0, 3, 0), (418, none, .iload 8, 2, 0, 0, 0)] := fq_of2 cd_70 ow_70 cl_70 rfl (pc := 387) (by decide +kernel)
      j_aldn (pc := 387) D rfl rfl rfl fun D =>
      j_gfc (pc := 388) (a := 303) D rfl rfl (by decide) rfl (s0_303 H) rfl (sf_276_303 H) fun D =>
      j_ic (pc := 391) D rfl fun D =>
      j_aldn (pc := 392) D rfl rfl rfl fun D =>
      j_gf (pc := 393) (a := 303) D rfl rfl (by decide) rfl (s0_303 H) rfl fun D =>
      j_as (pc := 396) (a := 407) (e := 10) D rfl ⟨rfl, rfl⟩ rfl (by decide) (s0_407 H) (s1_407 H) ⟨rfl, rfl, rfl⟩ rfl (gy (by decide)) (gy rfl) fun h3 eh3 S q D =>
      have T := fj_hs_ok H.1 S
      have H := shp_st H T
      j_aldn (pc := 397) D rfl rfl rfl fun D =>
      j_gfc (pc := 398) (a := 303) D rfl rfl (by decide) rfl (s0_303 H) rfl (sf_276_303 H) fun D =>
      j_ic (pc := 401) D rfl fun D =>
      j_ild (pc := 402) D rfl rfl rfl fun D =>
      j_as (pc := 404) (a := 407) (e := 10) D rfl ⟨rfl, rfl⟩ rfl (by decide) (s0_407 H) (s1_407 H) ⟨rfl, rfl, rfl⟩ rfl (gy (by decide)) (gy rfl) fun h4 eh4 S q D =>
      have T := fj_hs_ok H.1 S
      have H := shp_st H T
      j_aldn (pc := 405) D rfl rfl rfl fun D =>
      j_gfc (pc := 406) (a := 303) D rfl rfl (by decide) rfl (s0_303 H) rfl (sf_276_303 H) fun D =>
      j_ic (pc := 409) D rfl fun D =>
      j_ild (pc := 410) D rfl rfl rfl fun D =>
      j_as (pc := 412) (a := 407) (e := 10) D rfl ⟨rfl, rfl⟩ rfl (by decide) (s0_407 H) (s1_407 H) ⟨rfl, rfl, rfl⟩ rfl (gy (by decide)) (gy rfl) fun h5 eh5 S q D =>
      have T := fj_hs_ok H.1 S
      have H := shp_st H T
      j_aldn (pc := 413) D rfl rfl rfl fun D =>
      j_gfc (pc := 414) (a := 303) D rfl rfl (by decide) rfl (s0_303 H) rfl (sf_276_303 H) fun D =>
      j_ic (pc := 417) D rfl fun D =>
      j_ild (pc := 418) D rfl rfl rfl fun D =>
      have D : fk_D 70 [(420, none, .iastore, 1, 0, 0, 0), (421, none, .aload_n 0, 1, 0, 0, 0), (422, none, .getfield 624, 3, 276, 100, 12), (425, none, .iconst 4, 1, 0, 4, 0), (426, none, .iload 9, 2, 0, 0, 0), (428, none, .iastore, 1, 0, 0, 0), (429, none, .iload 6, 2, 0, 0, 0), (431, none, .iload 7, 2, 0, 0, 0), (433, none, .iadd, 1, 0, 0, 0), (434, none, .ireturn, 1, 0, 0, 0)] := fq_of2 cd_70 ow_70 cl_70 rfl (pc := 420) (by decide +kernel)
      j_as (pc := 420) (a := 407) (e := 10) D rfl ⟨rfl, rfl⟩ rfl (by decide) (s0_407 H) (s1_407 H) ⟨rfl, rfl, rfl⟩ rfl (gy (by decide)) (gy rfl) fun h6 eh6 S q D =>
      have T := fj_hs_ok H.1 S
      have H := shp_st H T
      j_aldn (pc := 421) D rfl rfl rfl fun D =>
      j_gfc (pc := 422) (a := 303) D rfl rfl (by decide) rfl (s0_303 H) rfl (sf_276_303 H) fun D =>
      j_ic (pc := 425) D rfl fun D =>
      j_ild (pc := 426) D rfl rfl rfl fun D =>
      j_as (pc := 428) (a := 407) (e := 10) D rfl ⟨rfl, rfl⟩ rfl (by decide) (s0_407 H) (s1_407 H) ⟨rfl, rfl, rfl⟩ rfl (gy (by decide)) (gy rfl) fun h7 eh7 S q D =>
      have T := fj_hs_ok H.1 S
      have H := shp_st H T
      j_ild (pc := 429) D rfl rfl rfl fun D =>
      j_ild (pc := 431) D rfl rfl rfl fun D =>
      j_iadd (pc := 433) D rfl fun D =>
      j_iret D rt_70)
theorem e_70_288 (d : Nat) (x2 x4 x6 x7 x8 x9 x10 x11 x12 : Int) {h : fi_H} (H : Shp h) : c_70_288 d x2 x4 x6 x7 x8 x9 x10 x11 x12 h =
  if x12 = (-1) then
    if h 277 303 0 = 0 then
      if 1 < x11 then
        c_70_349 d x2 x4 x6 x7 x8 x9 x10 h
      else
        if x11 = 0 then
          if x6 = 0 then
            c_70_378 d x2 x4 x6 x7 x10 x9 x10 h
          else
            c_70_378 d x2 x4 x6 x7 x8 x9 x10 h
        else
          c_70_381 d x2 x4 x6 x7 x8 x9 x10 h
    else
      c_70_349 d x2 x4 x6 x7 x8 x9 x10 h
  else
    if 0 ≤ x12 ∧ x12 < 500 then
    ca_ (fj_run d 76 h [(4, 303), (4, x4), (4, h 12 355 x12.toNat), (0, x10), (0, 0)]) 0
      (fun v3 h2 =>
      if v3 = 0 then
        c_70_320 d x2 x4 x6 x7 x8 x9 x10 x12 x11 0 h2
      else
        c_70_320 d x2 x4 x6 x7 x8 x9 x10 x12 x11 1 h2)
      (fun q4 h2 => tx_ q4 h2)
    else none := by
  unfold c_70_288
  exact
    have D : fk_D 70 [(288, some [0, 2, 4, 6, 7, 8, 9, 10, 11, 12], .iload 12, 2, 0, 0, 0), (290, none, .iconst (-1), 1, 0, (-1), 0), (291, none, .if_icmp .eq 45, 3, 336, 0, 0), (294, none, .iload 11, 2, 0, 0, 0), (296, none, .aload_n 0, 1, 0, 0, 0), (297, none, .aload 4, 2, 0, 0, 0), (299, none, .aload_n 0, 1, 0, 0, 0), (300, none, .getfield 360, 3, 228, 100, 12), (303, none, .iload 12, 2, 0, 0, 0), (305, none, .aaload, 1, 0, 0, 0), (306, none, .iload 10, 2, 0, 0, 0), (308, none, .iconst 0, 1, 0, 0, 0), (309, none, .invokevirtual 601, 3, 4, 153, 1), (312, none, .ifCond .eq 7, 3, 319, 0, 0), (315, none, .iconst 1, 1, 0, 1, 0), (316, none, .goto 4, 3, 320, 0, 0)] := fq_of2 cd_70 ow_70 cl_70 rfl (pc := 288) (by decide +kernel)
    j_ild (pc := 288) D rfl rfl rfl fun D =>
    j_ic (pc := 290) D rfl fun D =>
    j_ieq (pc := 291) D rfl (fun q =>
      have D : fk_D 70 [(336, none, .aload_n 0, 1, 0, 0, 0), (337, none, .getfield 604, 3, 277, 100, 4), (340, none, .ifCond .ne 9, 3, 349, 0, 0), (343, none, .iload 11, 2, 0, 0, 0), (345, none, .iconst 1, 1, 0, 1, 0), (346, none, .if_icmp .le 18, 3, 364, 0, 0)] := fq_of2 cd_70 ow_70 cl_70 rfl (pc := 336) (by decide +kernel)
      j_aldn (pc := 336) D rfl rfl rfl fun D =>
      j_gf (pc := 337) (a := 303) D rfl rfl (by decide) rfl (s0_303 H) rfl fun D =>
      j_ifne (pc := 340) D rfl (fun q D =>
        j_ild (pc := 343) D rfl rfl rfl fun D =>
        j_ic (pc := 345) D rfl fun D =>
        j_ile (pc := 346) D rfl (fun q D =>
          fk_jump cut_70_349 rfl rfl) (fun q =>
          have D : fk_D 70 [(364, none, .iload 11, 2, 0, 0, 0), (366, none, .ifCond .ne 15, 3, 381, 0, 0), (369, none, .iload 6, 2, 0, 0, 0), (371, none, .ifCond .ne 7, 3, 378, 0, 0), (374, none, .iload 10, 2, 0, 0, 0), (376, none, .istore 8, 2, 0, 0, 0)] := fq_of2 cd_70 ow_70 cl_70 rfl (pc := 364) (by decide +kernel)
          j_ild (pc := 364) D rfl rfl rfl fun D =>
          j_ifne (pc := 366) D rfl (fun q D =>
            j_ild (pc := 369) D rfl rfl rfl fun D =>
            j_ifne (pc := 371) D rfl (fun q D =>
              j_ild (pc := 374) D rfl rfl rfl fun D =>
              j_ist (pc := 376) (L' := [(8, (0, x10)), (0, (4, 303)), (2, (0, x2)), (4, (4, x4)), (6, (0, x6)), (7, (0, x7)), (9, (0, x9)), (10, (0, x10)), (11, (0, x11)), (12, (0, x12))]) D rfl nl_70 rfl rfl fun D =>
              fk_jump cut_70_378 rfl rfl) (fun q =>
              fk_jump cut_70_378 rfl rfl)) (fun q =>
            fk_jump cut_70_381 rfl rfl))) (fun q =>
        fk_jump cut_70_349 rfl rfl)) (fun q D =>
      j_ild (pc := 294) D rfl rfl rfl fun D =>
      j_aldn (pc := 296) D rfl rfl rfl fun D =>
      j_ald (pc := 297) D rfl rfl rfl fun D =>
      j_aldn (pc := 299) D rfl rfl rfl fun D =>
      j_gfc (pc := 300) (a := 303) D rfl rfl (by decide) rfl (s0_303 H) rfl (sf_228_303 H) fun D =>
      j_ild (pc := 303) D rfl rfl rfl fun D =>
      j_al (pc := 305) (a := 355) (e := 12) D rfl rfl rfl (by decide) (s0_355 H) (s1_355 H) ⟨rfl, rfl, rfl⟩ rfl gn fun qb1 D =>
      j_ild (pc := 306) D rfl rfl rfl fun D =>
      j_ic (pc := 308) D rfl fun D =>
      j_iv (pc := 309) (m := 76) (dd := 153) (a := [(4, x4), (4, h 12 355 x12.toNat), (0, x10), (0, 0)]) (rest := [(0, x11)]) D rfl rfl rfl rfl rfl (by decide) (s0_303 H) (by decide +kernel) (fun v3 h2 e1 D =>
        have T := fj_run_ok _ _ _ _ _ _ H.1 e1
        have H := shp_st H T
        j_ifeq (pc := 312) D rfl (fun q =>
          have D : fk_D 70 [(319, none, .iconst 0, 1, 0, 0, 0)] := fq_of2 cd_70 ow_70 cl_70 rfl (pc := 319) (by decide +kernel)
          j_ic (pc := 319) D rfl fun D =>
          fk_jump cut_70_320 rfl rfl) (fun q D =>
          j_ic (pc := 315) D rfl fun D =>
          j_goto (pc := 316) D rfl <|
          fk_jump cut_70_320 rfl rfl)) (fun q4 h2 e1 =>
        j_tx (hx_70 _)))
theorem e_70_320 (d : Nat) (x2 x4 x6 x7 x8 x9 x10 x12 s0 s1 : Int) {h : fi_H} (H : Shp h) : c_70_320 d x2 x4 x6 x7 x8 x9 x10 x12 s0 s1 h =
  if h 0 x4.toNat 0 = 120 then
  if h 0 (h 203 x4.toNat 0).toNat 0 = 9 ∧ 0 ≤ x12 ∧ x12 < h 1 (h 203 x4.toNat 0).toNat 0 then
  c_70_288 d x2 x4 x6 x7 x8 x9 x10 (wI (s0 + s1)) (h 9 (h 203 x4.toNat 0).toNat x12.toNat) h
  else none
  else none := by
  unfold c_70_320
  exact
    have D : fk_D 70 [(320, some [0, 2, 4, 6, 7, 8, 9, 10, 12], .iadd, 1, 0, 0, 0), (321, none, .istore 11, 2, 0, 0, 0), (323, none, .aload 4, 2, 0, 0, 0), (325, none, .getfield 371, 3, 203, (-120), 12), (328, none, .iload 12, 2, 0, 0, 0), (330, none, .saload, 1, 0, 0, 0), (331, none, .istore 12, 2, 0, 0, 0), (333, none, .goto (-45), 3, 288, 0, 0)] := fq_of2 cd_70 ow_70 cl_70 rfl (pc := 320) (by decide +kernel)
    j_iadd (pc := 320) D rfl fun D =>
    j_ist (pc := 321) (L' := [(11, (0, wI (s0 + s1))), (0, (4, 303)), (2, (0, x2)), (4, (4, x4)), (6, (0, x6)), (7, (0, x7)), (8, (0, x8)), (9, (0, x9)), (10, (0, x10)), (12, (0, x12))]) D rfl nl_70 rfl rfl fun D =>
    j_ald (pc := 323) D rfl rfl rfl fun D =>
    j_gfo (pc := 325) H.2.1 D rfl rfl rfl rfl fun kc1 D =>
    j_ild (pc := 328) D rfl rfl rfl fun D =>
    j_alp (pc := 330) (e := 9) H.2.1 D rfl rfl ⟨rfl, rfl, rfl⟩ rfl fun q q2 D =>
    j_ist (pc := 331) (L' := [(12, (0, h 9 (h 203 x4.toNat 0).toNat x12.toNat)), (11, (0, wI (s0 + s1))), (0, (4, 303)), (2, (0, x2)), (4, (4, x4)), (6, (0, x6)), (7, (0, x7)), (8, (0, x8)), (9, (0, x9)), (10, (0, x10))]) D rfl nl_70 rfl rfl fun D =>
    j_goto (pc := 333) D rfl <|
    fk_jump cut_70_288 rfl rfl
theorem e_70_349 (d : Nat) (x2 x4 x6 x7 x8 x9 x10 : Int) {h : fi_H} (H : Shp h) : c_70_349 d x2 x4 x6 x7 x8 x9 x10 h =
  if x7 = 0 then
    c_70_358 d x2 x4 x6 x7 x8 x10 x10 h
  else
    c_70_358 d x2 x4 x6 x7 x8 x9 x10 h := by
  unfold c_70_349
  exact
    have D : fk_D 70 [(349, some [0, 2, 4, 6, 7, 8, 9, 10], .iload 7, 2, 0, 0, 0), (351, none, .ifCond .ne 7, 3, 358, 0, 0), (354, none, .iload 10, 2, 0, 0, 0), (356, none, .istore 9, 2, 0, 0, 0)] := fq_of2 cd_70 ow_70 cl_70 rfl (pc := 349) (by decide +kernel)
    j_ild (pc := 349) D rfl rfl rfl fun D =>
    j_ifne (pc := 351) D rfl (fun q D =>
      j_ild (pc := 354) D rfl rfl rfl fun D =>
      j_ist (pc := 356) (L' := [(9, (0, x10)), (0, (4, 303)), (2, (0, x2)), (4, (4, x4)), (6, (0, x6)), (7, (0, x7)), (8, (0, x8)), (10, (0, x10))]) D rfl nl_70 rfl rfl fun D =>
      fk_jump cut_70_358 rfl rfl) (fun q =>
      fk_jump cut_70_358 rfl rfl)
theorem e_70_358 (d : Nat) (x2 x4 x6 x7 x8 x9 x10 : Int) {h : fi_H} (H : Shp h) : c_70_358 d x2 x4 x6 x7 x8 x9 x10 h =
  c_70_381 d x2 x4 x6 (wI (x7 + 1)) x8 x9 x10 h := by
  unfold c_70_358
  exact
    have D : fk_D 70 [(358, some [0, 2, 4, 6, 7, 8, 9, 10], .iinc 7 1, 3, 0, 1, 0), (361, none, .goto 20, 3, 381, 0, 0)] := fq_of2 cd_70 ow_70 cl_70 rfl (pc := 358) (by decide +kernel)
    j_inc (pc := 358) (L' := [(7, (0, wI (x7 + 1))), (0, (4, 303)), (2, (0, x2)), (4, (4, x4)), (6, (0, x6)), (8, (0, x8)), (9, (0, x9)), (10, (0, x10))]) D rfl rfl rfl (by decide +kernel) rfl fun D =>
    j_goto (pc := 361) D rfl <|
    fk_jump cut_70_381 rfl rfl
theorem e_70_378 (d : Nat) (x2 x4 x6 x7 x8 x9 x10 : Int) {h : fi_H} (H : Shp h) : c_70_378 d x2 x4 x6 x7 x8 x9 x10 h =
  c_70_381 d x2 x4 (wI (x6 + 1)) x7 x8 x9 x10 h := by
  unfold c_70_378
  exact
    have D : fk_D 70 [(378, some [0, 2, 4, 6, 7, 8, 9, 10], .iinc 6 1, 3, 0, 1, 0)] := fq_of2 cd_70 ow_70 cl_70 rfl (pc := 378) (by decide +kernel)
    j_inc (pc := 378) (L' := [(6, (0, wI (x6 + 1))), (0, (4, 303)), (2, (0, x2)), (4, (4, x4)), (7, (0, x7)), (8, (0, x8)), (9, (0, x9)), (10, (0, x10))]) D rfl rfl rfl (by decide +kernel) rfl fun D =>
    fk_jump cut_70_381 rfl rfl
theorem e_70_381 (d : Nat) (x2 x4 x6 x7 x8 x9 x10 : Int) {h : fi_H} (H : Shp h) : c_70_381 d x2 x4 x6 x7 x8 x9 x10 h =
  c_70_260 d x2 x4 x6 x7 x8 x9 (wI (x10 + 1)) h := by
  unfold c_70_381
  exact
    have D : fk_D 70 [(381, some [0, 2, 4, 6, 7, 8, 9, 10], .iinc 10 1, 3, 0, 1, 0), (384, none, .goto (-124), 3, 260, 0, 0)] := fq_of2 cd_70 ow_70 cl_70 rfl (pc := 381) (by decide +kernel)
    j_inc (pc := 381) (L' := [(10, (0, wI (x10 + 1))), (0, (4, 303)), (2, (0, x2)), (4, (4, x4)), (6, (0, x6)), (7, (0, x7)), (8, (0, x8)), (9, (0, x9))]) D rfl rfl rfl (by decide +kernel) rfl fun D =>
    j_goto (pc := 384) D rfl <|
    fk_jump cut_70_260 rfl rfl
theorem m_70 (d : Nat) (x1 x2 x3 : Int) {h : fi_H} (H : Shp h) : fj_run (d + 1) 70 h [(4, 303), (0, x1), (0, x2), (0, x3)] =
  ca_ (fj_run d 71 h [(4, 303), (0, x2)]) 0
    (fun v2 h1 =>
    if v2 = 0 then
      some (.inl (some (0, (-1))), h1)
    else
      ca_ (fj_run d 1 h1 [(0, x1)]) 0
        (fun v5 h4 =>
        if v5 = 0 then
          some (.inl (some (0, (-2))), h4)
        else
          ca_ (fj_run d 2 h4 [(4, 303), (0, x3)]) 0
            (fun v8 h7 =>
            if v8 = 0 then
              some (.inl (some (0, (-2))), h7)
            else
              if 0 ≤ x1 ∧ x1 < 4 then
              dv_ (fi_vt 133 (h7 0 (h7 12 363 12).toNat 0)) fun m14 => cv_ (fj_run d m14 h7 [(4, h7 12 363 12), (4, h7 12 354 x1.toNat), (0, h7 239 303 0), (0, x3)])
                (fun h11 =>
                lt_ (fi_upd h11 275 303 0 0) fun h15 =>
                dv_ (fi_vt 147 (h15 0 (h7 12 363 12).toNat 0)) fun m19 => ca_ (fj_run d m19 h15 [(4, h7 12 363 12)]) 4
                  (fun v17 h16 =>
                  c_70_68 d x2 (h7 12 363 12) 0 v17 h16)
                  (fun q18 h16 => tx_ q18 h16))
                (fun q13 h11 => tx_ q13 h11)
              else none)
            (fun q9 h7 => tx_ q9 h7))
        (fun q6 h4 => tx_ q6 h4))
    (fun q3 h1 => tx_ q3 h1) := by
  rw [fj_run_eq d (by decide) h [(4, 303), (0, x1), (0, x2), (0, x3)] (Nat.le_of_ble_eq_true (by rw [nl_70]; rfl))]
  show gG (fj_run d) 70 0 [(0, (4, 303)), (1, (0, x1)), (2, (0, x2)), (3, (0, x3))] [] h = _
  exact
    have D : fk_D 70 [(0, none, .aload_n 0, 1, 0, 0, 0), (1, none, .iload_n 2, 1, 0, 0, 0), (2, none, .invokevirtual 613, 3, 1, 155, 1), (5, none, .ifCond .ne 5, 3, 10, 0, 0), (8, none, .iconst (-1), 1, 0, (-1), 0), (9, none, .ireturn, 1, 0, 0, 0)] := fq_of2 cd_70 ow_70 cl_70 rfl (pc := 0) (by decide +kernel)
    j_aldn (pc := 0) D rfl rfl rfl fun D =>
    j_ildn (pc := 1) D rfl rfl rfl fun D =>
    j_iv (pc := 2) (m := 71) (dd := 155) (a := [(0, x2)]) (rest := []) D rfl rfl rfl rfl rfl (by decide) (s0_303 H) (by decide +kernel) (fun v2 h1 e1 D =>
      have T := fj_run_ok _ _ _ _ _ _ H.1 e1
      have H := shp_st H T
      j_ifne (pc := 5) D rfl (fun q D =>
        j_ic (pc := 8) D rfl fun D =>
        j_iret D rt_70) (fun q =>
        have D : fk_D 70 [(10, none, .iload_n 1, 1, 0, 0, 0), (11, none, .invokestatic 526, 3, 1, 1, 1), (14, none, .ifCond .eq 11, 3, 25, 0, 0), (17, none, .aload_n 0, 1, 0, 0, 0), (18, none, .iload_n 3, 1, 0, 0, 0), (19, none, .invokevirtual 121, 3, 1, 113, 1), (22, none, .ifCond .ne 6, 3, 28, 0, 0), (25, none, .bipush (-2), 2, 0, (-2), 0), (27, none, .ireturn, 1, 0, 0, 0)] := fq_of2 cd_70 ow_70 cl_70 rfl (pc := 10) (by decide +kernel)
        j_ildn (pc := 10) D rfl rfl rfl fun D =>
        j_is (pc := 11) (m := 1) (a := [(0, x1)]) (rest := []) D rfl rfl rfl rfl (fun v5 h4 e1 D =>
          have T := fj_run_ok _ _ _ _ _ _ H.1 e1
          have H := shp_st H T
          j_ifeq (pc := 14) D rfl (fun q =>
            have D : fk_D 70 [(25, none, .bipush (-2), 2, 0, (-2), 0), (27, none, .ireturn, 1, 0, 0, 0)] := fq_of2 cd_70 ow_70 cl_70 rfl (pc := 25) (by decide +kernel)
            j_bp (pc := 25) D rfl fun D =>
            j_iret D rt_70) (fun q D =>
            j_aldn (pc := 17) D rfl rfl rfl fun D =>
            j_ildn (pc := 18) D rfl rfl rfl fun D =>
            j_iv (pc := 19) (m := 2) (dd := 113) (a := [(0, x3)]) (rest := []) D rfl rfl rfl rfl rfl (by decide) (s0_303 H) (by decide +kernel) (fun v8 h7 e1 D =>
              have T := fj_run_ok _ _ _ _ _ _ H.1 e1
              have H := shp_st H T
              j_ifne (pc := 22) D rfl (fun q D =>
                j_bp (pc := 25) D rfl fun D =>
                j_iret D rt_70) (fun q =>
                have D : fk_D 70 [(28, none, .aload_n 0, 1, 0, 0, 0), (29, none, .getfield 348, 3, 248, 100, 12), (32, none, .bipush 12, 2, 0, 12, 0), (34, none, .aaload, 1, 0, 0, 0), (35, none, .astore 4, 2, 0, 0, 0), (37, none, .aload 4, 2, 0, 0, 0), (39, none, .aload_n 0, 1, 0, 0, 0), (40, none, .getfield 529, 3, 227, 100, 12), (43, none, .iload_n 1, 1, 0, 0, 0), (44, none, .aaload, 1, 0, 0, 0), (45, none, .aload_n 0, 1, 0, 0, 0), (46, none, .getfield 615, 3, 239, 100, 10), (49, none, .iload_n 3, 1, 0, 0, 0), (50, none, .invokevirtual 352, 3, 3, 133, 0), (53, none, .aload_n 0, 1, 0, 0, 0), (54, none, .iconst 0, 1, 0, 0, 0), (55, none, .putfield 618, 3, 275, 100, 10), (58, none, .iconst 0, 1, 0, 0, 0), (59, none, .istore 5, 2, 0, 0, 0), (61, none, .aload 4, 2, 0, 0, 0)] := fq_of2 cd_70 ow_70 cl_70 rfl (pc := 28) (by decide +kernel)
                j_aldn (pc := 28) D rfl rfl rfl fun D =>
                j_gfc (pc := 29) (a := 303) D rfl rfl (by decide) rfl (s0_303 H) rfl (sf_248_303 H) fun D =>
                j_bp (pc := 32) D rfl fun D =>
                j_al (pc := 34) (a := 363) (e := 12) D rfl rfl rfl (by decide) (s0_363 H) (s1_363 H) ⟨rfl, rfl, rfl⟩ rfl (gy (by decide)) fun q D =>
                j_ast (pc := 35) (L' := [(4, (4, h7 12 363 12)), (0, (4, 303)), (1, (0, x1)), (2, (0, x2)), (3, (0, x3))]) D rfl nl_70 rfl rfl fun D =>
                j_ald (pc := 37) D rfl rfl rfl fun D =>
                j_aldn (pc := 39) D rfl rfl rfl fun D =>
                j_gfc (pc := 40) (a := 303) D rfl rfl (by decide) rfl (s0_303 H) rfl (sf_227_303 H) fun D =>
                j_ildn (pc := 43) D rfl rfl rfl fun D =>
                j_al (pc := 44) (a := 354) (e := 12) D rfl rfl rfl (by decide) (s0_354 H) (s1_354 H) ⟨rfl, rfl, rfl⟩ rfl gn fun qb10 D =>
                j_aldn (pc := 45) D rfl rfl rfl fun D =>
                j_gf (pc := 46) (a := 303) D rfl rfl (by decide) rfl (s0_303 H) rfl fun D =>
                j_ildn (pc := 49) D rfl rfl rfl fun D =>
                j_ivuv (pc := 50) (dd := 133) (a := [(4, h7 12 354 x1.toNat), (0, h7 239 303 0), (0, x3)]) (rest := []) H.2.1 D rfl rfl rfl rfl rfl (fun m14 h11 e1 D =>
                  have T := fj_run_ok _ _ _ _ _ _ H.1 e1
                  have H := shp_st H T
                  j_aldn (pc := 53) D rfl rfl rfl fun D =>
                  j_ic (pc := 54) D rfl fun D =>
                  j_pf (pc := 55) (a := 303) D rfl rfl rfl (s0_303 H) rfl rfl (gy (by decide)) (gy rfl) fun h15 eh15 S D =>
                  have T := fj_hs_ok H.1 S
                  have H := shp_st H T
                  j_ic (pc := 58) D rfl fun D =>
                  j_ist (pc := 59) (L' := [(5, (0, 0)), (4, (4, h7 12 363 12)), (0, (4, 303)), (1, (0, x1)), (2, (0, x2)), (3, (0, x3))]) D rfl nl_70 rfl rfl fun D =>
                  j_ald (pc := 61) D rfl rfl rfl fun D =>
                  have D : fk_D 70 [(63, none, .invokevirtual 536, 3, 0, 147, 5), (66, none, .astore 6, 2, 0, 0, 0)] := fq_of2 cd_70 ow_70 cl_70 rfl (pc := 63) (by decide +kernel)
                  j_ivu (pc := 63) (dd := 147) (a := []) (rest := []) H.2.1 D rfl rfl rfl rfl rfl (fun m19 v17 h16 e1 D =>
                    have T := fj_run_ok _ _ _ _ _ _ H.1 e1
                    have H := shp_st H T
                    j_ast (pc := 66) (L' := [(6, (4, v17)), (5, (0, 0)), (4, (4, h7 12 363 12)), (0, (4, 303)), (1, (0, x1)), (2, (0, x2)), (3, (0, x3))]) D rfl nl_70 rfl rfl fun D =>
                    fk_jump cut_70_68 rfl rfl) (fun m19 q18 h16 e1 =>
                    j_tx (hx_70 _))) (fun m14 q13 h11 e1 =>
                  j_tx (hx_70 _)))) (fun q9 h7 e1 =>
              j_tx (hx_70 _)))) (fun q6 h4 e1 =>
          j_tx (hx_70 _)))) (fun q3 h1 e1 =>
      j_tx (hx_70 _))
/-! 71 StatuteHouse.isTerm(I)Z -/
theorem cd_71 : fi_code 71 = prog_1_method_51_code := rfl
theorem hx_71 : ∀ pc, fi_hat 71 pc = none := fun pc => by unfold fi_hat; rw [show fi_hh 71 = [] from rfl]; rfl
theorem rt_71 : fi_ret 71 = some .boolean := rfl
theorem nl_71 : fi_nl 71 = 2 := rfl
theorem ow_71 : fi_ow 71 = 0 := rfl
theorem cl_71 : fj_cutT.getD 71 [] = [] := rfl
theorem m_71 (d : Nat) (x1 : Int) {h : fi_H} (H : Shp h) : fj_run (d + 1) 71 h [(4, 303), (0, x1)] =
  ca_ (fj_run d 3 h [(1, wI x1), (1, 0), (1, wJ ((wI (h 215 303 0)) - 1))]) 0
    (fun v2 h1 =>
    if v2 = 0 then
      some (.inl (some (0, 0)), h1)
    else
      if 0 ≤ x1 ∧ x1 < 40 then
      if h1 0 (h1 12 320 x1.toNat).toNat 0 = 124 then
      if h1 322 (h1 12 320 x1.toNat).toNat 0 = 0 then
        some (.inl (some (0, 0)), h1)
      else
        some (.inl (some (0, 1)), h1)
      else none
      else none)
    (fun q3 h1 => tx_ q3 h1) := by
  rw [fj_run_eq d (by decide) h [(4, 303), (0, x1)] (Nat.le_of_ble_eq_true (by rw [nl_71]; rfl))]
  show gG (fj_run d) 71 0 [(0, (4, 303)), (1, (0, x1))] [] h = _
  exact
    have D : fk_D 71 [(0, none, .iload_n 1, 1, 0, 0, 0), (1, none, .i2l, 1, 0, 0, 0), (2, none, .lconst 0, 1, 0, 0, 0), (3, none, .aload_n 0, 1, 0, 0, 0), (4, none, .getfield 252, 3, 215, 100, 10), (7, none, .i2l, 1, 0, 0, 0), (8, none, .lconst 1, 1, 0, 0, 0), (9, none, .lsub, 1, 0, 0, 0), (10, none, .invokestatic 46, 3, 3, 3, 1), (13, none, .ifCond .eq 19, 3, 32, 0, 0), (16, none, .aload_n 0, 1, 0, 0, 0), (17, none, .getfield 255, 3, 214, 100, 12), (20, none, .iload_n 1, 1, 0, 0, 0), (21, none, .aaload, 1, 0, 0, 0), (22, none, .getfield 610, 3, 322, (-124), 4), (25, none, .ifCond .eq 7, 3, 32, 0, 0), (28, none, .iconst 1, 1, 0, 1, 0), (29, none, .goto 4, 3, 33, 0, 0)] := fq_of2 cd_71 ow_71 cl_71 rfl (pc := 0) (by decide +kernel)
    j_ildn (pc := 0) D rfl rfl rfl fun D =>
    j_i2l (pc := 1) D rfl fun D =>
    j_c0 (pc := 2) (v := (1, 0)) D rfl rfl (by decide +kernel) fun D =>
    j_aldn (pc := 3) D rfl rfl rfl fun D =>
    j_gf (pc := 4) (a := 303) D rfl rfl (by decide) rfl (s0_303 H) rfl fun D =>
    j_i2l (pc := 7) D rfl fun D =>
    j_c0 (pc := 8) (v := (1, 1)) D rfl rfl (by decide +kernel) fun D =>
    j_lsub (pc := 9) D rfl fun D =>
    j_is (pc := 10) (m := 3) (a := [(1, wI x1), (1, 0), (1, wJ ((wI (h 215 303 0)) - 1))]) (rest := []) D rfl rfl rfl rfl (fun v2 h1 e1 D =>
      have T := fj_run_ok _ _ _ _ _ _ H.1 e1
      have H := shp_st H T
      j_ifeq (pc := 13) D rfl (fun q =>
        have D : fk_D 71 [(32, none, .iconst 0, 1, 0, 0, 0), (33, none, .ireturn, 1, 0, 0, 0)] := fq_of2 cd_71 ow_71 cl_71 rfl (pc := 32) (by decide +kernel)
        j_ic (pc := 32) D rfl fun D =>
        j_zret D rt_71 (gy (by decide))) (fun q D =>
        j_aldn (pc := 16) D rfl rfl rfl fun D =>
        j_gfc (pc := 17) (a := 303) D rfl rfl (by decide) rfl (s0_303 H) rfl (sf_214_303 H) fun D =>
        j_ildn (pc := 20) D rfl rfl rfl fun D =>
        j_al (pc := 21) (a := 320) (e := 12) D rfl rfl rfl (by decide) (s0_320 H) (s1_320 H) ⟨rfl, rfl, rfl⟩ rfl gn fun qb4 D =>
        j_gfo (pc := 22) H.2.1 D rfl rfl rfl rfl fun kc5 D =>
        j_ifeq (pc := 25) D rfl (fun q =>
          have D : fk_D 71 [(32, none, .iconst 0, 1, 0, 0, 0), (33, none, .ireturn, 1, 0, 0, 0)] := fq_of2 cd_71 ow_71 cl_71 rfl (pc := 32) (by decide +kernel)
          j_ic (pc := 32) D rfl fun D =>
          j_zret D rt_71 (gy (by decide))) (fun q D =>
          j_ic (pc := 28) D rfl fun D =>
          j_goto (pc := 29) D rfl <|
          have D : fk_D 71 [(33, none, .ireturn, 1, 0, 0, 0)] := fq_of2 cd_71 ow_71 cl_71 rfl (pc := 33) (by decide +kernel)
          j_zret D rt_71 (gy (by decide))))) (fun q3 h1 e1 =>
      j_tx (hx_71 _))
/-! 72 StatuteHouse$One.atoms()V -/
theorem cd_72 : fi_code 72 = prog_49_method_6_code := rfl
theorem hx_72 : ∀ pc, fi_hat 72 pc = none := fun pc => by unfold fi_hat; rw [show fi_hh 72 = [] from rfl]; rfl
theorem rt_72 : fi_ret 72 = none := rfl
theorem nl_72 : fi_nl 72 = 1 := rfl
theorem ow_72 : fi_ow 72 = 12 := rfl
theorem cl_72 : fj_cutT.getD 72 [] = [] := rfl
theorem m_72 (d : Nat) (x0 : Int) {h : fi_H} (H : Shp h) (hk : h 0 x0.toNat 0 = 112) (ht371 : h 371 x0.toNat 0 = 303) : fj_run (d + 1) 72 h [(4, x0)] =
  if h 340 x0.toNat 0 = 2 then
    dv_ (fi_vt 156 (h 0 (h 370 x0.toNat 0).toNat 0)) fun m4 => cv_ (fj_run d m4 h [(4, h 370 x0.toNat 0)])
      (fun h1 =>
      some (.inl none, h1))
      (fun q3 h1 => tx_ q3 h1)
  else
    cv_ (fj_run d 75 h [(4, x0)])
      (fun h5 =>
      some (.inl none, h5))
      (fun q7 h5 => tx_ q7 h5) := by
  rw [fj_run_eq d (by decide) h [(4, x0)] (Nat.le_of_ble_eq_true (by rw [nl_72]; rfl))]
  show gG (fj_run d) 72 0 [(0, (4, x0))] [] h = _
  exact
    have D : fk_D 72 [(0, none, .aload_n 0, 1, 0, 0, 0), (1, none, .getfield 35, 3, 340, 112, 12), (4, none, .getstatic 86, 3, 4, 2, 0), (7, none, .if_acmp .ne 13, 3, 20, 0, 0), (10, none, .aload_n 0, 1, 0, 0, 0), (11, none, .getfield 21, 3, 370, 112, 12), (14, none, .invokevirtual 109, 3, 0, 156, 0), (17, none, .goto 7, 3, 24, 0, 0)] := fq_of2 cd_72 ow_72 cl_72 rfl (pc := 0) (by decide +kernel)
    j_aldn (pc := 0) D rfl rfl rfl fun D =>
    j_gf (pc := 1) (a := x0.toNat) D rfl rfl (nz_cls H.2.1 hk (by decide)) rfl hk rfl fun D =>
    j_gs (pc := 4) D rfl fun D =>
    j_ane (pc := 7) D rfl (fun q D =>
      j_aldn (pc := 10) D rfl rfl rfl fun D =>
      j_gf (pc := 11) (a := x0.toNat) D rfl rfl (nz_cls H.2.1 hk (by decide)) rfl hk rfl fun D =>
      j_ivuv (pc := 14) (dd := 156) (a := []) (rest := []) H.2.1 D rfl rfl rfl rfl rfl (fun m4 h1 e1 D =>
        have T := fj_run_ok _ _ _ _ _ _ H.1 e1
        have ht371 := fin_st H.1 T.2 hk (by decide) (by decide +kernel) ht371 (by decide)
        have hk := cls_st H.1 T.2 hk (by decide)
        have H := shp_st H T
        j_goto (pc := 17) D rfl <|
        have D : fk_D 72 [(24, none, .return_, 1, 0, 0, 0)] := fq_of2 cd_72 ow_72 cl_72 rfl (pc := 24) (by decide +kernel)
        j_vret D rt_72) (fun m4 q3 h1 e1 =>
        j_tx (hx_72 _))) (fun q =>
      have D : fk_D 72 [(20, none, .aload_n 0, 1, 0, 0, 0), (21, none, .invokespecial 109, 3, 0, 75, 0), (24, none, .return_, 1, 0, 0, 0)] := fq_of2 cd_72 ow_72 cl_72 rfl (pc := 20) (by decide +kernel)
      j_aldn (pc := 20) D rfl rfl rfl fun D =>
      j_spv (pc := 21) (m := 75) (a := []) (rest := []) D rfl rfl rfl rfl (by rw [show h 0 x0.toNat 0 = 112 from hk]; decide) (nz_cls H.2.1 hk (by decide)) (fun h5 e1 D =>
        have T := fj_run_ok _ _ _ _ _ _ H.1 e1
        have ht371 := fin_st H.1 T.2 hk (by decide) (by decide +kernel) ht371 (by decide)
        have hk := cls_st H.1 T.2 hk (by decide)
        have H := shp_st H T
        j_vret D rt_72) (fun q7 h5 e1 =>
        j_tx (hx_72 _)))
/-! 73 StatuteHouse$Two.atoms()V -/
theorem cd_73 : fi_code 73 = prog_64_method_9_code := rfl
theorem hx_73 : ∀ pc, fi_hat 73 pc = none := fun pc => by unfold fi_hat; rw [show fi_hh 73 = [] from rfl]; rfl
theorem rt_73 : fi_ret 73 = none := rfl
theorem nl_73 : fi_nl 73 = 1 := rfl
theorem ow_73 : fi_ow 73 = 25 := rfl
theorem cl_73 : fj_cutT.getD 73 [] = [] := rfl
theorem m_73 (d : Nat) (x0 : Int) {h : fi_H} (H : Shp h) (hk : h 0 x0.toNat 0 = 125) (ht369 : h 369 x0.toNat 0 = 303) : fj_run (d + 1) 73 h [(4, x0)] =
  ca_ (fj_run d 74 h [(4, x0)]) 0
    (fun v2 h1 =>
    if v2 = 0 then
      cv_ (fj_run d 75 h1 [(4, x0)])
        (fun h4 =>
        some (.inl none, h4))
        (fun q6 h4 => tx_ q6 h4)
    else
      dv_ (fi_vt 156 (h1 0 (h1 367 x0.toNat 0).toNat 0)) fun m10 => cv_ (fj_run d m10 h1 [(4, h1 367 x0.toNat 0)])
        (fun h7 =>
        dv_ (fi_vt 156 (h7 0 (h7 368 x0.toNat 0).toNat 0)) fun m14 => cv_ (fj_run d m14 h7 [(4, h7 368 x0.toNat 0)])
          (fun h11 =>
          some (.inl none, h11))
          (fun q13 h11 => tx_ q13 h11))
        (fun q9 h7 => tx_ q9 h7))
    (fun q3 h1 => tx_ q3 h1) := by
  rw [fj_run_eq d (by decide) h [(4, x0)] (Nat.le_of_ble_eq_true (by rw [nl_73]; rfl))]
  show gG (fj_run d) 73 0 [(0, (4, x0))] [] h = _
  exact
    have D : fk_D 73 [(0, none, .aload_n 0, 1, 0, 0, 0), (1, none, .invokevirtual 153, 3, 0, 241, 1), (4, none, .ifCond .ne 8, 3, 12, 0, 0), (7, none, .aload_n 0, 1, 0, 0, 0), (8, none, .invokespecial 157, 3, 0, 75, 0), (11, none, .return_, 1, 0, 0, 0)] := fq_of2 cd_73 ow_73 cl_73 rfl (pc := 0) (by decide +kernel)
    j_aldn (pc := 0) D rfl rfl rfl fun D =>
    j_iv (pc := 1) (m := 74) (dd := 241) (a := []) (rest := []) D rfl rfl rfl rfl rfl (nz_cls H.2.1 hk (by decide)) hk (by decide +kernel) (fun v2 h1 e1 D =>
      have T := fj_run_ok _ _ _ _ _ _ H.1 e1
      have ht369 := fin_st H.1 T.2 hk (by decide) (by decide +kernel) ht369 (by decide)
      have hk := cls_st H.1 T.2 hk (by decide)
      have H := shp_st H T
      j_ifne (pc := 4) D rfl (fun q D =>
        j_aldn (pc := 7) D rfl rfl rfl fun D =>
        j_spv (pc := 8) (m := 75) (a := []) (rest := []) D rfl rfl rfl rfl (by rw [show h1 0 x0.toNat 0 = 125 from hk]; decide) (nz_cls H.2.1 hk (by decide)) (fun h4 e1 D =>
          have T := fj_run_ok _ _ _ _ _ _ H.1 e1
          have ht369 := fin_st H.1 T.2 hk (by decide) (by decide +kernel) ht369 (by decide)
          have hk := cls_st H.1 T.2 hk (by decide)
          have H := shp_st H T
          j_vret D rt_73) (fun q6 h4 e1 =>
          j_tx (hx_73 _))) (fun q =>
        have D : fk_D 73 [(12, none, .aload_n 0, 1, 0, 0, 0), (13, none, .getfield 37, 3, 367, 125, 12), (16, none, .invokevirtual 157, 3, 0, 156, 0), (19, none, .aload_n 0, 1, 0, 0, 0), (20, none, .getfield 41, 3, 368, 125, 12), (23, none, .invokevirtual 157, 3, 0, 156, 0), (26, none, .return_, 1, 0, 0, 0)] := fq_of2 cd_73 ow_73 cl_73 rfl (pc := 12) (by decide +kernel)
        j_aldn (pc := 12) D rfl rfl rfl fun D =>
        j_gf (pc := 13) (a := x0.toNat) D rfl rfl (nz_cls H.2.1 hk (by decide)) rfl hk rfl fun D =>
        j_ivuv (pc := 16) (dd := 156) (a := []) (rest := []) H.2.1 D rfl rfl rfl rfl rfl (fun m10 h7 e1 D =>
          have T := fj_run_ok _ _ _ _ _ _ H.1 e1
          have ht369 := fin_st H.1 T.2 hk (by decide) (by decide +kernel) ht369 (by decide)
          have hk := cls_st H.1 T.2 hk (by decide)
          have H := shp_st H T
          j_aldn (pc := 19) D rfl rfl rfl fun D =>
          j_gf (pc := 20) (a := x0.toNat) D rfl rfl (nz_cls H.2.1 hk (by decide)) rfl hk rfl fun D =>
          j_ivuv (pc := 23) (dd := 156) (a := []) (rest := []) H.2.1 D rfl rfl rfl rfl rfl (fun m14 h11 e1 D =>
            have T := fj_run_ok _ _ _ _ _ _ H.1 e1
            have ht369 := fin_st H.1 T.2 hk (by decide) (by decide +kernel) ht369 (by decide)
            have hk := cls_st H.1 T.2 hk (by decide)
            have H := shp_st H T
            j_vret D rt_73) (fun m14 q13 h11 e1 =>
            j_tx (hx_73 _))) (fun m10 q9 h7 e1 =>
          j_tx (hx_73 _)))) (fun q3 h1 e1 =>
      j_tx (hx_73 _))
/-! 74 StatuteHouse$Two.joins()Z -/
theorem cd_74 : fi_code 74 = prog_64_method_8_code := rfl
theorem hx_74 : ∀ pc, fi_hat 74 pc = none := fun pc => by unfold fi_hat; rw [show fi_hh 74 = [] from rfl]; rfl
theorem rt_74 : fi_ret 74 = some .boolean := rfl
theorem nl_74 : fi_nl 74 = 1 := rfl
theorem ow_74 : fi_ow 74 = 25 := rfl
theorem cl_74 : fj_cutT.getD 74 [] = [] := rfl
theorem m_74 (d : Nat) (x0 : Int) {h : fi_H} (H : Shp h) (hk : h 0 x0.toNat 0 = 125) (ht369 : h 369 x0.toNat 0 = 303) : fj_run (d + 1) 74 h [(4, x0)] =
  if h 366 x0.toNat 0 = 15 then
    some (.inl (some (0, 1)), h)
  else
    if h 366 x0.toNat 0 = 16 then
      some (.inl (some (0, 1)), h)
    else
      some (.inl (some (0, 0)), h) := by
  rw [fj_run_eq d (by decide) h [(4, x0)] (Nat.le_of_ble_eq_true (by rw [nl_74]; rfl))]
  show gG (fj_run d) 74 0 [(0, (4, x0))] [] h = _
  exact
    have D : fk_D 74 [(0, none, .aload_n 0, 1, 0, 0, 0), (1, none, .getfield 33, 3, 366, 125, 12), (4, none, .getstatic 68, 3, 4, 15, 0), (7, none, .if_acmp .eq 13, 3, 20, 0, 0), (10, none, .aload_n 0, 1, 0, 0, 0), (11, none, .getfield 33, 3, 366, 125, 12), (14, none, .getstatic 150, 3, 4, 16, 0), (17, none, .if_acmp .ne 7, 3, 24, 0, 0), (20, none, .iconst 1, 1, 0, 1, 0), (21, none, .goto 4, 3, 25, 0, 0)] := fq_of2 cd_74 ow_74 cl_74 rfl (pc := 0) (by decide +kernel)
    j_aldn (pc := 0) D rfl rfl rfl fun D =>
    j_gf (pc := 1) (a := x0.toNat) D rfl rfl (nz_cls H.2.1 hk (by decide)) rfl hk rfl fun D =>
    j_gs (pc := 4) D rfl fun D =>
    j_aeq (pc := 7) D rfl (fun q =>
      have D : fk_D 74 [(20, none, .iconst 1, 1, 0, 1, 0), (21, none, .goto 4, 3, 25, 0, 0)] := fq_of2 cd_74 ow_74 cl_74 rfl (pc := 20) (by decide +kernel)
      j_ic (pc := 20) D rfl fun D =>
      j_goto (pc := 21) D rfl <|
      have D : fk_D 74 [(25, none, .ireturn, 1, 0, 0, 0)] := fq_of2 cd_74 ow_74 cl_74 rfl (pc := 25) (by decide +kernel)
      j_zret D rt_74 (gy (by decide))) (fun q D =>
      j_aldn (pc := 10) D rfl rfl rfl fun D =>
      j_gf (pc := 11) (a := x0.toNat) D rfl rfl (nz_cls H.2.1 hk (by decide)) rfl hk rfl fun D =>
      j_gs (pc := 14) D rfl fun D =>
      j_ane (pc := 17) D rfl (fun q D =>
        j_ic (pc := 20) D rfl fun D =>
        j_goto (pc := 21) D rfl <|
        have D : fk_D 74 [(25, none, .ireturn, 1, 0, 0, 0)] := fq_of2 cd_74 ow_74 cl_74 rfl (pc := 25) (by decide +kernel)
        j_zret D rt_74 (gy (by decide))) (fun q =>
        have D : fk_D 74 [(24, none, .iconst 0, 1, 0, 0, 0), (25, none, .ireturn, 1, 0, 0, 0)] := fq_of2 cd_74 ow_74 cl_74 rfl (pc := 24) (by decide +kernel)
        j_ic (pc := 24) D rfl fun D =>
        j_zret D rt_74 (gy (by decide))))
/-! 75 StatuteHouse$Part.atoms()V -/
theorem cd_75 : fi_code 75 = prog_50_method_6_code := rfl
theorem hx_75 : ∀ pc, fi_hat 75 pc = none := fun pc => by unfold fi_hat; rw [show fi_hh 75 = [] from rfl]; rfl
theorem rt_75 : fi_ret 75 = none := rfl
theorem nl_75 : fi_nl 75 = 2 := rfl
theorem ow_75 : fi_ow 75 = 66 := rfl
theorem cl_75 : fj_cutT.getD 75 [] = [(2, [0, 1]), (47, [0]), (86, [0])] := rfl
theorem cut_75_2 : fj_cut 75 2 = some [0, 1] := by decide +kernel
noncomputable def c_75_2 (d : Nat) (x0 x1 : Int) (h : fi_H) : fk_R := gG (fj_run d) 75 2 [(0, (4, x0)), (1, (0, x1))] [] h
theorem cut_75_47 : fj_cut 75 47 = some [0] := by decide +kernel
noncomputable def c_75_47 (d : Nat) (x0 : Int) (h : fi_H) : fk_R := gG (fj_run d) 75 47 [(0, (4, x0))] [] h
theorem cut_75_86 : fj_cut 75 86 = some [0] := by decide +kernel
noncomputable def c_75_86 (d : Nat) (x0 : Int) (h : fi_H) : fk_R := gG (fj_run d) 75 86 [(0, (4, x0))] [] h
theorem e_75_2 (d : Nat) (x0 x1 : Int) {h : fi_H} {k0 : Int} (H : Shp h) (hk : h 0 x0.toNat 0 = k0) (hk0 : k0 ≠ 0) (ht343 : h 343 x0.toNat 0 = 303) : c_75_2 d x0 x1 h =
  if fi_in (h 0 x0.toNat 0) 343 = true then
  if x1 < h 275 303 0 then
    if x1 < 8 then
      if fi_in (h 0 x0.toNat 0) 343 = true then
      if 0 ≤ x1 ∧ x1 < 8 then
      dv_ (fi_vt 212 (h 0 (h 12 406 x1.toNat).toNat 0)) fun m5 => ca_ (fj_run d m5 h [(4, h 12 406 x1.toNat), (4, x0)]) 0
        (fun v3 h2 =>
        if v3 = 0 then
          c_75_2 d x0 (wI (x1 + 1)) h2
        else
          if 302 < x0 ∧ fi_in (h2 0 x0.toNat 0) 342 = true ∧ h2 0 x0.toNat 0 < 134 then
          lt_ (fi_upd h2 342 x0.toNat 0 x1) fun h6 =>
          some (.inl none, h6)
          else none)
        (fun q4 h2 => tx_ q4 h2)
      else none
      else none
    else
      c_75_47 d x0 h
  else
    c_75_47 d x0 h
  else none := by
  unfold c_75_2
  exact
    have D : fk_D 75 [(2, some [0, 1], .iload_n 1, 1, 0, 0, 0), (3, none, .aload_n 0, 1, 0, 0, 0), (4, none, .getfield 3, 3, 343, 0, 12), (7, none, .getfield 23, 3, 275, 100, 10), (10, none, .if_icmp .ge 37, 3, 47, 0, 0), (13, none, .iload_n 1, 1, 0, 0, 0), (14, none, .bipush 8, 2, 0, 8, 0), (16, none, .if_icmp .ge 31, 3, 47, 0, 0), (19, none, .aload_n 0, 1, 0, 0, 0), (20, none, .getfield 3, 3, 343, 0, 12), (23, none, .getfield 26, 3, 274, 100, 12), (26, none, .iload_n 1, 1, 0, 0, 0), (27, none, .aaload, 1, 0, 0, 0), (28, none, .aload_n 0, 1, 0, 0, 0), (29, none, .invokevirtual 30, 3, 1, 212, 1), (32, none, .ifCond .eq 9, 3, 41, 0, 0), (35, none, .aload_n 0, 1, 0, 0, 0), (36, none, .iload_n 1, 1, 0, 0, 0), (37, none, .putfield 34, 3, 342, 0, 10), (40, none, .return_, 1, 0, 0, 0)] := fq_of2 cd_75 ow_75 cl_75 rfl (pc := 2) (by decide +kernel)
    j_ildn (pc := 2) D rfl rfl rfl fun D =>
    j_aldn (pc := 3) D rfl rfl rfl fun D =>
    j_gfuc (pc := 4) H.2.1 D rfl rfl ht343 fun q D =>
    j_gf (pc := 7) (a := 303) D rfl rfl (by decide) rfl (s0_303 H) rfl fun D =>
    j_ige (pc := 10) D rfl (fun q D =>
      j_ildn (pc := 13) D rfl rfl rfl fun D =>
      j_bp (pc := 14) D rfl fun D =>
      j_ige (pc := 16) D rfl (fun q D =>
        j_aldn (pc := 19) D rfl rfl rfl fun D =>
        j_gfuc (pc := 20) H.2.1 D rfl rfl ht343 fun q D =>
        j_gfc (pc := 23) (a := 303) D rfl rfl (by decide) rfl (s0_303 H) rfl (sf_274_303 H) fun D =>
        j_ildn (pc := 26) D rfl rfl rfl fun D =>
        j_al (pc := 27) (a := 406) (e := 12) D rfl rfl rfl (by decide) (s0_406 H) (s1_406 H) ⟨rfl, rfl, rfl⟩ rfl gn fun qb1 D =>
        j_aldn (pc := 28) D rfl rfl rfl fun D =>
        j_ivu (pc := 29) (dd := 212) (a := [(4, x0)]) (rest := []) H.2.1 D rfl rfl rfl rfl rfl (fun m5 v3 h2 e1 D =>
          have T := fj_run_ok _ _ _ _ _ _ H.1 e1
          have ht343 := fin_st H.1 T.2 hk hk0 (by decide +kernel) ht343 (by decide)
          have hk := cls_st H.1 T.2 hk hk0
          have H := shp_st H T
          j_ifeq (pc := 32) D rfl (fun q =>
            have D : fk_D 75 [(41, none, .iinc 1 1, 3, 0, 1, 0), (44, none, .goto (-42), 3, 2, 0, 0)] := fq_of2 cd_75 ow_75 cl_75 rfl (pc := 41) (by decide +kernel)
            j_inc (pc := 41) (L' := [(1, (0, wI (x1 + 1))), (0, (4, x0))]) D rfl rfl rfl (by decide +kernel) rfl fun D =>
            j_goto (pc := 44) D rfl <|
            fk_jump cut_75_2 rfl rfl) (fun q D =>
            j_aldn (pc := 35) D rfl rfl rfl fun D =>
            j_ildn (pc := 36) D rfl rfl rfl fun D =>
            j_pfu (pc := 37) (ty := 10) D rfl rfl rfl gn (gy rfl) (gy (fun e => absurd e (by decide))) fun h6 eh6 S D =>
            have T := fj_hs_ok H.1 S
            have ht343 := fin_st H.1 T.2 hk hk0 (by decide +kernel) ht343 (by decide)
            have hk := cls_st H.1 T.2 hk hk0
            have H := shp_st H T
            j_vret D rt_75)) (fun m5 q4 h2 e1 =>
          j_tx (hx_75 _))) (fun q =>
        fk_jump cut_75_47 rfl rfl)) (fun q =>
      fk_jump cut_75_47 rfl rfl)
theorem e_75_47 (d : Nat) (x0 : Int) {h : fi_H} {k0 : Int} (H : Shp h) (hk : h 0 x0.toNat 0 = k0) (hk0 : k0 ≠ 0) (ht343 : h 343 x0.toNat 0 = 303) : c_75_47 d x0 h =
  if fi_in (h 0 x0.toNat 0) 343 = true then
  if 302 < x0 ∧ fi_in (h 0 x0.toNat 0) 342 = true ∧ h 0 x0.toNat 0 < 134 then
  lt_ (fi_upd h 342 x0.toNat 0 (h 275 303 0)) fun h1 =>
  if fi_in (h1 0 x0.toNat 0) 343 = true then
  if h1 275 303 0 < 8 then
    if fi_in (h1 0 x0.toNat 0) 343 = true then
    if fi_in (h1 0 x0.toNat 0) 343 = true then
    if 0 ≤ h1 275 303 0 ∧ h1 275 303 0 < 8 then
    if x0 = 0 ∨ (fi_sup (h1 0 x0.toNat 0)).contains 166 = true then
    lt_ (fi_upd h1 12 406 (h1 275 303 0).toNat x0) fun h2 =>
    c_75_86 d x0 h2
    else none
    else none
    else none
    else none
  else
    c_75_86 d x0 h1
  else none
  else none
  else none := by
  unfold c_75_47
  exact
    have D : fk_D 75 [(47, some [0], .aload_n 0, 1, 0, 0, 0), (48, none, .aload_n 0, 1, 0, 0, 0), (49, none, .getfield 3, 3, 343, 0, 12), (52, none, .getfield 23, 3, 275, 100, 10), (55, none, .putfield 34, 3, 342, 0, 10), (58, none, .aload_n 0, 1, 0, 0, 0), (59, none, .getfield 3, 3, 343, 0, 12), (62, none, .getfield 23, 3, 275, 100, 10), (65, none, .bipush 8, 2, 0, 8, 0), (67, none, .if_icmp .ge 19, 3, 86, 0, 0), (70, none, .aload_n 0, 1, 0, 0, 0), (71, none, .getfield 3, 3, 343, 0, 12), (74, none, .getfield 26, 3, 274, 100, 12), (77, none, .aload_n 0, 1, 0, 0, 0), (78, none, .getfield 3, 3, 343, 0, 12), (81, none, .getfield 23, 3, 275, 100, 10), (84, none, .aload_n 0, 1, 0, 0, 0), (85, none, .aastore, 1, 0, 0, 0)] := fq_of2 cd_75 ow_75 cl_75 rfl (pc := 47) (by decide +kernel)
    j_aldn (pc := 47) D rfl rfl rfl fun D =>
    j_aldn (pc := 48) D rfl rfl rfl fun D =>
    j_gfuc (pc := 49) H.2.1 D rfl rfl ht343 fun q D =>
    j_gf (pc := 52) (a := 303) D rfl rfl (by decide) rfl (s0_303 H) rfl fun D =>
    j_pfu (pc := 55) (ty := 10) D rfl rfl rfl gn (gy rfl) (gy (fun e => absurd e (by decide))) fun h1 eh1 S D =>
    have T := fj_hs_ok H.1 S
    have ht343 := fin_st H.1 T.2 hk hk0 (by decide +kernel) ht343 (by decide)
    have hk := cls_st H.1 T.2 hk hk0
    have H := shp_st H T
    j_aldn (pc := 58) D rfl rfl rfl fun D =>
    j_gfuc (pc := 59) H.2.1 D rfl rfl ht343 fun q D =>
    j_gf (pc := 62) (a := 303) D rfl rfl (by decide) rfl (s0_303 H) rfl fun D =>
    j_bp (pc := 65) D rfl fun D =>
    j_ige (pc := 67) D rfl (fun q D =>
      j_aldn (pc := 70) D rfl rfl rfl fun D =>
      j_gfuc (pc := 71) H.2.1 D rfl rfl ht343 fun q D =>
      j_gfc (pc := 74) (a := 303) D rfl rfl (by decide) rfl (s0_303 H) rfl (sf_274_303 H) fun D =>
      j_aldn (pc := 77) D rfl rfl rfl fun D =>
      j_gfuc (pc := 78) H.2.1 D rfl rfl ht343 fun q D =>
      j_gf (pc := 81) (a := 303) D rfl rfl (by decide) rfl (s0_303 H) rfl fun D =>
      j_aldn (pc := 84) D rfl rfl rfl fun D =>
      j_asr (pc := 85) (a := 406) D rfl rfl (by decide) (s0_406 H) (s1_406 H) ⟨rfl, rfl, rfl⟩ rfl gn gn fun h2 eh2 S qb3 D =>
      have T := fj_hs_ok H.1 S
      have ht343 := fin_st H.1 T.2 hk hk0 (by decide +kernel) ht343 (by decide)
      have hk := cls_st H.1 T.2 hk hk0
      have H := shp_st H T
      fk_jump cut_75_86 rfl rfl) (fun q =>
      fk_jump cut_75_86 rfl rfl)
theorem e_75_86 (d : Nat) (x0 : Int) {h : fi_H} {k0 : Int} (H : Shp h) (hk : h 0 x0.toNat 0 = k0) (hk0 : k0 ≠ 0) (ht343 : h 343 x0.toNat 0 = 303) : c_75_86 d x0 h =
  if fi_in (h 0 x0.toNat 0) 343 = true then
  lt_ (fi_upd h 275 303 0 (wI ((h 275 303 0) + 1))) fun h1 =>
  some (.inl none, h1)
  else none := by
  unfold c_75_86
  exact
    have D : fk_D 75 [(86, some [0], .aload_n 0, 1, 0, 0, 0), (87, none, .getfield 3, 3, 343, 0, 12), (90, none, .dup, 1, 0, 0, 0), (91, none, .getfield 23, 3, 275, 100, 10), (94, none, .iconst 1, 1, 0, 1, 0), (95, none, .iadd, 1, 0, 0, 0), (96, none, .putfield 23, 3, 275, 100, 10), (99, none, .return_, 1, 0, 0, 0)] := fq_of2 cd_75 ow_75 cl_75 rfl (pc := 86) (by decide +kernel)
    j_aldn (pc := 86) D rfl rfl rfl fun D =>
    j_gfuc (pc := 87) H.2.1 D rfl rfl ht343 fun q D =>
    j_sh (pc := 90) D rfl rfl rfl fun D =>
    j_gf (pc := 91) (a := 303) D rfl rfl (by decide) rfl (s0_303 H) rfl fun D =>
    j_ic (pc := 94) D rfl fun D =>
    j_iadd (pc := 95) D rfl fun D =>
    j_pf (pc := 96) (a := 303) D rfl rfl rfl (s0_303 H) rfl rfl (gy (by decide)) (gy rfl) fun h1 eh1 S D =>
    have T := fj_hs_ok H.1 S
    have ht343 := fin_st H.1 T.2 hk hk0 (by decide +kernel) ht343 (by decide)
    have hk := cls_st H.1 T.2 hk hk0
    have H := shp_st H T
    j_vret D rt_75
theorem m_75 (d : Nat) (x0 : Int) {h : fi_H} {k0 : Int} (H : Shp h) (hk : h 0 x0.toNat 0 = k0) (hk0 : k0 ≠ 0) (ht343 : h 343 x0.toNat 0 = 303) : fj_run (d + 1) 75 h [(4, x0)] =
  c_75_2 d x0 0 h := by
  rw [fj_run_eq d (by decide) h [(4, x0)] (Nat.le_of_ble_eq_true (by rw [nl_75]; rfl))]
  show gG (fj_run d) 75 0 [(0, (4, x0))] [] h = _
  exact
    have D : fk_D 75 [(0, none, .iconst 0, 1, 0, 0, 0), (1, none, .istore_n 1, 1, 0, 0, 0)] := fq_of2 cd_75 ow_75 cl_75 rfl (pc := 0) (by decide +kernel)
    j_ic (pc := 0) D rfl fun D =>
    j_istn (pc := 1) (L' := [(1, (0, 0)), (0, (4, x0))]) D rfl nl_75 rfl rfl fun D =>
    fk_jump cut_75_2 rfl rfl
/-! 76 StatuteHouse.stands(LStatuteHouse$Sight;LStatuteHouse$Rule;II)Z -/
theorem cd_76 : fi_code 76 = prog_1_method_50_code := rfl
theorem hx_76 : ∀ pc, fi_hat 76 pc = none := fun pc => by unfold fi_hat; rw [show fi_hh 76 = [] from rfl]; rfl
theorem rt_76 : fi_ret 76 = some .boolean := rfl
theorem nl_76 : fi_nl 76 = 7 := rfl
theorem ow_76 : fi_ow 76 = 0 := rfl
theorem cl_76 : fj_cutT.getD 76 [] = [(28, [0, 1, 2, 3, 4, 5, 6]), (61, [0, 1, 2, 3, 4, 6]), (90, [2, 3, 5]), (95, [2, 3, 5])] := rfl
theorem cut_76_28 : fj_cut 76 28 = some [0, 1, 2, 3, 4, 5, 6] := by decide +kernel
noncomputable def c_76_28 (d : Nat) (x1 x2 x3 x4 x5 x6 : Int) (h : fi_H) : fk_R := gG (fj_run d) 76 28 [(0, (4, 303)), (1, (4, x1)), (2, (4, x2)), (3, (0, x3)), (4, (0, x4)), (5, (0, x5)), (6, (0, x6))] [] h
theorem cut_76_61 : fj_cut 76 61 = some [0, 1, 2, 3, 4, 6] := by decide +kernel
noncomputable def c_76_61 (d : Nat) (x1 x2 x3 x4 x6 s0 s1 : Int) (h : fi_H) : fk_R := gG (fj_run d) 76 61 [(0, (4, 303)), (1, (4, x1)), (2, (4, x2)), (3, (0, x3)), (4, (0, x4)), (6, (0, x6))] [(0, s1), (0, s0)] h
theorem cut_76_90 : fj_cut 76 90 = some [2, 3, 5] := by decide +kernel
noncomputable def c_76_90 (d : Nat) (x2 x3 x5 s0 : Int) (h : fi_H) : fk_R := gG (fj_run d) 76 90 [(2, (4, x2)), (3, (0, x3)), (5, (0, x5))] [(4, s0)] h
theorem cut_76_95 : fj_cut 76 95 = some [2, 3, 5] := by decide +kernel
noncomputable def c_76_95 (d : Nat) (x2 x3 x5 s0 s1 : Int) (h : fi_H) : fk_R := gG (fj_run d) 76 95 [(2, (4, x2)), (3, (0, x3)), (5, (0, x5))] [(0, s1), (4, s0)] h
theorem e_76_28 (d : Nat) (x1 x2 x3 x4 x5 x6 : Int) {h : fi_H} (H : Shp h) : c_76_28 d x1 x2 x3 x4 x5 x6 h =
  if x6 = (-1) then
    if h 277 303 0 = 0 then
      if 1 < x5 then
        c_76_90 d x2 x3 x5 303 h
      else
        c_76_95 d x2 x3 x5 303 0 h
    else
      c_76_90 d x2 x3 x5 303 h
  else
    if 0 ≤ x6 ∧ x6 < 500 then
    ca_ (fj_run d 76 h [(4, 303), (4, x1), (4, h 12 355 x6.toNat), (0, x3), (0, wI (x4 + 1))]) 0
      (fun v3 h2 =>
      if v3 = 0 then
        c_76_61 d x1 x2 x3 x4 x6 x5 0 h2
      else
        c_76_61 d x1 x2 x3 x4 x6 x5 1 h2)
      (fun q4 h2 => tx_ q4 h2)
    else none := by
  unfold c_76_28
  exact
    have D : fk_D 76 [(28, some [0, 1, 2, 3, 4, 5, 6], .iload 6, 2, 0, 0, 0), (30, none, .iconst (-1), 1, 0, (-1), 0), (31, none, .if_icmp .eq 45, 3, 76, 0, 0), (34, none, .iload 5, 2, 0, 0, 0), (36, none, .aload_n 0, 1, 0, 0, 0), (37, none, .aload_n 1, 1, 0, 0, 0), (38, none, .aload_n 0, 1, 0, 0, 0), (39, none, .getfield 360, 3, 228, 100, 12), (42, none, .iload 6, 2, 0, 0, 0), (44, none, .aaload, 1, 0, 0, 0), (45, none, .iload_n 3, 1, 0, 0, 0), (46, none, .iload 4, 2, 0, 0, 0), (48, none, .iconst 1, 1, 0, 1, 0), (49, none, .iadd, 1, 0, 0, 0), (50, none, .invokevirtual 601, 3, 4, 153, 1), (53, none, .ifCond .eq 7, 3, 60, 0, 0), (56, none, .iconst 1, 1, 0, 1, 0), (57, none, .goto 4, 3, 61, 0, 0)] := fq_of2 cd_76 ow_76 cl_76 rfl (pc := 28) (by decide +kernel)
    j_ild (pc := 28) D rfl rfl rfl fun D =>
    j_ic (pc := 30) D rfl fun D =>
    j_ieq (pc := 31) D rfl (fun q =>
      have D : fk_D 76 [(76, none, .aload_n 0, 1, 0, 0, 0), (77, none, .aload_n 0, 1, 0, 0, 0), (78, none, .getfield 604, 3, 277, 100, 4), (81, none, .ifCond .ne 9, 3, 90, 0, 0), (84, none, .iload 5, 2, 0, 0, 0), (86, none, .iconst 1, 1, 0, 1, 0), (87, none, .if_icmp .le 7, 3, 94, 0, 0)] := fq_of2 cd_76 ow_76 cl_76 rfl (pc := 76) (by decide +kernel)
      j_aldn (pc := 76) D rfl rfl rfl fun D =>
      j_aldn (pc := 77) D rfl rfl rfl fun D =>
      j_gf (pc := 78) (a := 303) D rfl rfl (by decide) rfl (s0_303 H) rfl fun D =>
      j_ifne (pc := 81) D rfl (fun q D =>
        j_ild (pc := 84) D rfl rfl rfl fun D =>
        j_ic (pc := 86) D rfl fun D =>
        j_ile (pc := 87) D rfl (fun q D =>
          fk_jump cut_76_90 rfl rfl) (fun q =>
          have D : fk_D 76 [(94, none, .iconst 0, 1, 0, 0, 0)] := fq_of2 cd_76 ow_76 cl_76 rfl (pc := 94) (by decide +kernel)
          j_ic (pc := 94) D rfl fun D =>
          fk_jump cut_76_95 rfl rfl)) (fun q =>
        fk_jump cut_76_90 rfl rfl)) (fun q D =>
      j_ild (pc := 34) D rfl rfl rfl fun D =>
      j_aldn (pc := 36) D rfl rfl rfl fun D =>
      j_aldn (pc := 37) D rfl rfl rfl fun D =>
      j_aldn (pc := 38) D rfl rfl rfl fun D =>
      j_gfc (pc := 39) (a := 303) D rfl rfl (by decide) rfl (s0_303 H) rfl (sf_228_303 H) fun D =>
      j_ild (pc := 42) D rfl rfl rfl fun D =>
      j_al (pc := 44) (a := 355) (e := 12) D rfl rfl rfl (by decide) (s0_355 H) (s1_355 H) ⟨rfl, rfl, rfl⟩ rfl gn fun qb1 D =>
      j_ildn (pc := 45) D rfl rfl rfl fun D =>
      j_ild (pc := 46) D rfl rfl rfl fun D =>
      j_ic (pc := 48) D rfl fun D =>
      j_iadd (pc := 49) D rfl fun D =>
      j_iv (pc := 50) (m := 76) (dd := 153) (a := [(4, x1), (4, h 12 355 x6.toNat), (0, x3), (0, wI (x4 + 1))]) (rest := [(0, x5)]) D rfl rfl rfl rfl rfl (by decide) (s0_303 H) (by decide +kernel) (fun v3 h2 e1 D =>
        have T := fj_run_ok _ _ _ _ _ _ H.1 e1
        have H := shp_st H T
        j_ifeq (pc := 53) D rfl (fun q =>
          have D : fk_D 76 [(60, none, .iconst 0, 1, 0, 0, 0)] := fq_of2 cd_76 ow_76 cl_76 rfl (pc := 60) (by decide +kernel)
          j_ic (pc := 60) D rfl fun D =>
          fk_jump cut_76_61 rfl rfl) (fun q D =>
          j_ic (pc := 56) D rfl fun D =>
          j_goto (pc := 57) D rfl <|
          fk_jump cut_76_61 rfl rfl)) (fun q4 h2 e1 =>
        j_tx (hx_76 _)))
theorem e_76_61 (d : Nat) (x1 x2 x3 x4 x6 s0 s1 : Int) {h : fi_H} (H : Shp h) : c_76_61 d x1 x2 x3 x4 x6 s0 s1 h =
  if h 0 x1.toNat 0 = 120 then
  if h 0 (h 203 x1.toNat 0).toNat 0 = 9 ∧ 0 ≤ x6 ∧ x6 < h 1 (h 203 x1.toNat 0).toNat 0 then
  c_76_28 d x1 x2 x3 x4 (wI (s0 + s1)) (h 9 (h 203 x1.toNat 0).toNat x6.toNat) h
  else none
  else none := by
  unfold c_76_61
  exact
    have D : fk_D 76 [(61, some [0, 1, 2, 3, 4, 6], .iadd, 1, 0, 0, 0), (62, none, .istore 5, 2, 0, 0, 0), (64, none, .aload_n 1, 1, 0, 0, 0), (65, none, .getfield 371, 3, 203, (-120), 12), (68, none, .iload 6, 2, 0, 0, 0), (70, none, .saload, 1, 0, 0, 0), (71, none, .istore 6, 2, 0, 0, 0), (73, none, .goto (-45), 3, 28, 0, 0)] := fq_of2 cd_76 ow_76 cl_76 rfl (pc := 61) (by decide +kernel)
    j_iadd (pc := 61) D rfl fun D =>
    j_ist (pc := 62) (L' := [(5, (0, wI (s0 + s1))), (0, (4, 303)), (1, (4, x1)), (2, (4, x2)), (3, (0, x3)), (4, (0, x4)), (6, (0, x6))]) D rfl nl_76 rfl rfl fun D =>
    j_aldn (pc := 64) D rfl rfl rfl fun D =>
    j_gfo (pc := 65) H.2.1 D rfl rfl rfl rfl fun kc1 D =>
    j_ild (pc := 68) D rfl rfl rfl fun D =>
    j_alp (pc := 70) (e := 9) H.2.1 D rfl rfl ⟨rfl, rfl, rfl⟩ rfl fun q q2 D =>
    j_ist (pc := 71) (L' := [(6, (0, h 9 (h 203 x1.toNat 0).toNat x6.toNat)), (5, (0, wI (s0 + s1))), (0, (4, 303)), (1, (4, x1)), (2, (4, x2)), (3, (0, x3)), (4, (0, x4))]) D rfl nl_76 rfl rfl fun D =>
    j_goto (pc := 73) D rfl <|
    fk_jump cut_76_28 rfl rfl
theorem e_76_90 (d : Nat) (x2 x3 x5 s0 : Int) {h : fi_H} (H : Shp h) : c_76_90 d x2 x3 x5 s0 h =
  c_76_95 d x2 x3 x5 s0 1 h := by
  unfold c_76_90
  exact
    have D : fk_D 76 [(90, some [2, 3, 5], .iconst 1, 1, 0, 1, 0), (91, none, .goto 4, 3, 95, 0, 0)] := fq_of2 cd_76 ow_76 cl_76 rfl (pc := 90) (by decide +kernel)
    j_ic (pc := 90) D rfl fun D =>
    j_goto (pc := 91) D rfl <|
    fk_jump cut_76_95 rfl rfl
theorem e_76_95 (d : Nat) (x2 x3 x5 s0 s1 : Int) {h : fi_H} (H : Shp h) : c_76_95 d x2 x3 x5 s0 s1 h =
  if h 0 s0.toNat 0 = 100 then
  if 302 < s0 then
  if fi_rg 4 s1 = true then
  lt_ (fi_upd h 277 s0.toNat 0 s1) fun h1 =>
  if 0 < x5 then
    some (.inl (some (0, 1)), h1)
  else
    if h1 0 x2.toNat 0 = 117 then
    if h1 141 x2.toNat 0 = 0 then
      some (.inl (some (0, 1)), h1)
    else
      dv_ (fi_vt 154 (h1 0 (h1 141 x2.toNat 0).toNat 0)) fun m7 => ca_ (fj_run d m7 h1 [(4, h1 141 x2.toNat 0), (0, x3)]) 0
        (fun v5 h4 =>
        if v5 = 0 then
          some (.inl (some (0, 0)), h4)
        else
          some (.inl (some (0, 1)), h4))
        (fun q6 h4 => tx_ q6 h4)
    else none
  else none
  else none
  else none := by
  unfold c_76_95
  exact
    have D : fk_D 76 [(95, some [2, 3, 5], .putfield 604, 3, 277, (-100), 4), (98, none, .iload 5, 2, 0, 0, 0), (100, none, .ifCond .gt 21, 3, 121, 0, 0), (103, none, .aload_n 2, 1, 0, 0, 0), (104, none, .getfield 393, 3, 141, (-117), 12), (107, none, .ifnull 14, 3, 121, 0, 0), (110, none, .aload_n 2, 1, 0, 0, 0), (111, none, .getfield 393, 3, 141, 117, 12), (114, none, .iload_n 3, 1, 0, 0, 0), (115, none, .invokevirtual 607, 3, 1, 154, 1), (118, none, .ifCond .eq 7, 3, 125, 0, 0), (121, none, .iconst 1, 1, 0, 1, 0), (122, none, .goto 4, 3, 126, 0, 0)] := fq_of2 cd_76 ow_76 cl_76 rfl (pc := 95) (by decide +kernel)
    j_pfo (pc := 95) D rfl rfl rfl rfl rfl gn gn gn fun h1 eh1 S kc2 D =>
    have T := fj_hs_ok H.1 S
    have H := shp_st H T
    j_ild (pc := 98) D rfl rfl rfl fun D =>
    j_ifgt (pc := 100) D rfl (fun q =>
      have D : fk_D 76 [(121, none, .iconst 1, 1, 0, 1, 0), (122, none, .goto 4, 3, 126, 0, 0)] := fq_of2 cd_76 ow_76 cl_76 rfl (pc := 121) (by decide +kernel)
      j_ic (pc := 121) D rfl fun D =>
      j_goto (pc := 122) D rfl <|
      have D : fk_D 76 [(126, none, .ireturn, 1, 0, 0, 0)] := fq_of2 cd_76 ow_76 cl_76 rfl (pc := 126) (by decide +kernel)
      j_zret D rt_76 (gy (by decide))) (fun q D =>
      j_aldn (pc := 103) D rfl rfl rfl fun D =>
      j_gfo (pc := 104) H.2.1 D rfl rfl rfl rfl fun kc3 D =>
      j_null (pc := 107) D rfl (fun q =>
        have D : fk_D 76 [(121, none, .iconst 1, 1, 0, 1, 0), (122, none, .goto 4, 3, 126, 0, 0)] := fq_of2 cd_76 ow_76 cl_76 rfl (pc := 121) (by decide +kernel)
        j_ic (pc := 121) D rfl fun D =>
        j_goto (pc := 122) D rfl <|
        have D : fk_D 76 [(126, none, .ireturn, 1, 0, 0, 0)] := fq_of2 cd_76 ow_76 cl_76 rfl (pc := 126) (by decide +kernel)
        j_zret D rt_76 (gy (by decide))) (fun q D =>
        j_aldn (pc := 110) D rfl rfl rfl fun D =>
        j_gf (pc := 111) (a := x2.toNat) D rfl rfl (nz_cls H.2.1 kc3 (by decide)) rfl kc3 rfl fun D =>
        j_ildn (pc := 114) D rfl rfl rfl fun D =>
        j_ivu (pc := 115) (dd := 154) (a := [(0, x3)]) (rest := []) H.2.1 D rfl rfl rfl rfl rfl (fun m7 v5 h4 e1 D =>
          have T := fj_run_ok _ _ _ _ _ _ H.1 e1
          have kc3 := cls_st H.1 T.2 kc3 (by decide)
          have H := shp_st H T
          j_ifeq (pc := 118) D rfl (fun q =>
            have D : fk_D 76 [(125, none, .iconst 0, 1, 0, 0, 0), (126, none, .ireturn, 1, 0, 0, 0)] := fq_of2 cd_76 ow_76 cl_76 rfl (pc := 125) (by decide +kernel)
            j_ic (pc := 125) D rfl fun D =>
            j_zret D rt_76 (gy (by decide))) (fun q D =>
            j_ic (pc := 121) D rfl fun D =>
            j_goto (pc := 122) D rfl <|
            have D : fk_D 76 [(126, none, .ireturn, 1, 0, 0, 0)] := fq_of2 cd_76 ow_76 cl_76 rfl (pc := 126) (by decide +kernel)
            j_zret D rt_76 (gy (by decide)))) (fun m7 q6 h4 e1 =>
          j_tx (hx_76 _))))
theorem m_76 (d : Nat) (x1 x2 x3 x4 : Int) {h : fi_H} (H : Shp h) : fj_run (d + 1) 76 h [(4, 303), (4, x1), (4, x2), (0, x3), (0, x4)] =
  if 6 < x4 then
    lt_ (fi_upd h 278 303 0 1) fun h1 =>
    some (.inl (some (0, 0)), h1)
  else
    if h 0 x1.toNat 0 = 120 then
    if h 0 x2.toNat 0 = 117 then
    if h 0 (h 204 x1.toNat 0).toNat 0 = 9 ∧ 0 ≤ h 134 x2.toNat 0 ∧ h 134 x2.toNat 0 < h 1 (h 204 x1.toNat 0).toNat 0 then
    lt_ (h 9 (h 204 x1.toNat 0).toNat (h 134 x2.toNat 0).toNat) fun y4 =>
    c_76_28 d x1 x2 x3 x4 0 y4 h
    else none
    else none
    else none := by
  rw [fj_run_eq d (by decide) h [(4, 303), (4, x1), (4, x2), (0, x3), (0, x4)] (Nat.le_of_ble_eq_true (by rw [nl_76]; rfl))]
  show gG (fj_run d) 76 0 [(0, (4, 303)), (1, (4, x1)), (2, (4, x2)), (3, (0, x3)), (4, (0, x4))] [] h = _
  exact
    have D : fk_D 76 [(0, none, .iload 4, 2, 0, 0, 0), (2, none, .bipush 6, 2, 0, 6, 0), (4, none, .if_icmp .le 10, 3, 14, 0, 0), (7, none, .aload_n 0, 1, 0, 0, 0), (8, none, .iconst 1, 1, 0, 1, 0), (9, none, .putfield 598, 3, 278, 100, 4), (12, none, .iconst 0, 1, 0, 0, 0), (13, none, .ireturn, 1, 0, 0, 0)] := fq_of2 cd_76 ow_76 cl_76 rfl (pc := 0) (by decide +kernel)
    j_ild (pc := 0) D rfl rfl rfl fun D =>
    j_bp (pc := 2) D rfl fun D =>
    j_ile (pc := 4) D rfl (fun q D =>
      j_aldn (pc := 7) D rfl rfl rfl fun D =>
      j_ic (pc := 8) D rfl fun D =>
      j_pf (pc := 9) (a := 303) D rfl rfl rfl (s0_303 H) rfl rfl (gy (by decide)) (gy (by decide)) fun h1 eh1 S D =>
      have T := fj_hs_ok H.1 S
      have H := shp_st H T
      j_ic (pc := 12) D rfl fun D =>
      j_zret D rt_76 (gy (by decide))) (fun q =>
      have D : fk_D 76 [(14, none, .iconst 0, 1, 0, 0, 0), (15, none, .istore 5, 2, 0, 0, 0), (17, none, .aload_n 1, 1, 0, 0, 0), (18, none, .getfield 387, 3, 204, (-120), 12), (21, none, .aload_n 2, 1, 0, 0, 0), (22, none, .getfield 390, 3, 134, (-117), 10), (25, none, .saload, 1, 0, 0, 0), (26, none, .istore 6, 2, 0, 0, 0)] := fq_of2 cd_76 ow_76 cl_76 rfl (pc := 14) (by decide +kernel)
      j_ic (pc := 14) D rfl fun D =>
      j_ist (pc := 15) (L' := [(5, (0, 0)), (0, (4, 303)), (1, (4, x1)), (2, (4, x2)), (3, (0, x3)), (4, (0, x4))]) D rfl nl_76 rfl rfl fun D =>
      j_aldn (pc := 17) D rfl rfl rfl fun D =>
      j_gfo (pc := 18) H.2.1 D rfl rfl rfl rfl fun kc2 D =>
      j_aldn (pc := 21) D rfl rfl rfl fun D =>
      j_gfo (pc := 22) H.2.1 D rfl rfl rfl rfl fun kc3 D =>
      j_alp (pc := 25) (e := 9) H.2.1 D rfl rfl ⟨rfl, rfl, rfl⟩ rfl fun q q2 D =>
      j_stl (pc := 26) (L' := fun y4 => [(6, (0, y4)), (5, (0, 0)), (0, (4, 303)), (1, (4, x1)), (2, (4, x2)), (3, (0, x3)), (4, (0, x4))]) D rfl ⟨rfl, rfl, rfl, rfl⟩ nl_76 rfl (fun _ => rfl) fun y4 ey4 D =>
      fk_jump cut_76_28 rfl rfl)
/-! 77 StatuteHouse$One.isTrue(I)Z -/
theorem cd_77 : fi_code 77 = prog_49_method_7_code := rfl
theorem hx_77 : ∀ pc, fi_hat 77 pc = none := fun pc => by unfold fi_hat; rw [show fi_hh 77 = [] from rfl]; rfl
theorem rt_77 : fi_ret 77 = some .boolean := rfl
theorem nl_77 : fi_nl 77 = 2 := rfl
theorem ow_77 : fi_ow 77 = 12 := rfl
theorem cl_77 : fj_cutT.getD 77 [] = [] := rfl
theorem m_77 (d : Nat) (x0 x1 : Int) {h : fi_H} (H : Shp h) (hk : h 0 x0.toNat 0 = 112) (ht371 : h 371 x0.toNat 0 = 303) : fj_run (d + 1) 77 h [(4, x0), (0, x1)] =
  dv_ (fi_vt 154 (h 0 (h 370 x0.toNat 0).toNat 0)) fun m4 => ca_ (fj_run d m4 h [(4, h 370 x0.toNat 0), (0, x1)]) 0
    (fun v2 h1 =>
    if v2 = 0 then
      some (.inl (some (0, 1)), h1)
    else
      some (.inl (some (0, 0)), h1))
    (fun q3 h1 => tx_ q3 h1) := by
  rw [fj_run_eq d (by decide) h [(4, x0), (0, x1)] (Nat.le_of_ble_eq_true (by rw [nl_77]; rfl))]
  show gG (fj_run d) 77 0 [(0, (4, x0)), (1, (0, x1))] [] h = _
  exact
    have D : fk_D 77 [(0, none, .aload_n 0, 1, 0, 0, 0), (1, none, .getfield 21, 3, 370, 112, 12), (4, none, .iload_n 1, 1, 0, 0, 0), (5, none, .invokevirtual 112, 3, 1, 154, 1), (8, none, .ifCond .ne 7, 3, 15, 0, 0), (11, none, .iconst 1, 1, 0, 1, 0), (12, none, .goto 4, 3, 16, 0, 0)] := fq_of2 cd_77 ow_77 cl_77 rfl (pc := 0) (by decide +kernel)
    j_aldn (pc := 0) D rfl rfl rfl fun D =>
    j_gf (pc := 1) (a := x0.toNat) D rfl rfl (nz_cls H.2.1 hk (by decide)) rfl hk rfl fun D =>
    j_ildn (pc := 4) D rfl rfl rfl fun D =>
    j_ivu (pc := 5) (dd := 154) (a := [(0, x1)]) (rest := []) H.2.1 D rfl rfl rfl rfl rfl (fun m4 v2 h1 e1 D =>
      have T := fj_run_ok _ _ _ _ _ _ H.1 e1
      have ht371 := fin_st H.1 T.2 hk (by decide) (by decide +kernel) ht371 (by decide)
      have hk := cls_st H.1 T.2 hk (by decide)
      have H := shp_st H T
      j_ifne (pc := 8) D rfl (fun q D =>
        j_ic (pc := 11) D rfl fun D =>
        j_goto (pc := 12) D rfl <|
        have D : fk_D 77 [(16, none, .ireturn, 1, 0, 0, 0)] := fq_of2 cd_77 ow_77 cl_77 rfl (pc := 16) (by decide +kernel)
        j_zret D rt_77 (gy (by decide))) (fun q =>
        have D : fk_D 77 [(15, none, .iconst 0, 1, 0, 0, 0), (16, none, .ireturn, 1, 0, 0, 0)] := fq_of2 cd_77 ow_77 cl_77 rfl (pc := 15) (by decide +kernel)
        j_ic (pc := 15) D rfl fun D =>
        j_zret D rt_77 (gy (by decide)))) (fun m4 q3 h1 e1 =>
      j_tx (hx_77 _))
/-! 78 StatuteHouse$Two.isTrue(I)Z -/
theorem cd_78 : fi_code 78 = prog_64_method_10_code := rfl
theorem hx_78 : ∀ pc, fi_hat 78 pc = none := fun pc => by unfold fi_hat; rw [show fi_hh 78 = [] from rfl]; rfl
theorem rt_78 : fi_ret 78 = some .boolean := rfl
theorem nl_78 : fi_nl 78 = 2 := rfl
theorem ow_78 : fi_ow 78 = 25 := rfl
theorem cl_78 : fj_cutT.getD 78 [] = [] := rfl
theorem m_78 (d : Nat) (x0 x1 : Int) {h : fi_H} (H : Shp h) (hk : h 0 x0.toNat 0 = 125) (ht369 : h 369 x0.toNat 0 = 303) : fj_run (d + 1) 78 h [(4, x0), (0, x1)] =
  ca_ (fj_run d 74 h [(4, x0)]) 0
    (fun v2 h1 =>
    if v2 = 0 then
      ca_ (fj_run d 79 h1 [(4, x0), (0, x1)]) 0
        (fun v5 h4 =>
        if v5 = 0 ∨ v5 = 1 then some (.inl (some (0, v5)), h4) else none)
        (fun q6 h4 => tx_ q6 h4)
    else
      if h1 366 x0.toNat 0 = 15 then
        dv_ (fi_vt 154 (h1 0 (h1 367 x0.toNat 0).toNat 0)) fun m10 => ca_ (fj_run d m10 h1 [(4, h1 367 x0.toNat 0), (0, x1)]) 0
          (fun v8 h7 =>
          if v8 = 0 then
            dv_ (fi_vt 154 (h7 0 (h7 368 x0.toNat 0).toNat 0)) fun m14 => ca_ (fj_run d m14 h7 [(4, h7 368 x0.toNat 0), (0, x1)]) 0
              (fun v12 h11 =>
              if v12 = 0 then
                some (.inl (some (0, 0)), h11)
              else
                some (.inl (some (0, 1)), h11))
              (fun q13 h11 => tx_ q13 h11)
          else
            some (.inl (some (0, 1)), h7))
          (fun q9 h7 => tx_ q9 h7)
      else
        dv_ (fi_vt 154 (h1 0 (h1 367 x0.toNat 0).toNat 0)) fun m18 => ca_ (fj_run d m18 h1 [(4, h1 367 x0.toNat 0), (0, x1)]) 0
          (fun v16 h15 =>
          if v16 = 0 then
            some (.inl (some (0, 0)), h15)
          else
            dv_ (fi_vt 154 (h15 0 (h15 368 x0.toNat 0).toNat 0)) fun m22 => ca_ (fj_run d m22 h15 [(4, h15 368 x0.toNat 0), (0, x1)]) 0
              (fun v20 h19 =>
              if v20 = 0 then
                some (.inl (some (0, 0)), h19)
              else
                some (.inl (some (0, 1)), h19))
              (fun q21 h19 => tx_ q21 h19))
          (fun q17 h15 => tx_ q17 h15))
    (fun q3 h1 => tx_ q3 h1) := by
  rw [fj_run_eq d (by decide) h [(4, x0), (0, x1)] (Nat.le_of_ble_eq_true (by rw [nl_78]; rfl))]
  show gG (fj_run d) 78 0 [(0, (4, x0)), (1, (0, x1))] [] h = _
  exact
    have D : fk_D 78 [(0, none, .aload_n 0, 1, 0, 0, 0), (1, none, .invokevirtual 153, 3, 0, 241, 1), (4, none, .ifCond .eq 73, 3, 77, 0, 0), (7, none, .aload_n 0, 1, 0, 0, 0), (8, none, .getfield 33, 3, 366, 125, 12), (11, none, .getstatic 68, 3, 4, 15, 0), (14, none, .if_acmp .ne 33, 3, 47, 0, 0), (17, none, .aload_n 0, 1, 0, 0, 0), (18, none, .getfield 37, 3, 367, 125, 12), (21, none, .iload_n 1, 1, 0, 0, 0), (22, none, .invokevirtual 160, 3, 1, 154, 1), (25, none, .ifCond .ne 14, 3, 39, 0, 0), (28, none, .aload_n 0, 1, 0, 0, 0), (29, none, .getfield 41, 3, 368, 125, 12), (32, none, .iload_n 1, 1, 0, 0, 0), (33, none, .invokevirtual 160, 3, 1, 154, 1), (36, none, .ifCond .eq 7, 3, 43, 0, 0), (39, none, .iconst 1, 1, 0, 1, 0), (40, none, .goto 42, 3, 82, 0, 0)] := fq_of2 cd_78 ow_78 cl_78 rfl (pc := 0) (by decide +kernel)
    j_aldn (pc := 0) D rfl rfl rfl fun D =>
    j_iv (pc := 1) (m := 74) (dd := 241) (a := []) (rest := []) D rfl rfl rfl rfl rfl (nz_cls H.2.1 hk (by decide)) hk (by decide +kernel) (fun v2 h1 e1 D =>
      have T := fj_run_ok _ _ _ _ _ _ H.1 e1
      have ht369 := fin_st H.1 T.2 hk (by decide) (by decide +kernel) ht369 (by decide)
      have hk := cls_st H.1 T.2 hk (by decide)
      have H := shp_st H T
      j_ifeq (pc := 4) D rfl (fun q =>
        have D : fk_D 78 [(77, none, .aload_n 0, 1, 0, 0, 0), (78, none, .iload_n 1, 1, 0, 0, 0), (79, none, .invokespecial 160, 3, 1, 79, 1), (82, none, .ireturn, 1, 0, 0, 0)] := fq_of2 cd_78 ow_78 cl_78 rfl (pc := 77) (by decide +kernel)
        j_aldn (pc := 77) D rfl rfl rfl fun D =>
        j_ildn (pc := 78) D rfl rfl rfl fun D =>
        j_sp_ (pc := 79) (m := 79) (a := [(0, x1)]) (rest := []) D rfl rfl rfl rfl (by rw [show h1 0 x0.toNat 0 = 125 from hk]; decide) (nz_cls H.2.1 hk (by decide)) (fun v5 h4 e1 D =>
          have T := fj_run_ok _ _ _ _ _ _ H.1 e1
          have ht369 := fin_st H.1 T.2 hk (by decide) (by decide +kernel) ht369 (by decide)
          have hk := cls_st H.1 T.2 hk (by decide)
          have H := shp_st H T
          j_zret D rt_78 gn) (fun q6 h4 e1 =>
          j_tx (hx_78 _))) (fun q D =>
        j_aldn (pc := 7) D rfl rfl rfl fun D =>
        j_gf (pc := 8) (a := x0.toNat) D rfl rfl (nz_cls H.2.1 hk (by decide)) rfl hk rfl fun D =>
        j_gs (pc := 11) D rfl fun D =>
        j_ane (pc := 14) D rfl (fun q D =>
          j_aldn (pc := 17) D rfl rfl rfl fun D =>
          j_gf (pc := 18) (a := x0.toNat) D rfl rfl (nz_cls H.2.1 hk (by decide)) rfl hk rfl fun D =>
          j_ildn (pc := 21) D rfl rfl rfl fun D =>
          j_ivu (pc := 22) (dd := 154) (a := [(0, x1)]) (rest := []) H.2.1 D rfl rfl rfl rfl rfl (fun m10 v8 h7 e1 D =>
            have T := fj_run_ok _ _ _ _ _ _ H.1 e1
            have ht369 := fin_st H.1 T.2 hk (by decide) (by decide +kernel) ht369 (by decide)
            have hk := cls_st H.1 T.2 hk (by decide)
            have H := shp_st H T
            j_ifne (pc := 25) D rfl (fun q D =>
              j_aldn (pc := 28) D rfl rfl rfl fun D =>
              j_gf (pc := 29) (a := x0.toNat) D rfl rfl (nz_cls H.2.1 hk (by decide)) rfl hk rfl fun D =>
              j_ildn (pc := 32) D rfl rfl rfl fun D =>
              j_ivu (pc := 33) (dd := 154) (a := [(0, x1)]) (rest := []) H.2.1 D rfl rfl rfl rfl rfl (fun m14 v12 h11 e1 D =>
                have T := fj_run_ok _ _ _ _ _ _ H.1 e1
                have ht369 := fin_st H.1 T.2 hk (by decide) (by decide +kernel) ht369 (by decide)
                have hk := cls_st H.1 T.2 hk (by decide)
                have H := shp_st H T
                j_ifeq (pc := 36) D rfl (fun q =>
                  have D : fk_D 78 [(43, none, .iconst 0, 1, 0, 0, 0), (44, none, .goto 38, 3, 82, 0, 0)] := fq_of2 cd_78 ow_78 cl_78 rfl (pc := 43) (by decide +kernel)
                  j_ic (pc := 43) D rfl fun D =>
                  j_goto (pc := 44) D rfl <|
                  have D : fk_D 78 [(82, none, .ireturn, 1, 0, 0, 0)] := fq_of2 cd_78 ow_78 cl_78 rfl (pc := 82) (by decide +kernel)
                  j_zret D rt_78 (gy (by decide))) (fun q D =>
                  j_ic (pc := 39) D rfl fun D =>
                  j_goto (pc := 40) D rfl <|
                  have D : fk_D 78 [(82, none, .ireturn, 1, 0, 0, 0)] := fq_of2 cd_78 ow_78 cl_78 rfl (pc := 82) (by decide +kernel)
                  j_zret D rt_78 (gy (by decide)))) (fun m14 q13 h11 e1 =>
                j_tx (hx_78 _))) (fun q =>
              have D : fk_D 78 [(39, none, .iconst 1, 1, 0, 1, 0), (40, none, .goto 42, 3, 82, 0, 0)] := fq_of2 cd_78 ow_78 cl_78 rfl (pc := 39) (by decide +kernel)
              j_ic (pc := 39) D rfl fun D =>
              j_goto (pc := 40) D rfl <|
              have D : fk_D 78 [(82, none, .ireturn, 1, 0, 0, 0)] := fq_of2 cd_78 ow_78 cl_78 rfl (pc := 82) (by decide +kernel)
              j_zret D rt_78 (gy (by decide)))) (fun m10 q9 h7 e1 =>
            j_tx (hx_78 _))) (fun q =>
          have D : fk_D 78 [(47, none, .aload_n 0, 1, 0, 0, 0), (48, none, .getfield 37, 3, 367, 125, 12), (51, none, .iload_n 1, 1, 0, 0, 0), (52, none, .invokevirtual 160, 3, 1, 154, 1), (55, none, .ifCond .eq 18, 3, 73, 0, 0), (58, none, .aload_n 0, 1, 0, 0, 0), (59, none, .getfield 41, 3, 368, 125, 12), (62, none, .iload_n 1, 1, 0, 0, 0), (63, none, .invokevirtual 160, 3, 1, 154, 1), (66, none, .ifCond .eq 7, 3, 73, 0, 0), (69, none, .iconst 1, 1, 0, 1, 0), (70, none, .goto 12, 3, 82, 0, 0)] := fq_of2 cd_78 ow_78 cl_78 rfl (pc := 47) (by decide +kernel)
          j_aldn (pc := 47) D rfl rfl rfl fun D =>
          j_gf (pc := 48) (a := x0.toNat) D rfl rfl (nz_cls H.2.1 hk (by decide)) rfl hk rfl fun D =>
          j_ildn (pc := 51) D rfl rfl rfl fun D =>
          j_ivu (pc := 52) (dd := 154) (a := [(0, x1)]) (rest := []) H.2.1 D rfl rfl rfl rfl rfl (fun m18 v16 h15 e1 D =>
            have T := fj_run_ok _ _ _ _ _ _ H.1 e1
            have ht369 := fin_st H.1 T.2 hk (by decide) (by decide +kernel) ht369 (by decide)
            have hk := cls_st H.1 T.2 hk (by decide)
            have H := shp_st H T
            j_ifeq (pc := 55) D rfl (fun q =>
              have D : fk_D 78 [(73, none, .iconst 0, 1, 0, 0, 0), (74, none, .goto 8, 3, 82, 0, 0)] := fq_of2 cd_78 ow_78 cl_78 rfl (pc := 73) (by decide +kernel)
              j_ic (pc := 73) D rfl fun D =>
              j_goto (pc := 74) D rfl <|
              have D : fk_D 78 [(82, none, .ireturn, 1, 0, 0, 0)] := fq_of2 cd_78 ow_78 cl_78 rfl (pc := 82) (by decide +kernel)
              j_zret D rt_78 (gy (by decide))) (fun q D =>
              j_aldn (pc := 58) D rfl rfl rfl fun D =>
              j_gf (pc := 59) (a := x0.toNat) D rfl rfl (nz_cls H.2.1 hk (by decide)) rfl hk rfl fun D =>
              j_ildn (pc := 62) D rfl rfl rfl fun D =>
              j_ivu (pc := 63) (dd := 154) (a := [(0, x1)]) (rest := []) H.2.1 D rfl rfl rfl rfl rfl (fun m22 v20 h19 e1 D =>
                have T := fj_run_ok _ _ _ _ _ _ H.1 e1
                have ht369 := fin_st H.1 T.2 hk (by decide) (by decide +kernel) ht369 (by decide)
                have hk := cls_st H.1 T.2 hk (by decide)
                have H := shp_st H T
                j_ifeq (pc := 66) D rfl (fun q =>
                  have D : fk_D 78 [(73, none, .iconst 0, 1, 0, 0, 0), (74, none, .goto 8, 3, 82, 0, 0)] := fq_of2 cd_78 ow_78 cl_78 rfl (pc := 73) (by decide +kernel)
                  j_ic (pc := 73) D rfl fun D =>
                  j_goto (pc := 74) D rfl <|
                  have D : fk_D 78 [(82, none, .ireturn, 1, 0, 0, 0)] := fq_of2 cd_78 ow_78 cl_78 rfl (pc := 82) (by decide +kernel)
                  j_zret D rt_78 (gy (by decide))) (fun q D =>
                  j_ic (pc := 69) D rfl fun D =>
                  j_goto (pc := 70) D rfl <|
                  have D : fk_D 78 [(82, none, .ireturn, 1, 0, 0, 0)] := fq_of2 cd_78 ow_78 cl_78 rfl (pc := 82) (by decide +kernel)
                  j_zret D rt_78 (gy (by decide)))) (fun m22 q21 h19 e1 =>
                j_tx (hx_78 _)))) (fun m18 q17 h15 e1 =>
            j_tx (hx_78 _))))) (fun q3 h1 e1 =>
      j_tx (hx_78 _))
/-! 79 StatuteHouse$Part.isTrue(I)Z -/
theorem cd_79 : fi_code 79 = prog_50_method_7_code := rfl
theorem hx_79 : ∀ pc, fi_hat 79 pc = none := fun pc => by unfold fi_hat; rw [show fi_hh 79 = [] from rfl]; rfl
theorem rt_79 : fi_ret 79 = some .boolean := rfl
theorem nl_79 : fi_nl 79 = 2 := rfl
theorem ow_79 : fi_ow 79 = 66 := rfl
theorem cl_79 : fj_cutT.getD 79 [] = [] := rfl
theorem m_79 (d : Nat) (x0 x1 : Int) {h : fi_H} {k0 : Int} (H : Shp h) (hk : h 0 x0.toNat 0 = k0) (hk0 : k0 ≠ 0) (ht343 : h 343 x0.toNat 0 = 303) : fj_run (d + 1) 79 h [(4, x0), (0, x1)] =
  if fi_in (h 0 x0.toNat 0) 342 = true then
  if ia_ (sr_ x1 (h 342 x0.toNat 0)) 1 = 1 then
    some (.inl (some (0, 1)), h)
  else
    some (.inl (some (0, 0)), h)
  else none := by
  rw [fj_run_eq d (by decide) h [(4, x0), (0, x1)] (Nat.le_of_ble_eq_true (by rw [nl_79]; rfl))]
  show gG (fj_run d) 79 0 [(0, (4, x0)), (1, (0, x1))] [] h = _
  exact
    have D : fk_D 79 [(0, none, .iload_n 1, 1, 0, 0, 0), (1, none, .aload_n 0, 1, 0, 0, 0), (2, none, .getfield 34, 3, 342, 0, 10), (5, none, .ishr, 1, 0, 0, 0), (6, none, .iconst 1, 1, 0, 1, 0), (7, none, .iand, 1, 0, 0, 0), (8, none, .iconst 1, 1, 0, 1, 0), (9, none, .if_icmp .ne 7, 3, 16, 0, 0), (12, none, .iconst 1, 1, 0, 1, 0), (13, none, .goto 4, 3, 17, 0, 0)] := fq_of2 cd_79 ow_79 cl_79 rfl (pc := 0) (by decide +kernel)
    j_ildn (pc := 0) D rfl rfl rfl fun D =>
    j_aldn (pc := 1) D rfl rfl rfl fun D =>
    j_gfu (pc := 2) H.2.1 D rfl rfl fun q D =>
    j_ishr (pc := 5) D rfl fun D =>
    j_ic (pc := 6) D rfl fun D =>
    j_iand (pc := 7) D rfl fun D =>
    j_ic (pc := 8) D rfl fun D =>
    j_ine (pc := 9) D rfl (fun q D =>
      j_ic (pc := 12) D rfl fun D =>
      j_goto (pc := 13) D rfl <|
      have D : fk_D 79 [(17, none, .ireturn, 1, 0, 0, 0)] := fq_of2 cd_79 ow_79 cl_79 rfl (pc := 17) (by decide +kernel)
      j_zret D rt_79 (gy (by decide))) (fun q =>
      have D : fk_D 79 [(16, none, .iconst 0, 1, 0, 0, 0), (17, none, .ireturn, 1, 0, 0, 0)] := fq_of2 cd_79 ow_79 cl_79 rfl (pc := 16) (by decide +kernel)
      j_ic (pc := 16) D rfl fun D =>
      j_zret D rt_79 (gy (by decide)))
/-! 80 StatuteHouse.gap(I)I -/
theorem cd_80 : fi_code 80 = prog_1_method_53_code := rfl
theorem hx_80 : ∀ pc, fi_hat 80 pc = none := fun pc => by unfold fi_hat; rw [show fi_hh 80 = [] from rfl]; rfl
theorem rt_80 : fi_ret 80 = some .int := rfl
theorem nl_80 : fi_nl 80 = 2 := rfl
theorem ow_80 : fi_ow 80 = 0 := rfl
theorem cl_80 : fj_cutT.getD 80 [] = [] := rfl
theorem m_80 (d : Nat) (x1 : Int) {h : fi_H} (H : Shp h) : fj_run (d + 1) 80 h [(4, 303), (0, x1)] =
  ca_ (fj_run d 3 h [(1, wI x1), (1, 0), (1, 4)]) 0
    (fun v2 h1 =>
    if v2 = 0 then
      some (.inl (some (0, (-1))), h1)
    else
      if 0 ≤ x1 ∧ x1 < 5 then
      some (.inl (some (0, h1 10 407 x1.toNat)), h1)
      else none)
    (fun q3 h1 => tx_ q3 h1) := by
  rw [fj_run_eq d (by decide) h [(4, 303), (0, x1)] (Nat.le_of_ble_eq_true (by rw [nl_80]; rfl))]
  show gG (fj_run d) 80 0 [(0, (4, 303)), (1, (0, x1))] [] h = _
  exact
    have D : fk_D 80 [(0, none, .iload_n 1, 1, 0, 0, 0), (1, none, .i2l, 1, 0, 0, 0), (2, none, .lconst 0, 1, 0, 0, 0), (3, none, .ldc2_w 627, 3, 1, 4, 0), (6, none, .invokestatic 46, 3, 3, 3, 1), (9, none, .ifCond .eq 12, 3, 21, 0, 0), (12, none, .aload_n 0, 1, 0, 0, 0), (13, none, .getfield 624, 3, 276, 100, 12), (16, none, .iload_n 1, 1, 0, 0, 0), (17, none, .iaload, 1, 0, 0, 0), (18, none, .goto 4, 3, 22, 0, 0)] := fq_of2 cd_80 ow_80 cl_80 rfl (pc := 0) (by decide +kernel)
    j_ildn (pc := 0) D rfl rfl rfl fun D =>
    j_i2l (pc := 1) D rfl fun D =>
    j_c0 (pc := 2) (v := (1, 0)) D rfl rfl (by decide +kernel) fun D =>
    j_ldc2 (pc := 3) D rfl fun D =>
    j_is (pc := 6) (m := 3) (a := [(1, wI x1), (1, 0), (1, 4)]) (rest := []) D rfl rfl rfl rfl (fun v2 h1 e1 D =>
      have T := fj_run_ok _ _ _ _ _ _ H.1 e1
      have H := shp_st H T
      j_ifeq (pc := 9) D rfl (fun q =>
        have D : fk_D 80 [(21, none, .iconst (-1), 1, 0, (-1), 0), (22, none, .ireturn, 1, 0, 0, 0)] := fq_of2 cd_80 ow_80 cl_80 rfl (pc := 21) (by decide +kernel)
        j_ic (pc := 21) D rfl fun D =>
        j_iret D rt_80) (fun q D =>
        j_aldn (pc := 12) D rfl rfl rfl fun D =>
        j_gfc (pc := 13) (a := 303) D rfl rfl (by decide) rfl (s0_303 H) rfl (sf_276_303 H) fun D =>
        j_ildn (pc := 16) D rfl rfl rfl fun D =>
        j_al (pc := 17) (a := 407) (e := 10) D rfl rfl rfl (by decide) (s0_407 H) (s1_407 H) ⟨rfl, rfl, rfl⟩ rfl gn fun qb4 D =>
        j_goto (pc := 18) D rfl <|
        have D : fk_D 80 [(22, none, .ireturn, 1, 0, 0, 0)] := fq_of2 cd_80 ow_80 cl_80 rfl (pc := 22) (by decide +kernel)
        j_iret D rt_80)) (fun q3 h1 e1 =>
      j_tx (hx_80 _))
/-! 81 StatuteHouse.ring(II)I -/
theorem cd_81 : fi_code 81 = prog_1_method_54_code := rfl
theorem hx_81 : ∀ pc, fi_hat 81 pc = none := fun pc => by unfold fi_hat; rw [show fi_hh 81 = [] from rfl]; rfl
theorem rt_81 : fi_ret 81 = some .int := rfl
theorem nl_81 : fi_nl 81 = 10 := rfl
theorem ow_81 : fi_ow 81 = 0 := rfl
theorem cl_81 : fj_cutT.getD 81 [] = [(55, [0, 3, 4, 5, 6]), (72, [0, 3, 4, 5, 6, 7, 8]), (103, [0, 3, 4]), (140, [0, 3, 4, 6, 7, 8]), (218, [0, 3, 4, 6, 7, 8]), (230, [0, 4]), (242, [0, 4, 5]), (270, [0, 4, 5, 6]), (314, [0, 4, 5, 6]), (319, [0, 4, 5, 6]), (326, [0, 4, 5]), (341, [0, 4])] := rfl
theorem cut_81_55 : fj_cut 81 55 = some [0, 3, 4, 5, 6] := by decide +kernel
noncomputable def c_81_55 (d : Nat) (x3 x4 x5 x6 : Int) (h : fi_H) : fk_R := gG (fj_run d) 81 55 [(0, (4, 303)), (3, (4, x3)), (4, (4, x4)), (5, (0, x5)), (6, (0, x6))] [] h
theorem cut_81_72 : fj_cut 81 72 = some [0, 3, 4, 5, 6, 7, 8] := by decide +kernel
noncomputable def c_81_72 (d : Nat) (x3 x4 x5 x6 x7 x8 : Int) (h : fi_H) : fk_R := gG (fj_run d) 81 72 [(0, (4, 303)), (3, (4, x3)), (4, (4, x4)), (5, (0, x5)), (6, (0, x6)), (7, (4, x7)), (8, (0, x8))] [] h
theorem cut_81_103 : fj_cut 81 103 = some [0, 3, 4] := by decide +kernel
noncomputable def c_81_103 (d : Nat) (x3 x4 : Int) (h : fi_H) : fk_R := gG (fj_run d) 81 103 [(0, (4, 303)), (3, (4, x3)), (4, (4, x4))] [] h
theorem cut_81_140 : fj_cut 81 140 = some [0, 3, 4, 6, 7, 8] := by decide +kernel
noncomputable def c_81_140 (d : Nat) (x3 x4 x6 x7 x8 : Int) (h : fi_H) : fk_R := gG (fj_run d) 81 140 [(0, (4, 303)), (3, (4, x3)), (4, (4, x4)), (6, (4, x6)), (7, (0, x7)), (8, (0, x8))] [] h
theorem cut_81_218 : fj_cut 81 218 = some [0, 3, 4, 6, 7, 8] := by decide +kernel
noncomputable def c_81_218 (d : Nat) (x3 x4 x6 x7 x8 : Int) (h : fi_H) : fk_R := gG (fj_run d) 81 218 [(0, (4, 303)), (3, (4, x3)), (4, (4, x4)), (6, (4, x6)), (7, (0, x7)), (8, (0, x8))] [] h
theorem cut_81_230 : fj_cut 81 230 = some [0, 4] := by decide +kernel
noncomputable def c_81_230 (d : Nat) (x4 : Int) (h : fi_H) : fk_R := gG (fj_run d) 81 230 [(0, (4, 303)), (4, (0, x4))] [] h
theorem cut_81_242 : fj_cut 81 242 = some [0, 4, 5] := by decide +kernel
noncomputable def c_81_242 (d : Nat) (x4 x5 : Int) (h : fi_H) : fk_R := gG (fj_run d) 81 242 [(0, (4, 303)), (4, (0, x4)), (5, (0, x5))] [] h
theorem cut_81_270 : fj_cut 81 270 = some [0, 4, 5, 6] := by decide +kernel
noncomputable def c_81_270 (d : Nat) (x4 x5 x6 : Int) (h : fi_H) : fk_R := gG (fj_run d) 81 270 [(0, (4, 303)), (4, (0, x4)), (5, (0, x5)), (6, (0, x6))] [] h
theorem cut_81_314 : fj_cut 81 314 = some [0, 4, 5, 6] := by decide +kernel
noncomputable def c_81_314 (d : Nat) (x4 x5 x6 s0 s1 : Int) (h : fi_H) : fk_R := gG (fj_run d) 81 314 [(0, (4, 303)), (4, (0, x4)), (5, (0, x5)), (6, (0, x6))] [(0, s1), (4, s0)] h
theorem cut_81_319 : fj_cut 81 319 = some [0, 4, 5, 6] := by decide +kernel
noncomputable def c_81_319 (d : Nat) (x4 x5 x6 s0 s1 s2 : Int) (h : fi_H) : fk_R := gG (fj_run d) 81 319 [(0, (4, 303)), (4, (0, x4)), (5, (0, x5)), (6, (0, x6))] [(0, s2), (0, s1), (4, s0)] h
theorem cut_81_326 : fj_cut 81 326 = some [0, 4, 5] := by decide +kernel
noncomputable def c_81_326 (d : Nat) (x4 x5 : Int) (h : fi_H) : fk_R := gG (fj_run d) 81 326 [(0, (4, 303)), (4, (0, x4)), (5, (0, x5))] [] h
theorem cut_81_341 : fj_cut 81 341 = some [0, 4] := by decide +kernel
noncomputable def c_81_341 (d : Nat) (x4 : Int) (h : fi_H) : fk_R := gG (fj_run d) 81 341 [(0, (4, 303)), (4, (0, x4))] [] h
theorem e_81_55 (d : Nat) (x3 x4 x5 x6 : Int) {h : fi_H} (H : Shp h) : c_81_55 d x3 x4 x5 x6 h =
  if x6 < x5 then
    if (20 ≤ h 0 x4.toNat 0 ∧ h 0 x4.toNat 0 < 30) ∧ 0 ≤ x6 ∧ x6 < h 1 x4.toNat 0 then
    c_81_72 d x3 x4 x5 x6 (h 12 x4.toNat x6.toNat) 0 h
    else none
  else
    dv_ (fi_vt 147 (h 0 x3.toNat 0)) fun m4 => ca_ (fj_run d m4 h [(4, x3)]) 4
      (fun v2 h1 =>
      c_81_103 d x3 v2 h1)
      (fun q3 h1 => tx_ q3 h1) := by
  unfold c_81_55
  exact
    have D : fk_D 81 [(55, some [0, 3, 4, 5, 6], .iload 6, 2, 0, 0, 0), (57, none, .iload 5, 2, 0, 0, 0), (59, none, .if_icmp .ge 38, 3, 97, 0, 0), (62, none, .aload 4, 2, 0, 0, 0), (64, none, .iload 6, 2, 0, 0, 0), (66, none, .aaload, 1, 0, 0, 0), (67, none, .astore 7, 2, 0, 0, 0), (69, none, .iconst 0, 1, 0, 0, 0), (70, none, .istore 8, 2, 0, 0, 0)] := fq_of2 cd_81 ow_81 cl_81 rfl (pc := 55) (by decide +kernel)
    j_ild (pc := 55) D rfl rfl rfl fun D =>
    j_ild (pc := 57) D rfl rfl rfl fun D =>
    j_ige (pc := 59) D rfl (fun q D =>
      j_ald (pc := 62) D rfl rfl rfl fun D =>
      j_ild (pc := 64) D rfl rfl rfl fun D =>
      j_alr (pc := 66) H.2.1 D rfl rfl fun q q2 D =>
      j_ast (pc := 67) (L' := [(7, (4, h 12 x4.toNat x6.toNat)), (0, (4, 303)), (3, (4, x3)), (4, (4, x4)), (5, (0, x5)), (6, (0, x6))]) D rfl nl_81 rfl rfl fun D =>
      j_ic (pc := 69) D rfl fun D =>
      j_ist (pc := 70) (L' := [(8, (0, 0)), (7, (4, h 12 x4.toNat x6.toNat)), (0, (4, 303)), (3, (4, x3)), (4, (4, x4)), (5, (0, x5)), (6, (0, x6))]) D rfl nl_81 rfl rfl fun D =>
      fk_jump cut_81_72 rfl rfl) (fun q =>
      have D : fk_D 81 [(97, none, .aload_n 3, 1, 0, 0, 0), (98, none, .invokevirtual 536, 3, 0, 147, 5), (101, none, .astore 4, 2, 0, 0, 0)] := fq_of2 cd_81 ow_81 cl_81 rfl (pc := 97) (by decide +kernel)
      j_aldn (pc := 97) D rfl rfl rfl fun D =>
      j_ivu (pc := 98) (dd := 147) (a := []) (rest := []) H.2.1 D rfl rfl rfl rfl rfl (fun m4 v2 h1 e1 D =>
        have T := fj_run_ok _ _ _ _ _ _ H.1 e1
        have H := shp_st H T
        j_ast (pc := 101) (L' := [(4, (4, v2)), (0, (4, 303)), (3, (4, x3)), (5, (0, x5)), (6, (0, x6))]) D rfl nl_81 rfl rfl fun D =>
        fk_jump cut_81_103 rfl rfl) (fun m4 q3 h1 e1 =>
        j_tx (hx_81 _)))
theorem e_81_72 (d : Nat) (x3 x4 x5 x6 x7 x8 : Int) {h : fi_H} (H : Shp h) : c_81_72 d x3 x4 x5 x6 x7 x8 h =
  if x8 < 40 then
    if 302 < x7 ∧ fi_et 1 (h 0 x7.toNat 0) ≠ 0 then
    if 0 ≤ x8 ∧ x8 < h 1 x7.toNat 0 then
    if fi_rg (fi_et 1 (h 0 x7.toNat 0)) 0 = true then
    lt_ (fi_upd h (fi_et 1 (h 0 x7.toNat 0)) x7.toNat x8.toNat 0) fun h1 =>
    c_81_72 d x3 x4 x5 x6 x7 (wI (x8 + 1)) h1
    else none
    else none
    else none
  else
    c_81_55 d x3 x4 x5 (wI (x6 + 1)) h := by
  unfold c_81_72
  exact
    have D : fk_D 81 [(72, some [0, 3, 4, 5, 6, 7, 8], .iload 8, 2, 0, 0, 0), (74, none, .bipush 40, 2, 0, 40, 0), (76, none, .if_icmp .ge 15, 3, 91, 0, 0), (79, none, .aload 7, 2, 0, 0, 0), (81, none, .iload 8, 2, 0, 0, 0), (83, none, .iconst 0, 1, 0, 0, 0), (84, none, .bastore, 1, 0, 0, 0), (85, none, .iinc 8 1, 3, 0, 1, 0), (88, none, .goto (-16), 3, 72, 0, 0)] := fq_of2 cd_81 ow_81 cl_81 rfl (pc := 72) (by decide +kernel)
    j_ild (pc := 72) D rfl rfl rfl fun D =>
    j_bp (pc := 74) D rfl fun D =>
    j_ige (pc := 76) D rfl (fun q D =>
      j_ald (pc := 79) D rfl rfl rfl fun D =>
      j_ild (pc := 81) D rfl rfl rfl fun D =>
      j_ic (pc := 83) D rfl fun D =>
      j_asub (pc := 84) D rfl rfl gn gn gn fun h1 eh1 S q q2 D =>
      have T := fj_hs_ok H.1 S
      have H := shp_st H T
      j_inc (pc := 85) (L' := [(8, (0, wI (x8 + 1))), (0, (4, 303)), (3, (4, x3)), (4, (4, x4)), (5, (0, x5)), (6, (0, x6)), (7, (4, x7))]) D rfl rfl rfl (by decide +kernel) rfl fun D =>
      j_goto (pc := 88) D rfl <|
      fk_jump cut_81_72 rfl rfl) (fun q =>
      have D : fk_D 81 [(91, none, .iinc 6 1, 3, 0, 1, 0), (94, none, .goto (-39), 3, 55, 0, 0)] := fq_of2 cd_81 ow_81 cl_81 rfl (pc := 91) (by decide +kernel)
      j_inc (pc := 91) (L' := [(6, (0, wI (x6 + 1))), (0, (4, 303)), (3, (4, x3)), (4, (4, x4)), (5, (0, x5)), (7, (4, x7)), (8, (0, x8))]) D rfl rfl rfl (by decide +kernel) rfl fun D =>
      j_goto (pc := 94) D rfl <|
      fk_jump cut_81_55 rfl rfl)
theorem e_81_103 (d : Nat) (x3 x4 : Int) {h : fi_H} (H : Shp h) : c_81_103 d x3 x4 h =
  dv_ (fi_vt 148 (h 0 x4.toNat 0)) fun m4 => ca_ (fj_run d m4 h [(4, x4)]) 0
    (fun v2 h1 =>
    if v2 = 0 then
      c_81_230 d 0 h1
    else
      dv_ (fi_vt 149 (h1 0 x4.toNat 0)) fun m8 => ca_ (fj_run d m8 h1 [(4, x4)]) 4
        (fun v6 h5 =>
        if v6 = 0 ∨ (fi_sup (h5 0 v6.toNat 0)).contains 126 = true then
        if h5 0 v6.toNat 0 = 126 then
        if fk_isA (h5 0 (h5 374 v6.toNat 0).toNat 0) = true then
        c_81_140 d x3 x4 (h5 374 v6.toNat 0) (h5 1 (h5 374 v6.toNat 0).toNat 0) 0 h5
        else none
        else none
        else none)
        (fun q7 h5 => tx_ q7 h5))
    (fun q3 h1 => tx_ q3 h1) := by
  unfold c_81_103
  exact
    have D : fk_D 81 [(103, some [0, 3, 4], .aload 4, 2, 0, 0, 0), (105, none, .invokeinterface 540 1, 5, 0, 148, 1), (110, none, .ifCond .eq 117, 3, 227, 0, 0), (113, none, .aload 4, 2, 0, 0, 0), (115, none, .invokeinterface 546 1, 5, 0, 149, 5), (120, none, .checkcast 549, 3, 126, 0, 0), (123, none, .astore 5, 2, 0, 0, 0), (125, none, .aload 5, 2, 0, 0, 0), (127, none, .getfield 551, 3, 374, (-126), 12), (130, none, .astore 6, 2, 0, 0, 0), (132, none, .aload 6, 2, 0, 0, 0), (134, none, .arraylength, 1, 0, 0, 0), (135, none, .istore 7, 2, 0, 0, 0), (137, none, .iconst 0, 1, 0, 0, 0), (138, none, .istore 8, 2, 0, 0, 0)] := fq_of2 cd_81 ow_81 cl_81 rfl (pc := 103) (by decide +kernel)
    j_ald (pc := 103) D rfl rfl rfl fun D =>
    j_ivu (pc := 105) (dd := 148) (a := []) (rest := []) H.2.1 D rfl rfl rfl rfl rfl (fun m4 v2 h1 e1 D =>
      have T := fj_run_ok _ _ _ _ _ _ H.1 e1
      have H := shp_st H T
      j_ifeq (pc := 110) D rfl (fun q =>
        have D : fk_D 81 [(227, none, .iconst 0, 1, 0, 0, 0), (228, none, .istore 4, 2, 0, 0, 0)] := fq_of2 cd_81 ow_81 cl_81 rfl (pc := 227) (by decide +kernel)
        j_ic (pc := 227) D rfl fun D =>
        j_ist (pc := 228) (L' := [(4, (0, 0)), (0, (4, 303)), (3, (4, x3))]) D rfl nl_81 rfl rfl fun D =>
        fk_jump cut_81_230 rfl rfl) (fun q D =>
        j_ald (pc := 113) D rfl rfl rfl fun D =>
        j_ivu (pc := 115) (dd := 149) (a := []) (rest := []) H.2.1 D rfl rfl rfl rfl rfl (fun m8 v6 h5 e1 D =>
          have T := fj_run_ok _ _ _ _ _ _ H.1 e1
          have H := shp_st H T
          j_cast (pc := 120) D rfl gn fun D =>
          j_ast (pc := 123) (L' := [(5, (4, v6)), (0, (4, 303)), (3, (4, x3)), (4, (4, x4))]) D rfl nl_81 rfl rfl fun D =>
          j_ald (pc := 125) D rfl rfl rfl fun D =>
          j_gfo (pc := 127) H.2.1 D rfl rfl rfl rfl fun kc9 D =>
          j_ast (pc := 130) (L' := [(6, (4, h5 374 v6.toNat 0)), (5, (4, v6)), (0, (4, 303)), (3, (4, x3)), (4, (4, x4))]) D rfl nl_81 rfl rfl fun D =>
          j_ald (pc := 132) D rfl rfl rfl fun D =>
          j_lenu (pc := 134) H.2.1 D rfl fun q D =>
          j_ist (pc := 135) (L' := [(7, (0, h5 1 (h5 374 v6.toNat 0).toNat 0)), (6, (4, h5 374 v6.toNat 0)), (5, (4, v6)), (0, (4, 303)), (3, (4, x3)), (4, (4, x4))]) D rfl nl_81 rfl rfl fun D =>
          j_ic (pc := 137) D rfl fun D =>
          j_ist (pc := 138) (L' := [(8, (0, 0)), (7, (0, h5 1 (h5 374 v6.toNat 0).toNat 0)), (6, (4, h5 374 v6.toNat 0)), (5, (4, v6)), (0, (4, 303)), (3, (4, x3)), (4, (4, x4))]) D rfl nl_81 rfl rfl fun D =>
          fk_jump cut_81_140 rfl rfl) (fun m8 q7 h5 e1 =>
          j_tx (hx_81 _)))) (fun m4 q3 h1 e1 =>
      j_tx (hx_81 _))
theorem e_81_140 (d : Nat) (x3 x4 x6 x7 x8 : Int) {h : fi_H} (H : Shp h) : c_81_140 d x3 x4 x6 x7 x8 h =
  if x8 < x7 then
    if (20 ≤ h 0 x6.toNat 0 ∧ h 0 x6.toNat 0 < 30) ∧ 0 ≤ x8 ∧ x8 < h 1 x6.toNat 0 then
    dv_ (fi_vt 142 (h 0 x3.toNat 0)) fun m4 => ca_ (fj_run d m4 h [(4, x3), (4, h 12 x6.toNat x8.toNat)]) 0
      (fun v2 h1 =>
      if v2 = 0 then
        if h1 0 (h 12 x6.toNat x8.toNat).toNat 0 = 117 then
        if h1 142 (h 12 x6.toNat x8.toNat).toNat 0 = 0 then
          if 0 ≤ h1 137 (h 12 x6.toNat x8.toNat).toNat 0 ∧ h1 137 (h 12 x6.toNat x8.toNat).toNat 0 < 40 then
          dv_ (fi_vt 157 (h1 0 (h1 140 (h 12 x6.toNat x8.toNat).toNat 0).toNat 0)) fun m10 => cv_ (fj_run d m10 h1 [(4, h1 140 (h 12 x6.toNat x8.toNat).toNat 0), (4, h1 12 408 (h1 137 (h 12 x6.toNat x8.toNat).toNat 0).toNat)])
            (fun h7 =>
            if h7 141 (h 12 x6.toNat x8.toNat).toNat 0 = 0 then
              c_81_218 d x3 x4 x6 x7 x8 h7
            else
              if 0 ≤ h7 137 (h 12 x6.toNat x8.toNat).toNat 0 ∧ h7 137 (h 12 x6.toNat x8.toNat).toNat 0 < 40 then
              dv_ (fi_vt 157 (h7 0 (h7 141 (h 12 x6.toNat x8.toNat).toNat 0).toNat 0)) fun m15 => cv_ (fj_run d m15 h7 [(4, h7 141 (h 12 x6.toNat x8.toNat).toNat 0), (4, h7 12 408 (h7 137 (h 12 x6.toNat x8.toNat).toNat 0).toNat)])
                (fun h12 =>
                c_81_218 d x3 x4 x6 x7 x8 h12)
                (fun q14 h12 => tx_ q14 h12)
              else none)
            (fun q9 h7 => tx_ q9 h7)
          else none
        else
          c_81_218 d x3 x4 x6 x7 x8 h1
        else none
      else
        c_81_218 d x3 x4 x6 x7 x8 h1)
      (fun q3 h1 => tx_ q3 h1)
    else none
  else
    c_81_103 d x3 x4 h := by
  unfold c_81_140
  exact
    have D : fk_D 81 [(140, some [0, 3, 4, 6, 7, 8], .iload 8, 2, 0, 0, 0), (142, none, .iload 7, 2, 0, 0, 0), (144, none, .if_icmp .ge 80, 3, 224, 0, 0), (147, none, .aload 6, 2, 0, 0, 0), (149, none, .iload 8, 2, 0, 0, 0), (151, none, .aaload, 1, 0, 0, 0), (152, none, .astore 9, 2, 0, 0, 0), (154, none, .aload_n 3, 1, 0, 0, 0), (155, none, .aload 9, 2, 0, 0, 0), (157, none, .invokevirtual 496, 3, 1, 142, 1), (160, none, .ifCond .ne 58, 3, 218, 0, 0), (163, none, .aload 9, 2, 0, 0, 0), (165, none, .getfield 474, 3, 142, (-117), 12), (168, none, .ifnull 6, 3, 174, 0, 0), (171, none, .goto 47, 3, 218, 0, 0)] := fq_of2 cd_81 ow_81 cl_81 rfl (pc := 140) (by decide +kernel)
    j_ild (pc := 140) D rfl rfl rfl fun D =>
    j_ild (pc := 142) D rfl rfl rfl fun D =>
    j_ige (pc := 144) D rfl (fun q D =>
      j_ald (pc := 147) D rfl rfl rfl fun D =>
      j_ild (pc := 149) D rfl rfl rfl fun D =>
      j_alr (pc := 151) H.2.1 D rfl rfl fun q q2 D =>
      j_ast (pc := 152) (L' := [(9, (4, h 12 x6.toNat x8.toNat)), (0, (4, 303)), (3, (4, x3)), (4, (4, x4)), (6, (4, x6)), (7, (0, x7)), (8, (0, x8))]) D rfl nl_81 rfl rfl fun D =>
      j_aldn (pc := 154) D rfl rfl rfl fun D =>
      j_ald (pc := 155) D rfl rfl rfl fun D =>
      j_ivu (pc := 157) (dd := 142) (a := [(4, h 12 x6.toNat x8.toNat)]) (rest := []) H.2.1 D rfl rfl rfl rfl rfl (fun m4 v2 h1 e1 D =>
        have T := fj_run_ok _ _ _ _ _ _ H.1 e1
        have H := shp_st H T
        j_ifne (pc := 160) D rfl (fun q D =>
          j_ald (pc := 163) D rfl rfl rfl fun D =>
          j_gfo (pc := 165) H.2.1 D rfl rfl rfl rfl fun kc5 D =>
          j_null (pc := 168) D rfl (fun q =>
            have D : fk_D 81 [(174, none, .aload 9, 2, 0, 0, 0), (176, none, .getfield 402, 3, 140, 117, 12), (179, none, .aload_n 0, 1, 0, 0, 0), (180, none, .getfield 629, 3, 279, 100, 12), (183, none, .aload 9, 2, 0, 0, 0), (185, none, .getfield 378, 3, 137, 117, 10), (188, none, .aaload, 1, 0, 0, 0), (189, none, .invokevirtual 633, 3, 1, 157, 0), (192, none, .aload 9, 2, 0, 0, 0), (194, none, .getfield 393, 3, 141, 117, 12), (197, none, .ifnull 21, 3, 218, 0, 0), (200, none, .aload 9, 2, 0, 0, 0), (202, none, .getfield 393, 3, 141, 117, 12), (205, none, .aload_n 0, 1, 0, 0, 0), (206, none, .getfield 629, 3, 279, 100, 12), (209, none, .aload 9, 2, 0, 0, 0), (211, none, .getfield 378, 3, 137, 117, 10), (214, none, .aaload, 1, 0, 0, 0), (215, none, .invokevirtual 633, 3, 1, 157, 0)] := fq_of2 cd_81 ow_81 cl_81 rfl (pc := 174) (by decide +kernel)
            j_ald (pc := 174) D rfl rfl rfl fun D =>
            j_gf (pc := 176) (a := (h 12 x6.toNat x8.toNat).toNat) D rfl rfl (nz_cls H.2.1 kc5 (by decide)) rfl kc5 rfl fun D =>
            j_aldn (pc := 179) D rfl rfl rfl fun D =>
            j_gfc (pc := 180) (a := 303) D rfl rfl (by decide) rfl (s0_303 H) rfl (sf_279_303 H) fun D =>
            j_ald (pc := 183) D rfl rfl rfl fun D =>
            j_gf (pc := 185) (a := (h 12 x6.toNat x8.toNat).toNat) D rfl rfl (nz_cls H.2.1 kc5 (by decide)) rfl kc5 rfl fun D =>
            j_al (pc := 188) (a := 408) (e := 12) D rfl rfl rfl (by decide) (s0_408 H) (s1_408 H) ⟨rfl, rfl, rfl⟩ rfl gn fun qb6 D =>
            j_ivuv (pc := 189) (dd := 157) (a := [(4, h1 12 408 (h1 137 (h 12 x6.toNat x8.toNat).toNat 0).toNat)]) (rest := []) H.2.1 D rfl rfl rfl rfl rfl (fun m10 h7 e1 D =>
              have T := fj_run_ok _ _ _ _ _ _ H.1 e1
              have kc5 := cls_st H.1 T.2 kc5 (by decide)
              have H := shp_st H T
              j_ald (pc := 192) D rfl rfl rfl fun D =>
              j_gf (pc := 194) (a := (h 12 x6.toNat x8.toNat).toNat) D rfl rfl (nz_cls H.2.1 kc5 (by decide)) rfl kc5 rfl fun D =>
              j_null (pc := 197) D rfl (fun q =>
                fk_jump cut_81_218 rfl rfl) (fun q D =>
                j_ald (pc := 200) D rfl rfl rfl fun D =>
                j_gf (pc := 202) (a := (h 12 x6.toNat x8.toNat).toNat) D rfl rfl (nz_cls H.2.1 kc5 (by decide)) rfl kc5 rfl fun D =>
                j_aldn (pc := 205) D rfl rfl rfl fun D =>
                j_gfc (pc := 206) (a := 303) D rfl rfl (by decide) rfl (s0_303 H) rfl (sf_279_303 H) fun D =>
                j_ald (pc := 209) D rfl rfl rfl fun D =>
                j_gf (pc := 211) (a := (h 12 x6.toNat x8.toNat).toNat) D rfl rfl (nz_cls H.2.1 kc5 (by decide)) rfl kc5 rfl fun D =>
                j_al (pc := 214) (a := 408) (e := 12) D rfl rfl rfl (by decide) (s0_408 H) (s1_408 H) ⟨rfl, rfl, rfl⟩ rfl gn fun qb11 D =>
                j_ivuv (pc := 215) (dd := 157) (a := [(4, h7 12 408 (h7 137 (h 12 x6.toNat x8.toNat).toNat 0).toNat)]) (rest := []) H.2.1 D rfl rfl rfl rfl rfl (fun m15 h12 e1 D =>
                  have T := fj_run_ok _ _ _ _ _ _ H.1 e1
                  have kc5 := cls_st H.1 T.2 kc5 (by decide)
                  have H := shp_st H T
                  fk_jump cut_81_218 rfl rfl) (fun m15 q14 h12 e1 =>
                  j_tx (hx_81 _)))) (fun m10 q9 h7 e1 =>
              j_tx (hx_81 _))) (fun q D =>
            j_goto (pc := 171) D rfl <|
            fk_jump cut_81_218 rfl rfl)) (fun q =>
          fk_jump cut_81_218 rfl rfl)) (fun m4 q3 h1 e1 =>
        j_tx (hx_81 _))) (fun q =>
      have D : fk_D 81 [(224, none, .goto (-121), 3, 103, 0, 0)] := fq_of2 cd_81 ow_81 cl_81 rfl (pc := 224) (by decide +kernel)
      j_goto (pc := 224) D rfl <|
      fk_jump cut_81_103 rfl rfl)
theorem e_81_218 (d : Nat) (x3 x4 x6 x7 x8 : Int) {h : fi_H} (H : Shp h) : c_81_218 d x3 x4 x6 x7 x8 h =
  c_81_140 d x3 x4 x6 x7 (wI (x8 + 1)) h := by
  unfold c_81_218
  exact
    have D : fk_D 81 [(218, some [0, 3, 4, 6, 7, 8], .iinc 8 1, 3, 0, 1, 0), (221, none, .goto (-81), 3, 140, 0, 0)] := fq_of2 cd_81 ow_81 cl_81 rfl (pc := 218) (by decide +kernel)
    j_inc (pc := 218) (L' := [(8, (0, wI (x8 + 1))), (0, (4, 303)), (3, (4, x3)), (4, (4, x4)), (6, (4, x6)), (7, (0, x7))]) D rfl rfl rfl (by decide +kernel) rfl fun D =>
    j_goto (pc := 221) D rfl <|
    fk_jump cut_81_140 rfl rfl
theorem e_81_230 (d : Nat) (x4 : Int) {h : fi_H} (H : Shp h) : c_81_230 d x4 h =
  if x4 < h 215 303 0 then
    c_81_242 d x4 0 h
  else
    c_81_341 d 0 h := by
  unfold c_81_230
  exact
    have D : fk_D 81 [(230, some [0, 4], .iload 4, 2, 0, 0, 0), (232, none, .aload_n 0, 1, 0, 0, 0), (233, none, .getfield 252, 3, 215, 100, 10), (236, none, .if_icmp .ge 102, 3, 338, 0, 0), (239, none, .iconst 0, 1, 0, 0, 0), (240, none, .istore 5, 2, 0, 0, 0)] := fq_of2 cd_81 ow_81 cl_81 rfl (pc := 230) (by decide +kernel)
    j_ild (pc := 230) D rfl rfl rfl fun D =>
    j_aldn (pc := 232) D rfl rfl rfl fun D =>
    j_gf (pc := 233) (a := 303) D rfl rfl (by decide) rfl (s0_303 H) rfl fun D =>
    j_ige (pc := 236) D rfl (fun q D =>
      j_ic (pc := 239) D rfl fun D =>
      j_ist (pc := 240) (L' := [(5, (0, 0)), (0, (4, 303)), (4, (0, x4))]) D rfl nl_81 rfl rfl fun D =>
      fk_jump cut_81_242 rfl rfl) (fun q =>
      have D : fk_D 81 [(338, none, .iconst 0, 1, 0, 0, 0), (339, none, .istore 4, 2, 0, 0, 0)] := fq_of2 cd_81 ow_81 cl_81 rfl (pc := 338) (by decide +kernel)
      j_ic (pc := 338) D rfl fun D =>
      j_ist (pc := 339) (L' := [(4, (0, 0)), (0, (4, 303))]) D rfl nl_81 rfl rfl fun D =>
      fk_jump cut_81_341 rfl rfl)
theorem e_81_242 (d : Nat) (x4 x5 : Int) {h : fi_H} (H : Shp h) : c_81_242 d x4 x5 h =
  if x5 < h 215 303 0 then
    if 0 ≤ x5 ∧ x5 < 40 then
    if fi_et 1 (h 0 (h 12 408 x5.toNat).toNat 0) ≠ 0 ∧ 0 ≤ x4 ∧ x4 < h 1 (h 12 408 x5.toNat).toNat 0 then
    if h (fi_et 1 (h 0 (h 12 408 x5.toNat).toNat 0)) (h 12 408 x5.toNat).toNat x4.toNat = 0 then
      c_81_326 d x4 x5 h
    else
      c_81_270 d x4 x5 0 h
    else none
    else none
  else
    c_81_230 d (wI (x4 + 1)) h := by
  unfold c_81_242
  exact
    have D : fk_D 81 [(242, some [0, 4, 5], .iload 5, 2, 0, 0, 0), (244, none, .aload_n 0, 1, 0, 0, 0), (245, none, .getfield 252, 3, 215, 100, 10), (248, none, .if_icmp .ge 84, 3, 332, 0, 0), (251, none, .aload_n 0, 1, 0, 0, 0), (252, none, .getfield 629, 3, 279, 100, 12), (255, none, .iload 5, 2, 0, 0, 0), (257, none, .aaload, 1, 0, 0, 0), (258, none, .iload 4, 2, 0, 0, 0), (260, none, .baload, 1, 0, 0, 0), (261, none, .ifCond .ne 6, 3, 267, 0, 0), (264, none, .goto 62, 3, 326, 0, 0)] := fq_of2 cd_81 ow_81 cl_81 rfl (pc := 242) (by decide +kernel)
    j_ild (pc := 242) D rfl rfl rfl fun D =>
    j_aldn (pc := 244) D rfl rfl rfl fun D =>
    j_gf (pc := 245) (a := 303) D rfl rfl (by decide) rfl (s0_303 H) rfl fun D =>
    j_ige (pc := 248) D rfl (fun q D =>
      j_aldn (pc := 251) D rfl rfl rfl fun D =>
      j_gfc (pc := 252) (a := 303) D rfl rfl (by decide) rfl (s0_303 H) rfl (sf_279_303 H) fun D =>
      j_ild (pc := 255) D rfl rfl rfl fun D =>
      j_al (pc := 257) (a := 408) (e := 12) D rfl rfl rfl (by decide) (s0_408 H) (s1_408 H) ⟨rfl, rfl, rfl⟩ rfl gn fun qb1 D =>
      j_ild (pc := 258) D rfl rfl rfl fun D =>
      j_alb (pc := 260) H.2.1 D rfl rfl fun q q2 D =>
      j_ifne (pc := 261) D rfl (fun q D =>
        j_goto (pc := 264) D rfl <|
        fk_jump cut_81_326 rfl rfl) (fun q =>
        have D : fk_D 81 [(267, none, .iconst 0, 1, 0, 0, 0), (268, none, .istore 6, 2, 0, 0, 0)] := fq_of2 cd_81 ow_81 cl_81 rfl (pc := 267) (by decide +kernel)
        j_ic (pc := 267) D rfl fun D =>
        j_ist (pc := 268) (L' := [(6, (0, 0)), (0, (4, 303)), (4, (0, x4)), (5, (0, x5))]) D rfl nl_81 rfl rfl fun D =>
        fk_jump cut_81_270 rfl rfl)) (fun q =>
      have D : fk_D 81 [(332, none, .iinc 4 1, 3, 0, 1, 0), (335, none, .goto (-105), 3, 230, 0, 0)] := fq_of2 cd_81 ow_81 cl_81 rfl (pc := 332) (by decide +kernel)
      j_inc (pc := 332) (L' := [(4, (0, wI (x4 + 1))), (0, (4, 303)), (5, (0, x5))]) D rfl rfl rfl (by decide +kernel) rfl fun D =>
      j_goto (pc := 335) D rfl <|
      fk_jump cut_81_230 rfl rfl)
theorem e_81_270 (d : Nat) (x4 x5 x6 : Int) {h : fi_H} (H : Shp h) : c_81_270 d x4 x5 x6 h =
  if x6 < h 215 303 0 then
    if 0 ≤ x5 ∧ x5 < 40 then
    if fi_et 1 (h 0 (h 12 408 x5.toNat).toNat 0) ≠ 0 ∧ 0 ≤ x6 ∧ x6 < h 1 (h 12 408 x5.toNat).toNat 0 then
    if h (fi_et 1 (h 0 (h 12 408 x5.toNat).toNat 0)) (h 12 408 x5.toNat).toNat x6.toNat = 0 then
      if 0 ≤ x4 ∧ x4 < 40 then
      if fi_et 1 (h 0 (h 12 408 x4.toNat).toNat 0) ≠ 0 ∧ 0 ≤ x6 ∧ x6 < h 1 (h 12 408 x4.toNat).toNat 0 then
      if h (fi_et 1 (h 0 (h 12 408 x4.toNat).toNat 0)) (h 12 408 x4.toNat).toNat x6.toNat = 0 then
        c_81_319 d x4 x5 x6 (h 12 408 x5.toNat) x6 0 h
      else
        c_81_314 d x4 x5 x6 (h 12 408 x5.toNat) x6 h
      else none
      else none
    else
      c_81_314 d x4 x5 x6 (h 12 408 x5.toNat) x6 h
    else none
    else none
  else
    c_81_326 d x4 x5 h := by
  unfold c_81_270
  exact
    have D : fk_D 81 [(270, some [0, 4, 5, 6], .iload 6, 2, 0, 0, 0), (272, none, .aload_n 0, 1, 0, 0, 0), (273, none, .getfield 252, 3, 215, 100, 10), (276, none, .if_icmp .ge 50, 3, 326, 0, 0), (279, none, .aload_n 0, 1, 0, 0, 0), (280, none, .getfield 629, 3, 279, 100, 12), (283, none, .iload 5, 2, 0, 0, 0), (285, none, .aaload, 1, 0, 0, 0), (286, none, .iload 6, 2, 0, 0, 0), (288, none, .aload_n 0, 1, 0, 0, 0), (289, none, .getfield 629, 3, 279, 100, 12), (292, none, .iload 5, 2, 0, 0, 0), (294, none, .aaload, 1, 0, 0, 0), (295, none, .iload 6, 2, 0, 0, 0), (297, none, .baload, 1, 0, 0, 0), (298, none, .ifCond .ne 16, 3, 314, 0, 0), (301, none, .aload_n 0, 1, 0, 0, 0), (302, none, .getfield 629, 3, 279, 100, 12), (305, none, .iload 4, 2, 0, 0, 0), (307, none, .aaload, 1, 0, 0, 0)] := fq_of2 cd_81 ow_81 cl_81 rfl (pc := 270) (by decide +kernel)
    j_ild (pc := 270) D rfl rfl rfl fun D =>
    j_aldn (pc := 272) D rfl rfl rfl fun D =>
    j_gf (pc := 273) (a := 303) D rfl rfl (by decide) rfl (s0_303 H) rfl fun D =>
    j_ige (pc := 276) D rfl (fun q D =>
      j_aldn (pc := 279) D rfl rfl rfl fun D =>
      j_gfc (pc := 280) (a := 303) D rfl rfl (by decide) rfl (s0_303 H) rfl (sf_279_303 H) fun D =>
      j_ild (pc := 283) D rfl rfl rfl fun D =>
      j_al (pc := 285) (a := 408) (e := 12) D rfl rfl rfl (by decide) (s0_408 H) (s1_408 H) ⟨rfl, rfl, rfl⟩ rfl gn fun qb1 D =>
      j_ild (pc := 286) D rfl rfl rfl fun D =>
      j_aldn (pc := 288) D rfl rfl rfl fun D =>
      j_gfc (pc := 289) (a := 303) D rfl rfl (by decide) rfl (s0_303 H) rfl (sf_279_303 H) fun D =>
      j_ild (pc := 292) D rfl rfl rfl fun D =>
      j_al (pc := 294) (a := 408) (e := 12) D rfl rfl rfl (by decide) (s0_408 H) (s1_408 H) ⟨rfl, rfl, rfl⟩ rfl (gy qb1) fun q D =>
      j_ild (pc := 295) D rfl rfl rfl fun D =>
      j_alb (pc := 297) H.2.1 D rfl rfl fun q q2 D =>
      j_ifne (pc := 298) D rfl (fun q D =>
        j_aldn (pc := 301) D rfl rfl rfl fun D =>
        j_gfc (pc := 302) (a := 303) D rfl rfl (by decide) rfl (s0_303 H) rfl (sf_279_303 H) fun D =>
        j_ild (pc := 305) D rfl rfl rfl fun D =>
        j_al (pc := 307) (a := 408) (e := 12) D rfl rfl rfl (by decide) (s0_408 H) (s1_408 H) ⟨rfl, rfl, rfl⟩ rfl gn fun qb2 D =>
        have D : fk_D 81 [(308, none, .iload 6, 2, 0, 0, 0), (310, none, .baload, 1, 0, 0, 0), (311, none, .ifCond .eq 7, 3, 318, 0, 0)] := fq_of2 cd_81 ow_81 cl_81 rfl (pc := 308) (by decide +kernel)
        j_ild (pc := 308) D rfl rfl rfl fun D =>
        j_alb (pc := 310) H.2.1 D rfl rfl fun q q2 D =>
        j_ifeq (pc := 311) D rfl (fun q =>
          have D : fk_D 81 [(318, none, .iconst 0, 1, 0, 0, 0)] := fq_of2 cd_81 ow_81 cl_81 rfl (pc := 318) (by decide +kernel)
          j_ic (pc := 318) D rfl fun D =>
          fk_jump cut_81_319 rfl rfl) (fun q D =>
          fk_jump cut_81_314 rfl rfl)) (fun q =>
        fk_jump cut_81_314 rfl rfl)) (fun q =>
      fk_jump cut_81_326 rfl rfl)
theorem e_81_314 (d : Nat) (x4 x5 x6 s0 s1 : Int) {h : fi_H} (H : Shp h) : c_81_314 d x4 x5 x6 s0 s1 h =
  c_81_319 d x4 x5 x6 s0 s1 1 h := by
  unfold c_81_314
  exact
    have D : fk_D 81 [(314, some [0, 4, 5, 6], .iconst 1, 1, 0, 1, 0), (315, none, .goto 4, 3, 319, 0, 0)] := fq_of2 cd_81 ow_81 cl_81 rfl (pc := 314) (by decide +kernel)
    j_ic (pc := 314) D rfl fun D =>
    j_goto (pc := 315) D rfl <|
    fk_jump cut_81_319 rfl rfl
theorem e_81_319 (d : Nat) (x4 x5 x6 s0 s1 s2 : Int) {h : fi_H} (H : Shp h) : c_81_319 d x4 x5 x6 s0 s1 s2 h =
  if 302 < s0 ∧ fi_et 1 (h 0 s0.toNat 0) ≠ 0 then
  if 0 ≤ s1 ∧ s1 < h 1 s0.toNat 0 then
  if fi_rg (fi_et 1 (h 0 s0.toNat 0)) s2 = true then
  lt_ (fi_upd h (fi_et 1 (h 0 s0.toNat 0)) s0.toNat s1.toNat s2) fun h1 =>
  c_81_270 d x4 x5 (wI (x6 + 1)) h1
  else none
  else none
  else none := by
  unfold c_81_319
  exact
    have D : fk_D 81 [(319, some [0, 4, 5, 6], .bastore, 1, 0, 0, 0), (320, none, .iinc 6 1, 3, 0, 1, 0), (323, none, .goto (-53), 3, 270, 0, 0)] := fq_of2 cd_81 ow_81 cl_81 rfl (pc := 319) (by decide +kernel)
    j_asub (pc := 319) D rfl rfl gn gn gn fun h1 eh1 S q q2 D =>
    have T := fj_hs_ok H.1 S
    have H := shp_st H T
    j_inc (pc := 320) (L' := [(6, (0, wI (x6 + 1))), (0, (4, 303)), (4, (0, x4)), (5, (0, x5))]) D rfl rfl rfl (by decide +kernel) rfl fun D =>
    j_goto (pc := 323) D rfl <|
    fk_jump cut_81_270 rfl rfl
theorem e_81_326 (d : Nat) (x4 x5 : Int) {h : fi_H} (H : Shp h) : c_81_326 d x4 x5 h =
  c_81_242 d x4 (wI (x5 + 1)) h := by
  unfold c_81_326
  exact
    have D : fk_D 81 [(326, some [0, 4, 5], .iinc 5 1, 3, 0, 1, 0), (329, none, .goto (-87), 3, 242, 0, 0)] := fq_of2 cd_81 ow_81 cl_81 rfl (pc := 326) (by decide +kernel)
    j_inc (pc := 326) (L' := [(5, (0, wI (x5 + 1))), (0, (4, 303)), (4, (0, x4))]) D rfl rfl rfl (by decide +kernel) rfl fun D =>
    j_goto (pc := 329) D rfl <|
    fk_jump cut_81_242 rfl rfl
theorem e_81_341 (d : Nat) (x4 : Int) {h : fi_H} (H : Shp h) : c_81_341 d x4 h =
  if x4 < h 215 303 0 then
    if 0 ≤ x4 ∧ x4 < 40 then
    if fi_et 1 (h 0 (h 12 408 x4.toNat).toNat 0) ≠ 0 ∧ 0 ≤ x4 ∧ x4 < h 1 (h 12 408 x4.toNat).toNat 0 then
    if h (fi_et 1 (h 0 (h 12 408 x4.toNat).toNat 0)) (h 12 408 x4.toNat).toNat x4.toNat = 0 then
      c_81_341 d (wI (x4 + 1)) h
    else
      some (.inl (some (0, x4)), h)
    else none
    else none
  else
    some (.inl (some (0, (-1))), h) := by
  unfold c_81_341
  exact
    have D : fk_D 81 [(341, some [0, 4], .iload 4, 2, 0, 0, 0), (343, none, .aload_n 0, 1, 0, 0, 0), (344, none, .getfield 252, 3, 215, 100, 10), (347, none, .if_icmp .ge 25, 3, 372, 0, 0), (350, none, .aload_n 0, 1, 0, 0, 0), (351, none, .getfield 629, 3, 279, 100, 12), (354, none, .iload 4, 2, 0, 0, 0), (356, none, .aaload, 1, 0, 0, 0), (357, none, .iload 4, 2, 0, 0, 0), (359, none, .baload, 1, 0, 0, 0), (360, none, .ifCond .eq 6, 3, 366, 0, 0), (363, none, .iload 4, 2, 0, 0, 0), (365, none, .ireturn, 1, 0, 0, 0)] := fq_of2 cd_81 ow_81 cl_81 rfl (pc := 341) (by decide +kernel)
    j_ild (pc := 341) D rfl rfl rfl fun D =>
    j_aldn (pc := 343) D rfl rfl rfl fun D =>
    j_gf (pc := 344) (a := 303) D rfl rfl (by decide) rfl (s0_303 H) rfl fun D =>
    j_ige (pc := 347) D rfl (fun q D =>
      j_aldn (pc := 350) D rfl rfl rfl fun D =>
      j_gfc (pc := 351) (a := 303) D rfl rfl (by decide) rfl (s0_303 H) rfl (sf_279_303 H) fun D =>
      j_ild (pc := 354) D rfl rfl rfl fun D =>
      j_al (pc := 356) (a := 408) (e := 12) D rfl rfl rfl (by decide) (s0_408 H) (s1_408 H) ⟨rfl, rfl, rfl⟩ rfl gn fun qb1 D =>
      j_ild (pc := 357) D rfl rfl rfl fun D =>
      j_alb (pc := 359) H.2.1 D rfl rfl fun q q2 D =>
      j_ifeq (pc := 360) D rfl (fun q =>
        have D : fk_D 81 [(366, none, .iinc 4 1, 3, 0, 1, 0), (369, none, .goto (-28), 3, 341, 0, 0)] := fq_of2 cd_81 ow_81 cl_81 rfl (pc := 366) (by decide +kernel)
        j_inc (pc := 366) (L' := [(4, (0, wI (x4 + 1))), (0, (4, 303))]) D rfl rfl rfl (by decide +kernel) rfl fun D =>
        j_goto (pc := 369) D rfl <|
        fk_jump cut_81_341 rfl rfl) (fun q D =>
        j_ild (pc := 363) D rfl rfl rfl fun D =>
        j_iret D rt_81)) (fun q =>
      have D : fk_D 81 [(372, none, .iconst (-1), 1, 0, (-1), 0), (373, none, .ireturn, 1, 0, 0, 0)] := fq_of2 cd_81 ow_81 cl_81 rfl (pc := 372) (by decide +kernel)
      j_ic (pc := 372) D rfl fun D =>
      j_iret D rt_81)
theorem m_81 (d : Nat) (x1 x2 : Int) {h : fi_H} (H : Shp h) : fj_run (d + 1) 81 h [(4, 303), (0, x1), (0, x2)] =
  ca_ (fj_run d 1 h [(0, x1)]) 0
    (fun v2 h1 =>
    if v2 = 0 then
      some (.inl (some (0, (-2))), h1)
    else
      ca_ (fj_run d 2 h1 [(4, 303), (0, x2)]) 0
        (fun v5 h4 =>
        if v5 = 0 then
          some (.inl (some (0, (-2))), h4)
        else
          if 0 ≤ x1 ∧ x1 < 4 then
          dv_ (fi_vt 133 (h4 0 (h4 12 363 12).toNat 0)) fun m11 => cv_ (fj_run d m11 h4 [(4, h4 12 363 12), (4, h4 12 354 x1.toNat), (0, h4 239 303 0), (0, x2)])
            (fun h8 =>
            c_81_55 d (h4 12 363 12) 408 40 0 h8)
            (fun q10 h8 => tx_ q10 h8)
          else none)
        (fun q6 h4 => tx_ q6 h4))
    (fun q3 h1 => tx_ q3 h1) := by
  rw [fj_run_eq d (by decide) h [(4, 303), (0, x1), (0, x2)] (Nat.le_of_ble_eq_true (by rw [nl_81]; rfl))]
  show gG (fj_run d) 81 0 [(0, (4, 303)), (1, (0, x1)), (2, (0, x2))] [] h = _
  exact
    have D : fk_D 81 [(0, none, .iload_n 1, 1, 0, 0, 0), (1, none, .invokestatic 526, 3, 1, 1, 1), (4, none, .ifCond .eq 11, 3, 15, 0, 0), (7, none, .aload_n 0, 1, 0, 0, 0), (8, none, .iload_n 2, 1, 0, 0, 0), (9, none, .invokevirtual 121, 3, 1, 113, 1), (12, none, .ifCond .ne 6, 3, 18, 0, 0), (15, none, .bipush (-2), 2, 0, (-2), 0), (17, none, .ireturn, 1, 0, 0, 0)] := fq_of2 cd_81 ow_81 cl_81 rfl (pc := 0) (by decide +kernel)
    j_ildn (pc := 0) D rfl rfl rfl fun D =>
    j_is (pc := 1) (m := 1) (a := [(0, x1)]) (rest := []) D rfl rfl rfl rfl (fun v2 h1 e1 D =>
      have T := fj_run_ok _ _ _ _ _ _ H.1 e1
      have H := shp_st H T
      j_ifeq (pc := 4) D rfl (fun q =>
        have D : fk_D 81 [(15, none, .bipush (-2), 2, 0, (-2), 0), (17, none, .ireturn, 1, 0, 0, 0)] := fq_of2 cd_81 ow_81 cl_81 rfl (pc := 15) (by decide +kernel)
        j_bp (pc := 15) D rfl fun D =>
        j_iret D rt_81) (fun q D =>
        j_aldn (pc := 7) D rfl rfl rfl fun D =>
        j_ildn (pc := 8) D rfl rfl rfl fun D =>
        j_iv (pc := 9) (m := 2) (dd := 113) (a := [(0, x2)]) (rest := []) D rfl rfl rfl rfl rfl (by decide) (s0_303 H) (by decide +kernel) (fun v5 h4 e1 D =>
          have T := fj_run_ok _ _ _ _ _ _ H.1 e1
          have H := shp_st H T
          j_ifne (pc := 12) D rfl (fun q D =>
            j_bp (pc := 15) D rfl fun D =>
            j_iret D rt_81) (fun q =>
            have D : fk_D 81 [(18, none, .aload_n 0, 1, 0, 0, 0), (19, none, .getfield 348, 3, 248, 100, 12), (22, none, .bipush 12, 2, 0, 12, 0), (24, none, .aaload, 1, 0, 0, 0), (25, none, .astore_n 3, 1, 0, 0, 0), (26, none, .aload_n 3, 1, 0, 0, 0), (27, none, .aload_n 0, 1, 0, 0, 0), (28, none, .getfield 529, 3, 227, 100, 12), (31, none, .iload_n 1, 1, 0, 0, 0), (32, none, .aaload, 1, 0, 0, 0), (33, none, .aload_n 0, 1, 0, 0, 0), (34, none, .getfield 615, 3, 239, 100, 10), (37, none, .iload_n 2, 1, 0, 0, 0), (38, none, .invokevirtual 352, 3, 3, 133, 0), (41, none, .aload_n 0, 1, 0, 0, 0), (42, none, .getfield 629, 3, 279, 100, 12), (45, none, .astore 4, 2, 0, 0, 0), (47, none, .aload 4, 2, 0, 0, 0), (49, none, .arraylength, 1, 0, 0, 0), (50, none, .istore 5, 2, 0, 0, 0)] := fq_of2 cd_81 ow_81 cl_81 rfl (pc := 18) (by decide +kernel)
            j_aldn (pc := 18) D rfl rfl rfl fun D =>
            j_gfc (pc := 19) (a := 303) D rfl rfl (by decide) rfl (s0_303 H) rfl (sf_248_303 H) fun D =>
            j_bp (pc := 22) D rfl fun D =>
            j_al (pc := 24) (a := 363) (e := 12) D rfl rfl rfl (by decide) (s0_363 H) (s1_363 H) ⟨rfl, rfl, rfl⟩ rfl (gy (by decide)) fun q D =>
            j_astn (pc := 25) (L' := [(3, (4, h4 12 363 12)), (0, (4, 303)), (1, (0, x1)), (2, (0, x2))]) D rfl nl_81 rfl rfl fun D =>
            j_aldn (pc := 26) D rfl rfl rfl fun D =>
            j_aldn (pc := 27) D rfl rfl rfl fun D =>
            j_gfc (pc := 28) (a := 303) D rfl rfl (by decide) rfl (s0_303 H) rfl (sf_227_303 H) fun D =>
            j_ildn (pc := 31) D rfl rfl rfl fun D =>
            j_al (pc := 32) (a := 354) (e := 12) D rfl rfl rfl (by decide) (s0_354 H) (s1_354 H) ⟨rfl, rfl, rfl⟩ rfl gn fun qb7 D =>
            j_aldn (pc := 33) D rfl rfl rfl fun D =>
            j_gf (pc := 34) (a := 303) D rfl rfl (by decide) rfl (s0_303 H) rfl fun D =>
            j_ildn (pc := 37) D rfl rfl rfl fun D =>
            j_ivuv (pc := 38) (dd := 133) (a := [(4, h4 12 354 x1.toNat), (0, h4 239 303 0), (0, x2)]) (rest := []) H.2.1 D rfl rfl rfl rfl rfl (fun m11 h8 e1 D =>
              have T := fj_run_ok _ _ _ _ _ _ H.1 e1
              have H := shp_st H T
              j_aldn (pc := 41) D rfl rfl rfl fun D =>
              j_gfc (pc := 42) (a := 303) D rfl rfl (by decide) rfl (s0_303 H) rfl (sf_279_303 H) fun D =>
              j_ast (pc := 45) (L' := [(4, (4, 408)), (3, (4, h4 12 363 12)), (0, (4, 303)), (1, (0, x1)), (2, (0, x2))]) D rfl nl_81 rfl rfl fun D =>
              j_ald (pc := 47) D rfl rfl rfl fun D =>
              j_len (pc := 49) (a := 408) D rfl rfl (by decide) (s0_408 H) rfl (s1_408 H) fun D =>
              j_ist (pc := 50) (L' := [(5, (0, 40)), (4, (4, 408)), (3, (4, h4 12 363 12)), (0, (4, 303)), (1, (0, x1)), (2, (0, x2))]) D rfl nl_81 rfl rfl fun D =>
              have D : fk_D 81 [(52, none, .iconst 0, 1, 0, 0, 0), (53, none, .istore 6, 2, 0, 0, 0)] := fq_of2 cd_81 ow_81 cl_81 rfl (pc := 52) (by decide +kernel)
              j_ic (pc := 52) D rfl fun D =>
              j_ist (pc := 53) (L' := [(6, (0, 0)), (5, (0, 40)), (4, (4, 408)), (3, (4, h4 12 363 12)), (0, (4, 303)), (1, (0, x1)), (2, (0, x2))]) D rfl nl_81 rfl rfl fun D =>
              fk_jump cut_81_55 rfl rfl) (fun m11 q10 h8 e1 =>
              j_tx (hx_81 _)))) (fun q6 h4 e1 =>
          j_tx (hx_81 _)))) (fun q3 h1 e1 =>
      j_tx (hx_81 _))
/-! 82 StatuteHouse$Call.uses([Z)V -/
theorem cd_82 : fi_code 82 = prog_4_method_5_code := rfl
theorem hx_82 : ∀ pc, fi_hat 82 pc = none := fun pc => by unfold fi_hat; rw [show fi_hh 82 = [] from rfl]; rfl
theorem rt_82 : fi_ret 82 = none := rfl
theorem nl_82 : fi_nl 82 = 6 := rfl
theorem ow_82 : fi_ow 82 = 2 := rfl
theorem cl_82 : fj_cutT.getD 82 [] = [(11, [1, 2, 3, 4])] := rfl
theorem cut_82_11 : fj_cut 82 11 = some [1, 2, 3, 4] := by decide +kernel
noncomputable def c_82_11 (d : Nat) (x1 x2 x3 x4 : Int) (h : fi_H) : fk_R := gG (fj_run d) 82 11 [(1, (4, x1)), (2, (4, x2)), (3, (0, x3)), (4, (0, x4))] [] h
theorem e_82_11 (d : Nat) (x1 x2 x3 x4 : Int) {h : fi_H} (H : Shp h) : c_82_11 d x1 x2 x3 x4 h =
  if x4 < x3 then
    if (20 ≤ h 0 x2.toNat 0 ∧ h 0 x2.toNat 0 < 30) ∧ 0 ≤ x4 ∧ x4 < h 1 x2.toNat 0 then
    dv_ (fi_vt 157 (h 0 (h 12 x2.toNat x4.toNat).toNat 0)) fun m4 => cv_ (fj_run d m4 h [(4, h 12 x2.toNat x4.toNat), (4, x1)])
      (fun h1 =>
      c_82_11 d x1 x2 x3 (wI (x4 + 1)) h1)
      (fun q3 h1 => tx_ q3 h1)
    else none
  else
    some (.inl none, h) := by
  unfold c_82_11
  exact
    have D : fk_D 82 [(11, some [1, 2, 3, 4], .iload 4, 2, 0, 0, 0), (13, none, .iload_n 3, 1, 0, 0, 0), (14, none, .if_icmp .ge 21, 3, 35, 0, 0), (17, none, .aload_n 2, 1, 0, 0, 0), (18, none, .iload 4, 2, 0, 0, 0), (20, none, .aaload, 1, 0, 0, 0), (21, none, .astore 5, 2, 0, 0, 0), (23, none, .aload 5, 2, 0, 0, 0), (25, none, .aload_n 1, 1, 0, 0, 0), (26, none, .invokevirtual 84, 3, 1, 157, 0), (29, none, .iinc 4 1, 3, 0, 1, 0), (32, none, .goto (-21), 3, 11, 0, 0)] := fq_of2 cd_82 ow_82 cl_82 rfl (pc := 11) (by decide +kernel)
    j_ild (pc := 11) D rfl rfl rfl fun D =>
    j_ildn (pc := 13) D rfl rfl rfl fun D =>
    j_ige (pc := 14) D rfl (fun q D =>
      j_aldn (pc := 17) D rfl rfl rfl fun D =>
      j_ild (pc := 18) D rfl rfl rfl fun D =>
      j_alr (pc := 20) H.2.1 D rfl rfl fun q q2 D =>
      j_ast (pc := 21) (L' := [(5, (4, h 12 x2.toNat x4.toNat)), (1, (4, x1)), (2, (4, x2)), (3, (0, x3)), (4, (0, x4))]) D rfl nl_82 rfl rfl fun D =>
      j_ald (pc := 23) D rfl rfl rfl fun D =>
      j_aldn (pc := 25) D rfl rfl rfl fun D =>
      j_ivuv (pc := 26) (dd := 157) (a := [(4, x1)]) (rest := []) H.2.1 D rfl rfl rfl rfl rfl (fun m4 h1 e1 D =>
        have T := fj_run_ok _ _ _ _ _ _ H.1 e1
        have H := shp_st H T
        j_inc (pc := 29) (L' := [(4, (0, wI (x4 + 1))), (5, (4, h 12 x2.toNat x4.toNat)), (1, (4, x1)), (2, (4, x2)), (3, (0, x3))]) D rfl rfl rfl (by decide +kernel) rfl fun D =>
        j_goto (pc := 32) D rfl <|
        fk_jump cut_82_11 rfl rfl) (fun m4 q3 h1 e1 =>
        j_tx (hx_82 _))) (fun q =>
      have D : fk_D 82 [(35, none, .return_, 1, 0, 0, 0)] := fq_of2 cd_82 ow_82 cl_82 rfl (pc := 35) (by decide +kernel)
      j_vret D rt_82)
theorem m_82 (d : Nat) (x0 x1 : Int) {h : fi_H} (H : Shp h) (hk : h 0 x0.toNat 0 = 102) (ht363 : h 363 x0.toNat 0 = 303) : fj_run (d + 1) 82 h [(4, x0), (4, x1)] =
  if fk_isA (h 0 (h 362 x0.toNat 0).toNat 0) = true then
  c_82_11 d x1 (h 362 x0.toNat 0) (h 1 (h 362 x0.toNat 0).toNat 0) 0 h
  else none := by
  rw [fj_run_eq d (by decide) h [(4, x0), (4, x1)] (Nat.le_of_ble_eq_true (by rw [nl_82]; rfl))]
  show gG (fj_run d) 82 0 [(0, (4, x0)), (1, (4, x1))] [] h = _
  exact
    have D : fk_D 82 [(0, none, .aload_n 0, 1, 0, 0, 0), (1, none, .getfield 23, 3, 362, 102, 12), (4, none, .astore_n 2, 1, 0, 0, 0), (5, none, .aload_n 2, 1, 0, 0, 0), (6, none, .arraylength, 1, 0, 0, 0), (7, none, .istore_n 3, 1, 0, 0, 0), (8, none, .iconst 0, 1, 0, 0, 0), (9, none, .istore 4, 2, 0, 0, 0)] := fq_of2 cd_82 ow_82 cl_82 rfl (pc := 0) (by decide +kernel)
    j_aldn (pc := 0) D rfl rfl rfl fun D =>
    j_gf (pc := 1) (a := x0.toNat) D rfl rfl (nz_cls H.2.1 hk (by decide)) rfl hk rfl fun D =>
    j_astn (pc := 4) (L' := [(2, (4, h 362 x0.toNat 0)), (0, (4, x0)), (1, (4, x1))]) D rfl nl_82 rfl rfl fun D =>
    j_aldn (pc := 5) D rfl rfl rfl fun D =>
    j_lenu (pc := 6) H.2.1 D rfl fun q D =>
    j_istn (pc := 7) (L' := [(3, (0, h 1 (h 362 x0.toNat 0).toNat 0)), (2, (4, h 362 x0.toNat 0)), (0, (4, x0)), (1, (4, x1))]) D rfl nl_82 rfl rfl fun D =>
    j_ic (pc := 8) D rfl fun D =>
    j_ist (pc := 9) (L' := [(4, (0, 0)), (3, (0, h 1 (h 362 x0.toNat 0).toNat 0)), (2, (4, h 362 x0.toNat 0)), (0, (4, x0)), (1, (4, x1))]) D rfl nl_82 rfl rfl fun D =>
    fk_jump cut_82_11 rfl rfl
/-! 83 StatuteHouse$Months.uses([Z)V -/
theorem cd_83 : fi_code 83 = prog_47_method_5_code := rfl
theorem hx_83 : ∀ pc, fi_hat 83 pc = none := fun pc => by unfold fi_hat; rw [show fi_hh 83 = [] from rfl]; rfl
theorem rt_83 : fi_ret 83 = none := rfl
theorem nl_83 : fi_nl 83 = 2 := rfl
theorem ow_83 : fi_ow 83 = 11 := rfl
theorem cl_83 : fj_cutT.getD 83 [] = [] := rfl
theorem m_83 (d : Nat) (x0 x1 : Int) {h : fi_H} (H : Shp h) (hk : h 0 x0.toNat 0 = 111) (ht352 : h 352 x0.toNat 0 = 303) : fj_run (d + 1) 83 h [(4, x0), (4, x1)] =
  dv_ (fi_vt 157 (h 0 (h 350 x0.toNat 0).toNat 0)) fun m4 => cv_ (fj_run d m4 h [(4, h 350 x0.toNat 0), (4, x1)])
    (fun h1 =>
    dv_ (fi_vt 157 (h1 0 (h1 351 x0.toNat 0).toNat 0)) fun m8 => cv_ (fj_run d m8 h1 [(4, h1 351 x0.toNat 0), (4, x1)])
      (fun h5 =>
      some (.inl none, h5))
      (fun q7 h5 => tx_ q7 h5))
    (fun q3 h1 => tx_ q3 h1) := by
  rw [fj_run_eq d (by decide) h [(4, x0), (4, x1)] (Nat.le_of_ble_eq_true (by rw [nl_83]; rfl))]
  show gG (fj_run d) 83 0 [(0, (4, x0)), (1, (4, x1))] [] h = _
  exact
    have D : fk_D 83 [(0, none, .aload_n 0, 1, 0, 0, 0), (1, none, .getfield 33, 3, 350, 111, 12), (4, none, .aload_n 1, 1, 0, 0, 0), (5, none, .invokevirtual 111, 3, 1, 157, 0), (8, none, .aload_n 0, 1, 0, 0, 0), (9, none, .getfield 36, 3, 351, 111, 12), (12, none, .aload_n 1, 1, 0, 0, 0), (13, none, .invokevirtual 111, 3, 1, 157, 0), (16, none, .return_, 1, 0, 0, 0)] := fq_of2 cd_83 ow_83 cl_83 rfl (pc := 0) (by decide +kernel)
    j_aldn (pc := 0) D rfl rfl rfl fun D =>
    j_gf (pc := 1) (a := x0.toNat) D rfl rfl (nz_cls H.2.1 hk (by decide)) rfl hk rfl fun D =>
    j_aldn (pc := 4) D rfl rfl rfl fun D =>
    j_ivuv (pc := 5) (dd := 157) (a := [(4, x1)]) (rest := []) H.2.1 D rfl rfl rfl rfl rfl (fun m4 h1 e1 D =>
      have T := fj_run_ok _ _ _ _ _ _ H.1 e1
      have ht352 := fin_st H.1 T.2 hk (by decide) (by decide +kernel) ht352 (by decide)
      have hk := cls_st H.1 T.2 hk (by decide)
      have H := shp_st H T
      j_aldn (pc := 8) D rfl rfl rfl fun D =>
      j_gf (pc := 9) (a := x0.toNat) D rfl rfl (nz_cls H.2.1 hk (by decide)) rfl hk rfl fun D =>
      j_aldn (pc := 12) D rfl rfl rfl fun D =>
      j_ivuv (pc := 13) (dd := 157) (a := [(4, x1)]) (rest := []) H.2.1 D rfl rfl rfl rfl rfl (fun m8 h5 e1 D =>
        have T := fj_run_ok _ _ _ _ _ _ H.1 e1
        have ht352 := fin_st H.1 T.2 hk (by decide) (by decide +kernel) ht352 (by decide)
        have hk := cls_st H.1 T.2 hk (by decide)
        have H := shp_st H T
        j_vret D rt_83) (fun m8 q7 h5 e1 =>
        j_tx (hx_83 _))) (fun m4 q3 h1 e1 =>
      j_tx (hx_83 _))
/-! 84 StatuteHouse$One.uses([Z)V -/
theorem cd_84 : fi_code 84 = prog_49_method_5_code := rfl
theorem hx_84 : ∀ pc, fi_hat 84 pc = none := fun pc => by unfold fi_hat; rw [show fi_hh 84 = [] from rfl]; rfl
theorem rt_84 : fi_ret 84 = none := rfl
theorem nl_84 : fi_nl 84 = 2 := rfl
theorem ow_84 : fi_ow 84 = 12 := rfl
theorem cl_84 : fj_cutT.getD 84 [] = [] := rfl
theorem m_84 (d : Nat) (x0 x1 : Int) {h : fi_H} (H : Shp h) (hk : h 0 x0.toNat 0 = 112) (ht371 : h 371 x0.toNat 0 = 303) : fj_run (d + 1) 84 h [(4, x0), (4, x1)] =
  dv_ (fi_vt 157 (h 0 (h 370 x0.toNat 0).toNat 0)) fun m4 => cv_ (fj_run d m4 h [(4, h 370 x0.toNat 0), (4, x1)])
    (fun h1 =>
    some (.inl none, h1))
    (fun q3 h1 => tx_ q3 h1) := by
  rw [fj_run_eq d (by decide) h [(4, x0), (4, x1)] (Nat.le_of_ble_eq_true (by rw [nl_84]; rfl))]
  show gG (fj_run d) 84 0 [(0, (4, x0)), (1, (4, x1))] [] h = _
  exact
    have D : fk_D 84 [(0, none, .aload_n 0, 1, 0, 0, 0), (1, none, .getfield 21, 3, 370, 112, 12), (4, none, .aload_n 1, 1, 0, 0, 0), (5, none, .invokevirtual 105, 3, 1, 157, 0), (8, none, .return_, 1, 0, 0, 0)] := fq_of2 cd_84 ow_84 cl_84 rfl (pc := 0) (by decide +kernel)
    j_aldn (pc := 0) D rfl rfl rfl fun D =>
    j_gf (pc := 1) (a := x0.toNat) D rfl rfl (nz_cls H.2.1 hk (by decide)) rfl hk rfl fun D =>
    j_aldn (pc := 4) D rfl rfl rfl fun D =>
    j_ivuv (pc := 5) (dd := 157) (a := [(4, x1)]) (rest := []) H.2.1 D rfl rfl rfl rfl rfl (fun m4 h1 e1 D =>
      have T := fj_run_ok _ _ _ _ _ _ H.1 e1
      have ht371 := fin_st H.1 T.2 hk (by decide) (by decide +kernel) ht371 (by decide)
      have hk := cls_st H.1 T.2 hk (by decide)
      have H := shp_st H T
      j_vret D rt_84) (fun m4 q3 h1 e1 =>
      j_tx (hx_84 _))
/-! 85 StatuteHouse$TablePart.uses([Z)V -/
theorem cd_85 : fi_code 85 = prog_61_method_9_code := rfl
theorem hx_85 : ∀ pc, fi_hat 85 pc = none := fun pc => by unfold fi_hat; rw [show fi_hh 85 = [] from rfl]; rfl
theorem rt_85 : fi_ret 85 = none := rfl
theorem nl_85 : fi_nl 85 = 2 := rfl
theorem ow_85 : fi_ow 85 = 22 := rfl
theorem cl_85 : fj_cutT.getD 85 [] = [] := rfl
theorem m_85 (d : Nat) (x0 x1 : Int) {h : fi_H} (H : Shp h) (hk : h 0 x0.toNat 0 = 122) (ht360 : h 360 x0.toNat 0 = 303) : fj_run (d + 1) 85 h [(4, x0), (4, x1)] =
  dv_ (fi_vt 157 (h 0 (h 359 x0.toNat 0).toNat 0)) fun m4 => cv_ (fj_run d m4 h [(4, h 359 x0.toNat 0), (4, x1)])
    (fun h1 =>
    some (.inl none, h1))
    (fun q3 h1 => tx_ q3 h1) := by
  rw [fj_run_eq d (by decide) h [(4, x0), (4, x1)] (Nat.le_of_ble_eq_true (by rw [nl_85]; rfl))]
  show gG (fj_run d) 85 0 [(0, (4, x0)), (1, (4, x1))] [] h = _
  exact
    have D : fk_D 85 [(0, none, .aload_n 0, 1, 0, 0, 0), (1, none, .getfield 26, 3, 359, 122, 12), (4, none, .aload_n 1, 1, 0, 0, 0), (5, none, .invokevirtual 147, 3, 1, 157, 0), (8, none, .return_, 1, 0, 0, 0)] := fq_of2 cd_85 ow_85 cl_85 rfl (pc := 0) (by decide +kernel)
    j_aldn (pc := 0) D rfl rfl rfl fun D =>
    j_gf (pc := 1) (a := x0.toNat) D rfl rfl (nz_cls H.2.1 hk (by decide)) rfl hk rfl fun D =>
    j_aldn (pc := 4) D rfl rfl rfl fun D =>
    j_ivuv (pc := 5) (dd := 157) (a := [(4, x1)]) (rest := []) H.2.1 D rfl rfl rfl rfl rfl (fun m4 h1 e1 D =>
      have T := fj_run_ok _ _ _ _ _ _ H.1 e1
      have ht360 := fin_st H.1 T.2 hk (by decide) (by decide +kernel) ht360 (by decide)
      have hk := cls_st H.1 T.2 hk (by decide)
      have H := shp_st H T
      j_vret D rt_85) (fun m4 q3 h1 e1 =>
      j_tx (hx_85 _))
/-! 86 StatuteHouse$TermPart.uses([Z)V -/
theorem cd_86 : fi_code 86 = prog_62_method_3_code := rfl
theorem hx_86 : ∀ pc, fi_hat 86 pc = none := fun pc => by unfold fi_hat; rw [show fi_hh 86 = [] from rfl]; rfl
theorem rt_86 : fi_ret 86 = none := rfl
theorem nl_86 : fi_nl 86 = 2 := rfl
theorem ow_86 : fi_ow 86 = 23 := rfl
theorem cl_86 : fj_cutT.getD 86 [] = [] := rfl
theorem m_86 (d : Nat) (x0 x1 : Int) {h : fi_H} (H : Shp h) (hk : h 0 x0.toNat 0 = 123) (ht364 : h 364 x0.toNat 0 = 303) : fj_run (d + 1) 86 h [(4, x0), (4, x1)] =
  if 302 < x1 ∧ fi_et 1 (h 0 x1.toNat 0) ≠ 0 then
  if 0 ≤ h 347 x0.toNat 0 ∧ h 347 x0.toNat 0 < h 1 x1.toNat 0 then
  if fi_rg (fi_et 1 (h 0 x1.toNat 0)) 1 = true then
  lt_ (fi_upd h (fi_et 1 (h 0 x1.toNat 0)) x1.toNat (h 347 x0.toNat 0).toNat 1) fun h1 =>
  some (.inl none, h1)
  else none
  else none
  else none := by
  rw [fj_run_eq d (by decide) h [(4, x0), (4, x1)] (Nat.le_of_ble_eq_true (by rw [nl_86]; rfl))]
  show gG (fj_run d) 86 0 [(0, (4, x0)), (1, (4, x1))] [] h = _
  exact
    have D : fk_D 86 [(0, none, .aload_n 1, 1, 0, 0, 0), (1, none, .aload_n 0, 1, 0, 0, 0), (2, none, .getfield 29, 3, 347, 123, 10), (5, none, .iconst 1, 1, 0, 1, 0), (6, none, .bastore, 1, 0, 0, 0), (7, none, .return_, 1, 0, 0, 0)] := fq_of2 cd_86 ow_86 cl_86 rfl (pc := 0) (by decide +kernel)
    j_aldn (pc := 0) D rfl rfl rfl fun D =>
    j_aldn (pc := 1) D rfl rfl rfl fun D =>
    j_gf (pc := 2) (a := x0.toNat) D rfl rfl (nz_cls H.2.1 hk (by decide)) rfl hk rfl fun D =>
    j_ic (pc := 5) D rfl fun D =>
    j_asub (pc := 6) D rfl rfl gn gn gn fun h1 eh1 S q q2 D =>
    have T := fj_hs_ok H.1 S
    have ht364 := fin_st H.1 T.2 hk (by decide) (by decide +kernel) ht364 (by decide)
    have hk := cls_st H.1 T.2 hk (by decide)
    have H := shp_st H T
    j_vret D rt_86
/-! 87 StatuteHouse$Two.uses([Z)V -/
theorem cd_87 : fi_code 87 = prog_64_method_7_code := rfl
theorem hx_87 : ∀ pc, fi_hat 87 pc = none := fun pc => by unfold fi_hat; rw [show fi_hh 87 = [] from rfl]; rfl
theorem rt_87 : fi_ret 87 = none := rfl
theorem nl_87 : fi_nl 87 = 2 := rfl
theorem ow_87 : fi_ow 87 = 25 := rfl
theorem cl_87 : fj_cutT.getD 87 [] = [(28, [0, 1])] := rfl
theorem cut_87_28 : fj_cut 87 28 = some [0, 1] := by decide +kernel
noncomputable def c_87_28 (d : Nat) (x0 x1 : Int) (h : fi_H) : fk_R := gG (fj_run d) 87 28 [(0, (4, x0)), (1, (4, x1))] [] h
theorem e_87_28 (d : Nat) (x0 x1 : Int) {h : fi_H} (H : Shp h) (hk : h 0 x0.toNat 0 = 125) (ht369 : h 369 x0.toNat 0 = 303) : c_87_28 d x0 x1 h =
  dv_ (fi_vt 157 (h 0 (h 368 x0.toNat 0).toNat 0)) fun m4 => cv_ (fj_run d m4 h [(4, h 368 x0.toNat 0), (4, x1)])
    (fun h1 =>
    some (.inl none, h1))
    (fun q3 h1 => tx_ q3 h1) := by
  unfold c_87_28
  exact
    have D : fk_D 87 [(28, some [0, 1], .aload_n 0, 1, 0, 0, 0), (29, none, .getfield 41, 3, 368, 125, 12), (32, none, .aload_n 1, 1, 0, 0, 0), (33, none, .invokevirtual 146, 3, 1, 157, 0), (36, none, .return_, 1, 0, 0, 0)] := fq_of2 cd_87 ow_87 cl_87 rfl (pc := 28) (by decide +kernel)
    j_aldn (pc := 28) D rfl rfl rfl fun D =>
    j_gf (pc := 29) (a := x0.toNat) D rfl rfl (nz_cls H.2.1 hk (by decide)) rfl hk rfl fun D =>
    j_aldn (pc := 32) D rfl rfl rfl fun D =>
    j_ivuv (pc := 33) (dd := 157) (a := [(4, x1)]) (rest := []) H.2.1 D rfl rfl rfl rfl rfl (fun m4 h1 e1 D =>
      have T := fj_run_ok _ _ _ _ _ _ H.1 e1
      have ht369 := fin_st H.1 T.2 hk (by decide) (by decide +kernel) ht369 (by decide)
      have hk := cls_st H.1 T.2 hk (by decide)
      have H := shp_st H T
      j_vret D rt_87) (fun m4 q3 h1 e1 =>
      j_tx (hx_87 _))
theorem m_87 (d : Nat) (x0 x1 : Int) {h : fi_H} (H : Shp h) (hk : h 0 x0.toNat 0 = 125) (ht369 : h 369 x0.toNat 0 = 303) : fj_run (d + 1) 87 h [(4, x0), (4, x1)] =
  if h 366 x0.toNat 0 = 28 then
    c_87_28 d x0 x1 h
  else
    if h 366 x0.toNat 0 = 29 then
      c_87_28 d x0 x1 h
    else
      dv_ (fi_vt 157 (h 0 (h 367 x0.toNat 0).toNat 0)) fun m4 => cv_ (fj_run d m4 h [(4, h 367 x0.toNat 0), (4, x1)])
        (fun h1 =>
        c_87_28 d x0 x1 h1)
        (fun q3 h1 => tx_ q3 h1) := by
  rw [fj_run_eq d (by decide) h [(4, x0), (4, x1)] (Nat.le_of_ble_eq_true (by rw [nl_87]; rfl))]
  show gG (fj_run d) 87 0 [(0, (4, x0)), (1, (4, x1))] [] h = _
  exact
    have D : fk_D 87 [(0, none, .aload_n 0, 1, 0, 0, 0), (1, none, .getfield 33, 3, 366, 125, 12), (4, none, .getstatic 140, 3, 4, 28, 0), (7, none, .if_acmp .eq 21, 3, 28, 0, 0), (10, none, .aload_n 0, 1, 0, 0, 0), (11, none, .getfield 33, 3, 366, 125, 12), (14, none, .getstatic 143, 3, 4, 29, 0), (17, none, .if_acmp .eq 11, 3, 28, 0, 0), (20, none, .aload_n 0, 1, 0, 0, 0), (21, none, .getfield 37, 3, 367, 125, 12), (24, none, .aload_n 1, 1, 0, 0, 0), (25, none, .invokevirtual 146, 3, 1, 157, 0)] := fq_of2 cd_87 ow_87 cl_87 rfl (pc := 0) (by decide +kernel)
    j_aldn (pc := 0) D rfl rfl rfl fun D =>
    j_gf (pc := 1) (a := x0.toNat) D rfl rfl (nz_cls H.2.1 hk (by decide)) rfl hk rfl fun D =>
    j_gs (pc := 4) D rfl fun D =>
    j_aeq (pc := 7) D rfl (fun q =>
      fk_jump cut_87_28 rfl rfl) (fun q D =>
      j_aldn (pc := 10) D rfl rfl rfl fun D =>
      j_gf (pc := 11) (a := x0.toNat) D rfl rfl (nz_cls H.2.1 hk (by decide)) rfl hk rfl fun D =>
      j_gs (pc := 14) D rfl fun D =>
      j_aeq (pc := 17) D rfl (fun q =>
        fk_jump cut_87_28 rfl rfl) (fun q D =>
        j_aldn (pc := 20) D rfl rfl rfl fun D =>
        j_gf (pc := 21) (a := x0.toNat) D rfl rfl (nz_cls H.2.1 hk (by decide)) rfl hk rfl fun D =>
        j_aldn (pc := 24) D rfl rfl rfl fun D =>
        j_ivuv (pc := 25) (dd := 157) (a := [(4, x1)]) (rest := []) H.2.1 D rfl rfl rfl rfl rfl (fun m4 h1 e1 D =>
          have T := fj_run_ok _ _ _ _ _ _ H.1 e1
          have ht369 := fin_st H.1 T.2 hk (by decide) (by decide +kernel) ht369 (by decide)
          have hk := cls_st H.1 T.2 hk (by decide)
          have H := shp_st H T
          fk_jump cut_87_28 rfl rfl) (fun m4 q3 h1 e1 =>
          j_tx (hx_87 _))))
/-! 88 StatuteHouse$Part.uses([Z)V -/
theorem cd_88 : fi_code 88 = prog_50_method_5_code := rfl
theorem hx_88 : ∀ pc, fi_hat 88 pc = none := fun pc => by unfold fi_hat; rw [show fi_hh 88 = [] from rfl]; rfl
theorem rt_88 : fi_ret 88 = none := rfl
theorem nl_88 : fi_nl 88 = 2 := rfl
theorem ow_88 : fi_ow 88 = 66 := rfl
theorem cl_88 : fj_cutT.getD 88 [] = [] := rfl
theorem m_88 (d : Nat) (x0 x1 : Int) {h : fi_H} {k0 : Int} (H : Shp h) (hk : h 0 x0.toNat 0 = k0) (hk0 : k0 ≠ 0) (ht343 : h 343 x0.toNat 0 = 303) : fj_run (d + 1) 88 h [(4, x0), (4, x1)] =
  some (.inl none, h) := by
  rw [fj_run_eq d (by decide) h [(4, x0), (4, x1)] (Nat.le_of_ble_eq_true (by rw [nl_88]; rfl))]
  show gG (fj_run d) 88 0 [(0, (4, x0)), (1, (4, x1))] [] h = _
  exact
    have D : fk_D 88 [(0, none, .return_, 1, 0, 0, 0)] := fq_of2 cd_88 ow_88 cl_88 rfl (pc := 0) (by decide +kernel)
    j_vret D rt_88
/-! 89 StatuteHouse.<init>()V -/
theorem cd_89 : fi_code 89 = prog_1_method_55_code := rfl
theorem hx_89 : ∀ pc, fi_hat 89 pc = none := fun pc => by unfold fi_hat; rw [show fi_hh 89 = [] from rfl]; rfl
theorem rt_89 : fi_ret 89 = none := rfl
theorem nl_89 : fi_nl 89 = 2 := rfl
theorem ow_89 : fi_ow 89 = 0 := rfl
theorem cl_89 : fj_cutT.getD 89 [] = [(78, [0]), (150, [0]), (215, [0]), (264, [0]), (336, [0]), (411, [0]), (456, [0]), (531, [0]), (601, [0]), (669, [0]), (716, [0, 1]), (742, [0, 1]), (773, [0, 1])] := rfl
theorem cut_89_78 : fj_cut 89 78 = some [0] := by decide +kernel
noncomputable def c_89_78 (d : Nat) (x0 : Int) (h : fi_H) : fk_R := gG (fj_run d) 89 78 [(0, (4, x0))] [] h
theorem cut_89_150 : fj_cut 89 150 = some [0] := by decide +kernel
noncomputable def c_89_150 (d : Nat) (x0 : Int) (h : fi_H) : fk_R := gG (fj_run d) 89 150 [(0, (4, x0))] [] h
theorem cut_89_215 : fj_cut 89 215 = some [0] := by decide +kernel
noncomputable def c_89_215 (d : Nat) (x0 : Int) (h : fi_H) : fk_R := gG (fj_run d) 89 215 [(0, (4, x0))] [] h
theorem cut_89_264 : fj_cut 89 264 = some [0] := by decide +kernel
noncomputable def c_89_264 (d : Nat) (x0 : Int) (h : fi_H) : fk_R := gG (fj_run d) 89 264 [(0, (4, x0))] [] h
theorem cut_89_336 : fj_cut 89 336 = some [0] := by decide +kernel
noncomputable def c_89_336 (d : Nat) (x0 : Int) (h : fi_H) : fk_R := gG (fj_run d) 89 336 [(0, (4, x0))] [] h
theorem cut_89_411 : fj_cut 89 411 = some [0] := by decide +kernel
noncomputable def c_89_411 (d : Nat) (x0 : Int) (h : fi_H) : fk_R := gG (fj_run d) 89 411 [(0, (4, x0))] [] h
theorem cut_89_456 : fj_cut 89 456 = some [0] := by decide +kernel
noncomputable def c_89_456 (d : Nat) (x0 : Int) (h : fi_H) : fk_R := gG (fj_run d) 89 456 [(0, (4, x0))] [] h
theorem cut_89_531 : fj_cut 89 531 = some [0] := by decide +kernel
noncomputable def c_89_531 (d : Nat) (x0 : Int) (h : fi_H) : fk_R := gG (fj_run d) 89 531 [(0, (4, x0))] [] h
theorem cut_89_601 : fj_cut 89 601 = some [0] := by decide +kernel
noncomputable def c_89_601 (d : Nat) (x0 : Int) (h : fi_H) : fk_R := gG (fj_run d) 89 601 [(0, (4, x0))] [] h
theorem cut_89_669 : fj_cut 89 669 = some [0] := by decide +kernel
noncomputable def c_89_669 (d : Nat) (x0 : Int) (h : fi_H) : fk_R := gG (fj_run d) 89 669 [(0, (4, x0))] [] h
theorem cut_89_716 : fj_cut 89 716 = some [0, 1] := by decide +kernel
noncomputable def c_89_716 (d : Nat) (x0 x1 : Int) (h : fi_H) : fk_R := gG (fj_run d) 89 716 [(0, (4, x0)), (1, (0, x1))] [] h
theorem cut_89_742 : fj_cut 89 742 = some [0, 1] := by decide +kernel
noncomputable def c_89_742 (d : Nat) (x0 x1 : Int) (h : fi_H) : fk_R := gG (fj_run d) 89 742 [(0, (4, x0)), (1, (0, x1))] [] h
theorem cut_89_773 : fj_cut 89 773 = some [0, 1] := by decide +kernel
noncomputable def c_89_773 (d : Nat) (x0 x1 : Int) (h : fi_H) : fk_R := gG (fj_run d) 89 773 [(0, (4, x0)), (1, (0, x1))] [] h
theorem e_89_78 (d : Nat) (x0 : Int) {h : fi_H} (H : Sh0 h) (hk : h 0 x0.toNat 0 = 100) : c_89_78 d x0 h =
  if 302 < x0 then
  lt_ (fi_upd h 216 x0.toNat 0 1) fun h1 =>
  nw_ h1 6 30 30 fun r2 h3 =>
  if 302 < x0 then
  if h3 217 x0.toNat 0 = 0 then
  lt_ (fi_upd h3 217 x0.toNat 0 r2) fun h4 =>
  nw_ h4 116 10 0 fun r5 h6 =>
  cv_ (fj_run d 97 h6 [(4, r5), (4, x0)])
    (fun h7 =>
    if 302 < x0 then
    if h7 218 x0.toNat 0 = 0 then
    lt_ (fi_upd h7 218 x0.toNat 0 r5) fun h10 =>
    nw_ h10 119 10 0 fun r11 h12 =>
    cv_ (fj_run d 96 h12 [(4, r11), (0, 9)])
      (fun h13 =>
      if 302 < x0 then
      if h13 219 x0.toNat 0 = 0 then
      lt_ (fi_upd h13 219 x0.toNat 0 r11) fun h16 =>
      nw_ h16 8 8 8 fun r17 h18 =>
      if 302 < x0 then
      if h18 220 x0.toNat 0 = 0 then
      lt_ (fi_upd h18 220 x0.toNat 0 r17) fun h19 =>
      nw_ h19 8 8 8 fun r20 h21 =>
      if 302 < x0 then
      if h21 221 x0.toNat 0 = 0 then
      lt_ (fi_upd h21 221 x0.toNat 0 r20) fun h22 =>
      nw_ h22 22 4 4 fun r23 h24 =>
      if 302 < x0 then
      if h24 227 x0.toNat 0 = 0 then
      lt_ (fi_upd h24 227 x0.toNat 0 r23) fun h25 =>
      nw_ h25 23 500 500 fun r26 h27 =>
      if 302 < x0 then
      if h27 228 x0.toNat 0 = 0 then
      lt_ (fi_upd h27 228 x0.toNat 0 r26) fun h28 =>
      c_89_150 d x0 h28
      else none
      else none
      else none
      else none
      else none
      else none
      else none
      else none
      else none
      else none)
      (fun q15 h13 => tx_ q15 h13)
    else none
    else none)
    (fun q9 h7 => tx_ q9 h7)
  else none
  else none
  else none := by
  unfold c_89_78
  exact
    have D : fk_D 89 [(78, some [0], .aload_n 0, 1, 0, 0, 0), (79, none, .iconst 1, 1, 0, 1, 0), (80, none, .putfield 267, 3, 216, 100, 10), (83, none, .aload_n 0, 1, 0, 0, 0), (84, none, .bipush 30, 2, 0, 30, 0), (86, none, .newarray .float, 2, 0, 0, 0), (88, none, .putfield 649, 3, 217, 100, 112), (91, none, .aload_n 0, 1, 0, 0, 0), (92, none, .new 239, 3, 116, 10, 0), (95, none, .dup, 1, 0, 0, 0), (96, none, .aload_n 0, 1, 0, 0, 0), (97, none, .invokespecial 653, 3, 1, 97, 0), (100, none, .putfield 234, 3, 218, 100, 112), (103, none, .aload_n 0, 1, 0, 0, 0), (104, none, .new 57, 3, 119, 10, 0), (107, none, .dup, 1, 0, 0, 0), (108, none, .bipush 9, 2, 0, 9, 0), (110, none, .invokespecial 647, 3, 1, 96, 0), (113, none, .putfield 243, 3, 219, 100, 112), (116, none, .aload_n 0, 1, 0, 0, 0)] := fq_of2 cd_89 ow_89 cl_89 rfl (pc := 78) (by decide +kernel)
    j_aldn (pc := 78) D rfl rfl rfl fun D =>
    j_ic (pc := 79) D rfl fun D =>
    j_pf (pc := 80) (a := x0.toNat) D rfl rfl rfl hk rfl rfl gn (gy rfl) fun h1 eh1 S D =>
    have T := fj_hs_ok H.1 S
    have hk := cls_st H.1 T.2 hk (by decide)
    have H := sh0_st H T
    j_aldn (pc := 83) D rfl rfl rfl fun D =>
    j_bp (pc := 84) D rfl fun D =>
    j_na (pc := 86) (k := 6) (N := 65536) D rfl rfl rfl (gy (by decide)) fun r2 h3 er eh3 S q D =>
    have gt_r2 := nw_gt H.1 er
    have kc_r2 := nw_cls H.1 er eh3
    have kl_r2 := nw_len H.1 er eh3
    have T := fj_hs_ok H.1 S
    have hk := cls_st H.1 T.2 hk (by decide)
    have H := sh0_st H T
    j_pfF (pc := 88) (a := x0.toNat) (ty := 12) D rfl rfl rfl hk ⟨rfl, rfl⟩ rfl gn (gy rfl) gn fun h4 eh4 S D =>
    have T := fj_hs_ok H.1 S
    have hk := cls_st H.1 T.2 hk (by decide)
    have H := sh0_st H T
    j_aldn (pc := 91) D rfl rfl rfl fun D =>
    j_new (pc := 92) D rfl fun r5 h6 er eh6 S D =>
    have gt_r5 := nw_gt H.1 er
    have kc_r5 := nw_cls H.1 er eh6
    have T := fj_hs_ok H.1 S
    have hk := cls_st H.1 T.2 hk (by decide)
    have H := sh0_st H T
    j_sh (pc := 95) D rfl rfl rfl fun D =>
    j_aldn (pc := 96) D rfl rfl rfl fun D =>
    j_spv (pc := 97) (m := 97) (a := [(4, x0)]) (rest := [(4, r5), (4, x0)]) D rfl rfl rfl rfl (by rw [show h6 0 r5.toNat 0 = 116 from kc_r5]; decide) (gt_nz gt_r5) (fun h7 e1 D =>
      have T := fj_run_ok _ _ _ _ _ _ H.1 e1
      have hk := cls_st H.1 T.2 hk (by decide)
      have kc_r5 := cls_st H.1 T.2 kc_r5 (by decide)
      have H := sh0_st H T
      j_pfF (pc := 100) (a := x0.toNat) (ty := 12) D rfl rfl rfl hk ⟨rfl, rfl⟩ rfl gn (gy rfl) gn fun h10 eh10 S D =>
      have T := fj_hs_ok H.1 S
      have hk := cls_st H.1 T.2 hk (by decide)
      have H := sh0_st H T
      j_aldn (pc := 103) D rfl rfl rfl fun D =>
      j_new (pc := 104) D rfl fun r11 h12 er eh12 S D =>
      have gt_r11 := nw_gt H.1 er
      have kc_r11 := nw_cls H.1 er eh12
      have T := fj_hs_ok H.1 S
      have hk := cls_st H.1 T.2 hk (by decide)
      have H := sh0_st H T
      j_sh (pc := 107) D rfl rfl rfl fun D =>
      j_bp (pc := 108) D rfl fun D =>
      j_spv (pc := 110) (m := 96) (a := [(0, 9)]) (rest := [(4, r11), (4, x0)]) D rfl rfl rfl rfl (by rw [show h12 0 r11.toNat 0 = 119 from kc_r11]; decide) (gt_nz gt_r11) (fun h13 e1 D =>
        have T := fj_run_ok _ _ _ _ _ _ H.1 e1
        have hk := cls_st H.1 T.2 hk (by decide)
        have kc_r11 := cls_st H.1 T.2 kc_r11 (by decide)
        have H := sh0_st H T
        j_pfF (pc := 113) (a := x0.toNat) (ty := 12) D rfl rfl rfl hk ⟨rfl, rfl⟩ rfl gn (gy rfl) gn fun h16 eh16 S D =>
        have T := fj_hs_ok H.1 S
        have hk := cls_st H.1 T.2 hk (by decide)
        have H := sh0_st H T
        j_aldn (pc := 116) D rfl rfl rfl fun D =>
        have D : fk_D 89 [(117, none, .bipush 8, 2, 0, 8, 0), (119, none, .newarray .byte, 2, 0, 0, 0), (121, none, .putfield 221, 3, 220, 100, 112), (124, none, .aload_n 0, 1, 0, 0, 0), (125, none, .bipush 8, 2, 0, 8, 0), (127, none, .newarray .byte, 2, 0, 0, 0), (129, none, .putfield 224, 3, 221, 100, 112), (132, none, .aload_n 0, 1, 0, 0, 0), (133, none, .iconst 4, 1, 0, 4, 0), (134, none, .anewarray 656, 3, 110, 22, 0), (137, none, .putfield 529, 3, 227, 100, 112), (140, none, .aload_n 0, 1, 0, 0, 0), (141, none, .sipush 500, 3, 0, 500, 0), (144, none, .anewarray 331, 3, 117, 23, 0), (147, none, .putfield 360, 3, 228, 100, 112)] := fq_of2 cd_89 ow_89 cl_89 rfl (pc := 117) (by decide +kernel)
        j_bp (pc := 117) D rfl fun D =>
        j_na (pc := 119) (k := 8) (N := 65536) D rfl rfl rfl (gy (by decide)) fun r17 h18 er eh18 S q D =>
        have gt_r17 := nw_gt H.1 er
        have kc_r17 := nw_cls H.1 er eh18
        have kl_r17 := nw_len H.1 er eh18
        have T := fj_hs_ok H.1 S
        have hk := cls_st H.1 T.2 hk (by decide)
        have H := sh0_st H T
        j_pfF (pc := 121) (a := x0.toNat) (ty := 12) D rfl rfl rfl hk ⟨rfl, rfl⟩ rfl gn (gy rfl) gn fun h19 eh19 S D =>
        have T := fj_hs_ok H.1 S
        have hk := cls_st H.1 T.2 hk (by decide)
        have H := sh0_st H T
        j_aldn (pc := 124) D rfl rfl rfl fun D =>
        j_bp (pc := 125) D rfl fun D =>
        j_na (pc := 127) (k := 8) (N := 65536) D rfl rfl rfl (gy (by decide)) fun r20 h21 er eh21 S q D =>
        have gt_r20 := nw_gt H.1 er
        have kc_r20 := nw_cls H.1 er eh21
        have kl_r20 := nw_len H.1 er eh21
        have T := fj_hs_ok H.1 S
        have hk := cls_st H.1 T.2 hk (by decide)
        have H := sh0_st H T
        j_pfF (pc := 129) (a := x0.toNat) (ty := 12) D rfl rfl rfl hk ⟨rfl, rfl⟩ rfl gn (gy rfl) gn fun h22 eh22 S D =>
        have T := fj_hs_ok H.1 S
        have hk := cls_st H.1 T.2 hk (by decide)
        have H := sh0_st H T
        j_aldn (pc := 132) D rfl rfl rfl fun D =>
        j_ic (pc := 133) D rfl fun D =>
        j_ana (pc := 134) (N := 65536) D rfl rfl (gy (by decide)) fun r23 h24 er eh24 S q D =>
        have gt_r23 := nw_gt H.1 er
        have kc_r23 := nw_cls H.1 er eh24
        have kl_r23 := nw_len H.1 er eh24
        have T := fj_hs_ok H.1 S
        have hk := cls_st H.1 T.2 hk (by decide)
        have H := sh0_st H T
        j_pfF (pc := 137) (a := x0.toNat) (ty := 12) D rfl rfl rfl hk ⟨rfl, rfl⟩ rfl gn (gy rfl) gn fun h25 eh25 S D =>
        have T := fj_hs_ok H.1 S
        have hk := cls_st H.1 T.2 hk (by decide)
        have H := sh0_st H T
        j_aldn (pc := 140) D rfl rfl rfl fun D =>
        j_sp (pc := 141) D rfl fun D =>
        j_ana (pc := 144) (N := 65536) D rfl rfl (gy (by decide)) fun r26 h27 er eh27 S q D =>
        have gt_r26 := nw_gt H.1 er
        have kc_r26 := nw_cls H.1 er eh27
        have kl_r26 := nw_len H.1 er eh27
        have T := fj_hs_ok H.1 S
        have hk := cls_st H.1 T.2 hk (by decide)
        have H := sh0_st H T
        j_pfF (pc := 147) (a := x0.toNat) (ty := 12) D rfl rfl rfl hk ⟨rfl, rfl⟩ rfl gn (gy rfl) gn fun h28 eh28 S D =>
        have T := fj_hs_ok H.1 S
        have hk := cls_st H.1 T.2 hk (by decide)
        have H := sh0_st H T
        fk_jump cut_89_150 rfl rfl) (fun q15 h13 e1 =>
        j_tx (hx_89 _))) (fun q9 h7 e1 =>
      j_tx (hx_89 _))
theorem e_89_150 (d : Nat) (x0 : Int) {h : fi_H} (H : Sh0 h) (hk : h 0 x0.toNat 0 = 100) : c_89_150 d x0 h =
  nw_ h 117 11 0 fun r1 h2 =>
  cv_ (fj_run d 98 h2 [(4, r1), (0, (-1)), (0, (-1)), (0, 0), (0, (-1)), (0, (-1)), (0, 0)])
    (fun h3 =>
    if 302 < x0 then
    if h3 234 x0.toNat 0 = 0 then
    lt_ (fi_upd h3 234 x0.toNat 0 r1) fun h6 =>
    nw_ h6 23 40 40 fun r7 h8 =>
    if 302 < x0 then
    if h8 235 x0.toNat 0 = 0 then
    lt_ (fi_upd h8 235 x0.toNat 0 r7) fun h9 =>
    nw_ h9 5 40 40 fun r10 h11 =>
    if 302 < x0 then
    if h11 236 x0.toNat 0 = 0 then
    lt_ (fi_upd h11 236 x0.toNat 0 r10) fun h12 =>
    nw_ h12 5 40 40 fun r13 h14 =>
    if 302 < x0 then
    if h14 237 x0.toNat 0 = 0 then
    lt_ (fi_upd h14 237 x0.toNat 0 r13) fun h15 =>
    if 302 < x0 then
    lt_ (fi_upd h15 239 x0.toNat 0 36524) fun h16 =>
    nw_ h16 8 12 12 fun r17 h18 =>
    if 302 < x0 then
    if h18 245 x0.toNat 0 = 0 then
    lt_ (fi_upd h18 245 x0.toNat 0 r17) fun h19 =>
    nw_ h19 8 12 12 fun r20 h21 =>
    if 302 < x0 then
    if h21 246 x0.toNat 0 = 0 then
    lt_ (fi_upd h21 246 x0.toNat 0 r20) fun h22 =>
    c_89_215 d x0 h22
    else none
    else none
    else none
    else none
    else none
    else none
    else none
    else none
    else none
    else none
    else none
    else none
    else none)
    (fun q5 h3 => tx_ q5 h3) := by
  unfold c_89_150
  exact
    have D : fk_D 89 [(150, some [0], .aload_n 0, 1, 0, 0, 0), (151, none, .new 331, 3, 117, 11, 0), (154, none, .dup, 1, 0, 0, 0), (155, none, .iconst (-1), 1, 0, (-1), 0), (156, none, .iconst (-1), 1, 0, (-1), 0), (157, none, .iconst 0, 1, 0, 0, 0), (158, none, .iconst (-1), 1, 0, (-1), 0), (159, none, .iconst (-1), 1, 0, (-1), 0), (160, none, .iconst 0, 1, 0, 0, 0), (161, none, .invokespecial 658, 3, 6, 98, 0), (164, none, .putfield 661, 3, 234, 100, 112), (167, none, .aload_n 0, 1, 0, 0, 0), (168, none, .bipush 40, 2, 0, 40, 0), (170, none, .anewarray 331, 3, 117, 23, 0), (173, none, .putfield 664, 3, 235, 100, 112), (176, none, .aload_n 0, 1, 0, 0, 0), (177, none, .bipush 40, 2, 0, 40, 0), (179, none, .newarray .char, 2, 0, 0, 0), (181, none, .putfield 667, 3, 236, 100, 112), (184, none, .aload_n 0, 1, 0, 0, 0)] := fq_of2 cd_89 ow_89 cl_89 rfl (pc := 150) (by decide +kernel)
    j_aldn (pc := 150) D rfl rfl rfl fun D =>
    j_new (pc := 151) D rfl fun r1 h2 er eh2 S D =>
    have gt_r1 := nw_gt H.1 er
    have kc_r1 := nw_cls H.1 er eh2
    have T := fj_hs_ok H.1 S
    have hk := cls_st H.1 T.2 hk (by decide)
    have H := sh0_st H T
    j_sh (pc := 154) D rfl rfl rfl fun D =>
    j_ic (pc := 155) D rfl fun D =>
    j_ic (pc := 156) D rfl fun D =>
    j_ic (pc := 157) D rfl fun D =>
    j_ic (pc := 158) D rfl fun D =>
    j_ic (pc := 159) D rfl fun D =>
    j_ic (pc := 160) D rfl fun D =>
    j_spv (pc := 161) (m := 98) (a := [(0, (-1)), (0, (-1)), (0, 0), (0, (-1)), (0, (-1)), (0, 0)]) (rest := [(4, r1), (4, x0)]) D rfl rfl rfl rfl (by rw [show h2 0 r1.toNat 0 = 117 from kc_r1]; decide) (gt_nz gt_r1) (fun h3 e1 D =>
      have T := fj_run_ok _ _ _ _ _ _ H.1 e1
      have hk := cls_st H.1 T.2 hk (by decide)
      have kc_r1 := cls_st H.1 T.2 kc_r1 (by decide)
      have H := sh0_st H T
      j_pfF (pc := 164) (a := x0.toNat) (ty := 12) D rfl rfl rfl hk ⟨rfl, rfl⟩ rfl gn (gy rfl) gn fun h6 eh6 S D =>
      have T := fj_hs_ok H.1 S
      have hk := cls_st H.1 T.2 hk (by decide)
      have H := sh0_st H T
      j_aldn (pc := 167) D rfl rfl rfl fun D =>
      j_bp (pc := 168) D rfl fun D =>
      j_ana (pc := 170) (N := 65536) D rfl rfl (gy (by decide)) fun r7 h8 er eh8 S q D =>
      have gt_r7 := nw_gt H.1 er
      have kc_r7 := nw_cls H.1 er eh8
      have kl_r7 := nw_len H.1 er eh8
      have T := fj_hs_ok H.1 S
      have hk := cls_st H.1 T.2 hk (by decide)
      have H := sh0_st H T
      j_pfF (pc := 173) (a := x0.toNat) (ty := 12) D rfl rfl rfl hk ⟨rfl, rfl⟩ rfl gn (gy rfl) gn fun h9 eh9 S D =>
      have T := fj_hs_ok H.1 S
      have hk := cls_st H.1 T.2 hk (by decide)
      have H := sh0_st H T
      j_aldn (pc := 176) D rfl rfl rfl fun D =>
      j_bp (pc := 177) D rfl fun D =>
      j_na (pc := 179) (k := 5) (N := 65536) D rfl rfl rfl (gy (by decide)) fun r10 h11 er eh11 S q D =>
      have gt_r10 := nw_gt H.1 er
      have kc_r10 := nw_cls H.1 er eh11
      have kl_r10 := nw_len H.1 er eh11
      have T := fj_hs_ok H.1 S
      have hk := cls_st H.1 T.2 hk (by decide)
      have H := sh0_st H T
      j_pfF (pc := 181) (a := x0.toNat) (ty := 12) D rfl rfl rfl hk ⟨rfl, rfl⟩ rfl gn (gy rfl) gn fun h12 eh12 S D =>
      have T := fj_hs_ok H.1 S
      have hk := cls_st H.1 T.2 hk (by decide)
      have H := sh0_st H T
      j_aldn (pc := 184) D rfl rfl rfl fun D =>
      have D : fk_D 89 [(185, none, .bipush 40, 2, 0, 40, 0), (187, none, .newarray .char, 2, 0, 0, 0), (189, none, .putfield 670, 3, 237, 100, 112), (192, none, .aload_n 0, 1, 0, 0, 0), (193, none, .ldc_w 673, 3, 0, 36524, 0), (196, none, .putfield 615, 3, 239, 100, 10), (199, none, .aload_n 0, 1, 0, 0, 0), (200, none, .bipush 12, 2, 0, 12, 0), (202, none, .newarray .byte, 2, 0, 0, 0), (204, none, .putfield 317, 3, 245, 100, 112), (207, none, .aload_n 0, 1, 0, 0, 0), (208, none, .bipush 12, 2, 0, 12, 0), (210, none, .newarray .byte, 2, 0, 0, 0), (212, none, .putfield 320, 3, 246, 100, 112)] := fq_of2 cd_89 ow_89 cl_89 rfl (pc := 185) (by decide +kernel)
      j_bp (pc := 185) D rfl fun D =>
      j_na (pc := 187) (k := 5) (N := 65536) D rfl rfl rfl (gy (by decide)) fun r13 h14 er eh14 S q D =>
      have gt_r13 := nw_gt H.1 er
      have kc_r13 := nw_cls H.1 er eh14
      have kl_r13 := nw_len H.1 er eh14
      have T := fj_hs_ok H.1 S
      have hk := cls_st H.1 T.2 hk (by decide)
      have H := sh0_st H T
      j_pfF (pc := 189) (a := x0.toNat) (ty := 12) D rfl rfl rfl hk ⟨rfl, rfl⟩ rfl gn (gy rfl) gn fun h15 eh15 S D =>
      have T := fj_hs_ok H.1 S
      have hk := cls_st H.1 T.2 hk (by decide)
      have H := sh0_st H T
      j_aldn (pc := 192) D rfl rfl rfl fun D =>
      j_ldcw (pc := 193) D rfl fun D =>
      j_pf (pc := 196) (a := x0.toNat) D rfl rfl rfl hk rfl rfl gn (gy rfl) fun h16 eh16 S D =>
      have T := fj_hs_ok H.1 S
      have hk := cls_st H.1 T.2 hk (by decide)
      have H := sh0_st H T
      j_aldn (pc := 199) D rfl rfl rfl fun D =>
      j_bp (pc := 200) D rfl fun D =>
      j_na (pc := 202) (k := 8) (N := 65536) D rfl rfl rfl (gy (by decide)) fun r17 h18 er eh18 S q D =>
      have gt_r17 := nw_gt H.1 er
      have kc_r17 := nw_cls H.1 er eh18
      have kl_r17 := nw_len H.1 er eh18
      have T := fj_hs_ok H.1 S
      have hk := cls_st H.1 T.2 hk (by decide)
      have H := sh0_st H T
      j_pfF (pc := 204) (a := x0.toNat) (ty := 12) D rfl rfl rfl hk ⟨rfl, rfl⟩ rfl gn (gy rfl) gn fun h19 eh19 S D =>
      have T := fj_hs_ok H.1 S
      have hk := cls_st H.1 T.2 hk (by decide)
      have H := sh0_st H T
      j_aldn (pc := 207) D rfl rfl rfl fun D =>
      j_bp (pc := 208) D rfl fun D =>
      j_na (pc := 210) (k := 8) (N := 65536) D rfl rfl rfl (gy (by decide)) fun r20 h21 er eh21 S q D =>
      have gt_r20 := nw_gt H.1 er
      have kc_r20 := nw_cls H.1 er eh21
      have kl_r20 := nw_len H.1 er eh21
      have T := fj_hs_ok H.1 S
      have hk := cls_st H.1 T.2 hk (by decide)
      have H := sh0_st H T
      j_pfF (pc := 212) (a := x0.toNat) (ty := 12) D rfl rfl rfl hk ⟨rfl, rfl⟩ rfl gn (gy rfl) gn fun h22 eh22 S D =>
      have T := fj_hs_ok H.1 S
      have hk := cls_st H.1 T.2 hk (by decide)
      have H := sh0_st H T
      fk_jump cut_89_215 rfl rfl) (fun q5 h3 e1 =>
      j_tx (hx_89 _))
theorem e_89_215 (d : Nat) (x0 : Int) {h : fi_H} (H : Sh0 h) (hk : h 0 x0.toNat 0 = 100) : c_89_215 d x0 h =
  nw_ h 5 12 12 fun r1 h2 =>
  if 302 < x0 then
  if h2 247 x0.toNat 0 = 0 then
  lt_ (fi_upd h2 247 x0.toNat 0 r1) fun h3 =>
  nw_ h3 24 14 14 fun r4 h5 =>
  if 302 < x0 then
  if h5 248 x0.toNat 0 = 0 then
  lt_ (fi_upd h5 248 x0.toNat 0 r4) fun h6 =>
  nw_ h6 10 6 6 fun r7 h8 =>
  lt_ (fi_upd h8 10 r7.toNat 0 0) fun h9 =>
  lt_ (fi_upd h9 10 r7.toNat 1 (-1)) fun h10 =>
  lt_ (fi_upd h10 10 r7.toNat 2 (-1)) fun h11 =>
  lt_ (fi_upd h11 10 r7.toNat 3 (-1)) fun h12 =>
  lt_ (fi_upd h12 10 r7.toNat 4 (-1)) fun h13 =>
  lt_ (fi_upd h13 10 r7.toNat 5 0) fun h14 =>
  if 302 < x0 then
  if h14 251 x0.toNat 0 = 0 then
  lt_ (fi_upd h14 251 x0.toNat 0 r7) fun h15 =>
  c_89_264 d x0 h15
  else none
  else none
  else none
  else none
  else none
  else none := by
  unfold c_89_215
  exact
    have D : fk_D 89 [(215, some [0], .aload_n 0, 1, 0, 0, 0), (216, none, .bipush 12, 2, 0, 12, 0), (218, none, .newarray .char, 2, 0, 0, 0), (220, none, .putfield 323, 3, 247, 100, 112), (223, none, .aload_n 0, 1, 0, 0, 0), (224, none, .bipush 14, 2, 0, 14, 0), (226, none, .anewarray 353, 3, 120, 24, 0), (229, none, .putfield 348, 3, 248, 100, 112), (232, none, .aload_n 0, 1, 0, 0, 0), (233, none, .bipush 6, 2, 0, 6, 0), (235, none, .newarray .int, 2, 0, 0, 0), (237, none, .dup, 1, 0, 0, 0), (238, none, .iconst 0, 1, 0, 0, 0), (239, none, .iconst 0, 1, 0, 0, 0), (240, none, .iastore, 1, 0, 0, 0), (241, none, .dup, 1, 0, 0, 0), (242, none, .iconst 1, 1, 0, 1, 0), (243, none, .iconst (-1), 1, 0, (-1), 0), (244, none, .iastore, 1, 0, 0, 0), (245, none, .dup, 1, 0, 0, 0)] := fq_of2 cd_89 ow_89 cl_89 rfl (pc := 215) (by decide +kernel)
    j_aldn (pc := 215) D rfl rfl rfl fun D =>
    j_bp (pc := 216) D rfl fun D =>
    j_na (pc := 218) (k := 5) (N := 65536) D rfl rfl rfl (gy (by decide)) fun r1 h2 er eh2 S q D =>
    have gt_r1 := nw_gt H.1 er
    have kc_r1 := nw_cls H.1 er eh2
    have kl_r1 := nw_len H.1 er eh2
    have T := fj_hs_ok H.1 S
    have hk := cls_st H.1 T.2 hk (by decide)
    have H := sh0_st H T
    j_pfF (pc := 220) (a := x0.toNat) (ty := 12) D rfl rfl rfl hk ⟨rfl, rfl⟩ rfl gn (gy rfl) gn fun h3 eh3 S D =>
    have T := fj_hs_ok H.1 S
    have hk := cls_st H.1 T.2 hk (by decide)
    have H := sh0_st H T
    j_aldn (pc := 223) D rfl rfl rfl fun D =>
    j_bp (pc := 224) D rfl fun D =>
    j_ana (pc := 226) (N := 65536) D rfl rfl (gy (by decide)) fun r4 h5 er eh5 S q D =>
    have gt_r4 := nw_gt H.1 er
    have kc_r4 := nw_cls H.1 er eh5
    have kl_r4 := nw_len H.1 er eh5
    have T := fj_hs_ok H.1 S
    have hk := cls_st H.1 T.2 hk (by decide)
    have H := sh0_st H T
    j_pfF (pc := 229) (a := x0.toNat) (ty := 12) D rfl rfl rfl hk ⟨rfl, rfl⟩ rfl gn (gy rfl) gn fun h6 eh6 S D =>
    have T := fj_hs_ok H.1 S
    have hk := cls_st H.1 T.2 hk (by decide)
    have H := sh0_st H T
    j_aldn (pc := 232) D rfl rfl rfl fun D =>
    j_bp (pc := 233) D rfl fun D =>
    j_na (pc := 235) (k := 10) (N := 65536) D rfl rfl rfl (gy (by decide)) fun r7 h8 er eh8 S q D =>
    have gt_r7 := nw_gt H.1 er
    have kc_r7 := nw_cls H.1 er eh8
    have kl_r7 := nw_len H.1 er eh8
    have T := fj_hs_ok H.1 S
    have hk := cls_st H.1 T.2 hk (by decide)
    have H := sh0_st H T
    j_sh (pc := 237) D rfl rfl rfl fun D =>
    j_ic (pc := 238) D rfl fun D =>
    j_ic (pc := 239) D rfl fun D =>
    j_as (pc := 240) (a := r7.toNat) (e := 10) D rfl ⟨rfl, rfl⟩ rfl (gt_nle gt_r7) kc_r7 kl_r7 ⟨rfl, rfl, rfl⟩ rfl (gy (by decide)) (gy rfl) fun h9 eh9 S q D =>
    have T := fj_hs_ok H.1 S
    have hk := cls_st H.1 T.2 hk (by decide)
    have kl_r7 := len_st H.1 T.2 kc_r7 (by decide) kl_r7
    have kc_r7 := cls_st H.1 T.2 kc_r7 (by decide)
    have H := sh0_st H T
    j_sh (pc := 241) D rfl rfl rfl fun D =>
    j_ic (pc := 242) D rfl fun D =>
    j_ic (pc := 243) D rfl fun D =>
    j_as (pc := 244) (a := r7.toNat) (e := 10) D rfl ⟨rfl, rfl⟩ rfl (gt_nle gt_r7) kc_r7 kl_r7 ⟨rfl, rfl, rfl⟩ rfl (gy (by decide)) (gy rfl) fun h10 eh10 S q D =>
    have T := fj_hs_ok H.1 S
    have hk := cls_st H.1 T.2 hk (by decide)
    have kl_r7 := len_st H.1 T.2 kc_r7 (by decide) kl_r7
    have kc_r7 := cls_st H.1 T.2 kc_r7 (by decide)
    have H := sh0_st H T
    j_sh (pc := 245) D rfl rfl rfl fun D =>
    have D : fk_D 89 [(246, none, .iconst 2, 1, 0, 2, 0), (247, none, .iconst (-1), 1, 0, (-1), 0), (248, none, .iastore, 1, 0, 0, 0), (249, none, .dup, 1, 0, 0, 0), (250, none, .iconst 3, 1, 0, 3, 0), (251, none, .iconst (-1), 1, 0, (-1), 0), (252, none, .iastore, 1, 0, 0, 0), (253, none, .dup, 1, 0, 0, 0), (254, none, .iconst 4, 1, 0, 4, 0), (255, none, .iconst (-1), 1, 0, (-1), 0), (256, none, .iastore, 1, 0, 0, 0), (257, none, .dup, 1, 0, 0, 0), (258, none, .iconst 5, 1, 0, 5, 0), (259, none, .iconst 0, 1, 0, 0, 0), (260, none, .iastore, 1, 0, 0, 0), (261, none, .putfield 314, 3, 251, 100, 112)] := fq_of2 cd_89 ow_89 cl_89 rfl (pc := 246) (by decide +kernel)
    j_ic (pc := 246) D rfl fun D =>
    j_ic (pc := 247) D rfl fun D =>
    j_as (pc := 248) (a := r7.toNat) (e := 10) D rfl ⟨rfl, rfl⟩ rfl (gt_nle gt_r7) kc_r7 kl_r7 ⟨rfl, rfl, rfl⟩ rfl (gy (by decide)) (gy rfl) fun h11 eh11 S q D =>
    have T := fj_hs_ok H.1 S
    have hk := cls_st H.1 T.2 hk (by decide)
    have kl_r7 := len_st H.1 T.2 kc_r7 (by decide) kl_r7
    have kc_r7 := cls_st H.1 T.2 kc_r7 (by decide)
    have H := sh0_st H T
    j_sh (pc := 249) D rfl rfl rfl fun D =>
    j_ic (pc := 250) D rfl fun D =>
    j_ic (pc := 251) D rfl fun D =>
    j_as (pc := 252) (a := r7.toNat) (e := 10) D rfl ⟨rfl, rfl⟩ rfl (gt_nle gt_r7) kc_r7 kl_r7 ⟨rfl, rfl, rfl⟩ rfl (gy (by decide)) (gy rfl) fun h12 eh12 S q D =>
    have T := fj_hs_ok H.1 S
    have hk := cls_st H.1 T.2 hk (by decide)
    have kl_r7 := len_st H.1 T.2 kc_r7 (by decide) kl_r7
    have kc_r7 := cls_st H.1 T.2 kc_r7 (by decide)
    have H := sh0_st H T
    j_sh (pc := 253) D rfl rfl rfl fun D =>
    j_ic (pc := 254) D rfl fun D =>
    j_ic (pc := 255) D rfl fun D =>
    j_as (pc := 256) (a := r7.toNat) (e := 10) D rfl ⟨rfl, rfl⟩ rfl (gt_nle gt_r7) kc_r7 kl_r7 ⟨rfl, rfl, rfl⟩ rfl (gy (by decide)) (gy rfl) fun h13 eh13 S q D =>
    have T := fj_hs_ok H.1 S
    have hk := cls_st H.1 T.2 hk (by decide)
    have kl_r7 := len_st H.1 T.2 kc_r7 (by decide) kl_r7
    have kc_r7 := cls_st H.1 T.2 kc_r7 (by decide)
    have H := sh0_st H T
    j_sh (pc := 257) D rfl rfl rfl fun D =>
    j_ic (pc := 258) D rfl fun D =>
    j_ic (pc := 259) D rfl fun D =>
    j_as (pc := 260) (a := r7.toNat) (e := 10) D rfl ⟨rfl, rfl⟩ rfl (gt_nle gt_r7) kc_r7 kl_r7 ⟨rfl, rfl, rfl⟩ rfl (gy (by decide)) (gy rfl) fun h14 eh14 S q D =>
    have T := fj_hs_ok H.1 S
    have hk := cls_st H.1 T.2 hk (by decide)
    have kl_r7 := len_st H.1 T.2 kc_r7 (by decide) kl_r7
    have kc_r7 := cls_st H.1 T.2 kc_r7 (by decide)
    have H := sh0_st H T
    j_pfF (pc := 261) (a := x0.toNat) (ty := 12) D rfl rfl rfl hk ⟨rfl, rfl⟩ rfl gn (gy rfl) gn fun h15 eh15 S D =>
    have T := fj_hs_ok H.1 S
    have hk := cls_st H.1 T.2 hk (by decide)
    have H := sh0_st H T
    fk_jump cut_89_264 rfl rfl
theorem e_89_264 (d : Nat) (x0 : Int) {h : fi_H} (H : Sh0 h) (hk : h 0 x0.toNat 0 = 100) : c_89_264 d x0 h =
  nw_ h 8 300 300 fun r1 h2 =>
  if 302 < x0 then
  if h2 252 x0.toNat 0 = 0 then
  lt_ (fi_upd h2 252 x0.toNat 0 r1) fun h3 =>
  nw_ h3 8 300 300 fun r4 h5 =>
  if 302 < x0 then
  if h5 253 x0.toNat 0 = 0 then
  lt_ (fi_upd h5 253 x0.toNat 0 r4) fun h6 =>
  nw_ h6 8 300 300 fun r7 h8 =>
  if 302 < x0 then
  if h8 254 x0.toNat 0 = 0 then
  lt_ (fi_upd h8 254 x0.toNat 0 r7) fun h9 =>
  nw_ h9 8 300 300 fun r10 h11 =>
  if 302 < x0 then
  if h11 255 x0.toNat 0 = 0 then
  lt_ (fi_upd h11 255 x0.toNat 0 r10) fun h12 =>
  nw_ h12 8 300 300 fun r13 h14 =>
  if 302 < x0 then
  if h14 256 x0.toNat 0 = 0 then
  lt_ (fi_upd h14 256 x0.toNat 0 r13) fun h15 =>
  nw_ h15 8 300 300 fun r16 h17 =>
  if 302 < x0 then
  if h17 257 x0.toNat 0 = 0 then
  lt_ (fi_upd h17 257 x0.toNat 0 r16) fun h18 =>
  nw_ h18 5 300 300 fun r19 h20 =>
  if 302 < x0 then
  if h20 258 x0.toNat 0 = 0 then
  lt_ (fi_upd h20 258 x0.toNat 0 r19) fun h21 =>
  nw_ h21 10 300 300 fun r22 h23 =>
  if 302 < x0 then
  if h23 259 x0.toNat 0 = 0 then
  lt_ (fi_upd h23 259 x0.toNat 0 r22) fun h24 =>
  c_89_336 d x0 h24
  else none
  else none
  else none
  else none
  else none
  else none
  else none
  else none
  else none
  else none
  else none
  else none
  else none
  else none
  else none
  else none := by
  unfold c_89_264
  exact
    have D : fk_D 89 [(264, some [0], .aload_n 0, 1, 0, 0, 0), (265, none, .sipush 300, 3, 0, 300, 0), (268, none, .newarray .byte, 2, 0, 0, 0), (270, none, .putfield 421, 3, 252, 100, 112), (273, none, .aload_n 0, 1, 0, 0, 0), (274, none, .sipush 300, 3, 0, 300, 0), (277, none, .newarray .byte, 2, 0, 0, 0), (279, none, .putfield 424, 3, 253, 100, 112), (282, none, .aload_n 0, 1, 0, 0, 0), (283, none, .sipush 300, 3, 0, 300, 0), (286, none, .newarray .byte, 2, 0, 0, 0), (288, none, .putfield 427, 3, 254, 100, 112), (291, none, .aload_n 0, 1, 0, 0, 0), (292, none, .sipush 300, 3, 0, 300, 0), (295, none, .newarray .byte, 2, 0, 0, 0), (297, none, .putfield 430, 3, 255, 100, 112), (300, none, .aload_n 0, 1, 0, 0, 0), (301, none, .sipush 300, 3, 0, 300, 0), (304, none, .newarray .byte, 2, 0, 0, 0), (306, none, .putfield 384, 3, 256, 100, 112)] := fq_of2 cd_89 ow_89 cl_89 rfl (pc := 264) (by decide +kernel)
    j_aldn (pc := 264) D rfl rfl rfl fun D =>
    j_sp (pc := 265) D rfl fun D =>
    j_na (pc := 268) (k := 8) (N := 65536) D rfl rfl rfl (gy (by decide)) fun r1 h2 er eh2 S q D =>
    have gt_r1 := nw_gt H.1 er
    have kc_r1 := nw_cls H.1 er eh2
    have kl_r1 := nw_len H.1 er eh2
    have T := fj_hs_ok H.1 S
    have hk := cls_st H.1 T.2 hk (by decide)
    have H := sh0_st H T
    j_pfF (pc := 270) (a := x0.toNat) (ty := 12) D rfl rfl rfl hk ⟨rfl, rfl⟩ rfl gn (gy rfl) gn fun h3 eh3 S D =>
    have T := fj_hs_ok H.1 S
    have hk := cls_st H.1 T.2 hk (by decide)
    have H := sh0_st H T
    j_aldn (pc := 273) D rfl rfl rfl fun D =>
    j_sp (pc := 274) D rfl fun D =>
    j_na (pc := 277) (k := 8) (N := 65536) D rfl rfl rfl (gy (by decide)) fun r4 h5 er eh5 S q D =>
    have gt_r4 := nw_gt H.1 er
    have kc_r4 := nw_cls H.1 er eh5
    have kl_r4 := nw_len H.1 er eh5
    have T := fj_hs_ok H.1 S
    have hk := cls_st H.1 T.2 hk (by decide)
    have H := sh0_st H T
    j_pfF (pc := 279) (a := x0.toNat) (ty := 12) D rfl rfl rfl hk ⟨rfl, rfl⟩ rfl gn (gy rfl) gn fun h6 eh6 S D =>
    have T := fj_hs_ok H.1 S
    have hk := cls_st H.1 T.2 hk (by decide)
    have H := sh0_st H T
    j_aldn (pc := 282) D rfl rfl rfl fun D =>
    j_sp (pc := 283) D rfl fun D =>
    j_na (pc := 286) (k := 8) (N := 65536) D rfl rfl rfl (gy (by decide)) fun r7 h8 er eh8 S q D =>
    have gt_r7 := nw_gt H.1 er
    have kc_r7 := nw_cls H.1 er eh8
    have kl_r7 := nw_len H.1 er eh8
    have T := fj_hs_ok H.1 S
    have hk := cls_st H.1 T.2 hk (by decide)
    have H := sh0_st H T
    j_pfF (pc := 288) (a := x0.toNat) (ty := 12) D rfl rfl rfl hk ⟨rfl, rfl⟩ rfl gn (gy rfl) gn fun h9 eh9 S D =>
    have T := fj_hs_ok H.1 S
    have hk := cls_st H.1 T.2 hk (by decide)
    have H := sh0_st H T
    j_aldn (pc := 291) D rfl rfl rfl fun D =>
    j_sp (pc := 292) D rfl fun D =>
    j_na (pc := 295) (k := 8) (N := 65536) D rfl rfl rfl (gy (by decide)) fun r10 h11 er eh11 S q D =>
    have gt_r10 := nw_gt H.1 er
    have kc_r10 := nw_cls H.1 er eh11
    have kl_r10 := nw_len H.1 er eh11
    have T := fj_hs_ok H.1 S
    have hk := cls_st H.1 T.2 hk (by decide)
    have H := sh0_st H T
    j_pfF (pc := 297) (a := x0.toNat) (ty := 12) D rfl rfl rfl hk ⟨rfl, rfl⟩ rfl gn (gy rfl) gn fun h12 eh12 S D =>
    have T := fj_hs_ok H.1 S
    have hk := cls_st H.1 T.2 hk (by decide)
    have H := sh0_st H T
    j_aldn (pc := 300) D rfl rfl rfl fun D =>
    j_sp (pc := 301) D rfl fun D =>
    j_na (pc := 304) (k := 8) (N := 65536) D rfl rfl rfl (gy (by decide)) fun r13 h14 er eh14 S q D =>
    have gt_r13 := nw_gt H.1 er
    have kc_r13 := nw_cls H.1 er eh14
    have kl_r13 := nw_len H.1 er eh14
    have T := fj_hs_ok H.1 S
    have hk := cls_st H.1 T.2 hk (by decide)
    have H := sh0_st H T
    j_pfF (pc := 306) (a := x0.toNat) (ty := 12) D rfl rfl rfl hk ⟨rfl, rfl⟩ rfl gn (gy rfl) gn fun h15 eh15 S D =>
    have T := fj_hs_ok H.1 S
    have hk := cls_st H.1 T.2 hk (by decide)
    have H := sh0_st H T
    have D : fk_D 89 [(309, none, .aload_n 0, 1, 0, 0, 0), (310, none, .sipush 300, 3, 0, 300, 0), (313, none, .newarray .byte, 2, 0, 0, 0), (315, none, .putfield 436, 3, 257, 100, 112), (318, none, .aload_n 0, 1, 0, 0, 0), (319, none, .sipush 300, 3, 0, 300, 0), (322, none, .newarray .char, 2, 0, 0, 0), (324, none, .putfield 433, 3, 258, 100, 112), (327, none, .aload_n 0, 1, 0, 0, 0), (328, none, .sipush 300, 3, 0, 300, 0), (331, none, .newarray .int, 2, 0, 0, 0), (333, none, .putfield 381, 3, 259, 100, 112)] := fq_of2 cd_89 ow_89 cl_89 rfl (pc := 309) (by decide +kernel)
    j_aldn (pc := 309) D rfl rfl rfl fun D =>
    j_sp (pc := 310) D rfl fun D =>
    j_na (pc := 313) (k := 8) (N := 65536) D rfl rfl rfl (gy (by decide)) fun r16 h17 er eh17 S q D =>
    have gt_r16 := nw_gt H.1 er
    have kc_r16 := nw_cls H.1 er eh17
    have kl_r16 := nw_len H.1 er eh17
    have T := fj_hs_ok H.1 S
    have hk := cls_st H.1 T.2 hk (by decide)
    have H := sh0_st H T
    j_pfF (pc := 315) (a := x0.toNat) (ty := 12) D rfl rfl rfl hk ⟨rfl, rfl⟩ rfl gn (gy rfl) gn fun h18 eh18 S D =>
    have T := fj_hs_ok H.1 S
    have hk := cls_st H.1 T.2 hk (by decide)
    have H := sh0_st H T
    j_aldn (pc := 318) D rfl rfl rfl fun D =>
    j_sp (pc := 319) D rfl fun D =>
    j_na (pc := 322) (k := 5) (N := 65536) D rfl rfl rfl (gy (by decide)) fun r19 h20 er eh20 S q D =>
    have gt_r19 := nw_gt H.1 er
    have kc_r19 := nw_cls H.1 er eh20
    have kl_r19 := nw_len H.1 er eh20
    have T := fj_hs_ok H.1 S
    have hk := cls_st H.1 T.2 hk (by decide)
    have H := sh0_st H T
    j_pfF (pc := 324) (a := x0.toNat) (ty := 12) D rfl rfl rfl hk ⟨rfl, rfl⟩ rfl gn (gy rfl) gn fun h21 eh21 S D =>
    have T := fj_hs_ok H.1 S
    have hk := cls_st H.1 T.2 hk (by decide)
    have H := sh0_st H T
    j_aldn (pc := 327) D rfl rfl rfl fun D =>
    j_sp (pc := 328) D rfl fun D =>
    j_na (pc := 331) (k := 10) (N := 65536) D rfl rfl rfl (gy (by decide)) fun r22 h23 er eh23 S q D =>
    have gt_r22 := nw_gt H.1 er
    have kc_r22 := nw_cls H.1 er eh23
    have kl_r22 := nw_len H.1 er eh23
    have T := fj_hs_ok H.1 S
    have hk := cls_st H.1 T.2 hk (by decide)
    have H := sh0_st H T
    j_pfF (pc := 333) (a := x0.toNat) (ty := 12) D rfl rfl rfl hk ⟨rfl, rfl⟩ rfl gn (gy rfl) gn fun h24 eh24 S D =>
    have T := fj_hs_ok H.1 S
    have hk := cls_st H.1 T.2 hk (by decide)
    have H := sh0_st H T
    fk_jump cut_89_336 rfl rfl
theorem e_89_336 (d : Nat) (x0 : Int) {h : fi_H} (H : Sh0 h) (hk : h 0 x0.toNat 0 = 100) : c_89_336 d x0 h =
  nw_ h 11 300 300 fun r1 h2 =>
  if 302 < x0 then
  if h2 260 x0.toNat 0 = 0 then
  lt_ (fi_upd h2 260 x0.toNat 0 r1) fun h3 =>
  nw_ h3 11 300 300 fun r4 h5 =>
  if 302 < x0 then
  if h5 261 x0.toNat 0 = 0 then
  lt_ (fi_upd h5 261 x0.toNat 0 r4) fun h6 =>
  nw_ h6 4 300 300 fun r7 h8 =>
  if 302 < x0 then
  if h8 262 x0.toNat 0 = 0 then
  lt_ (fi_upd h8 262 x0.toNat 0 r7) fun h9 =>
  nw_ h9 8 4000 4000 fun r10 h11 =>
  if 302 < x0 then
  if h11 265 x0.toNat 0 = 0 then
  lt_ (fi_upd h11 265 x0.toNat 0 r10) fun h12 =>
  if 302 < x0 then
  lt_ (fi_upd h12 268 x0.toNat 0 (-1)) fun h13 =>
  nw_ h13 115 34 0 fun r14 h15 =>
  cv_ (fj_run d 99 h15 [(4, r14), (4, x0)])
    (fun h16 =>
    if 302 < x0 then
    if h16 269 x0.toNat 0 = 0 then
    lt_ (fi_upd h16 269 x0.toNat 0 r14) fun h19 =>
    nw_ h19 113 4 0 fun r20 h21 =>
    cv_ (fj_run d 104 h21 [(4, r20)])
      (fun h22 =>
      if 302 < x0 then
      lt_ (fi_upd h22 270 x0.toNat 0 r20) fun h25 =>
      nw_ h25 113 4 0 fun r26 h27 =>
      cv_ (fj_run d 104 h27 [(4, r26)])
        (fun h28 =>
        if 302 < x0 then
        lt_ (fi_upd h28 271 x0.toNat 0 r26) fun h31 =>
        c_89_411 d x0 h31
        else none)
        (fun q30 h28 => tx_ q30 h28)
      else none)
      (fun q24 h22 => tx_ q24 h22)
    else none
    else none)
    (fun q18 h16 => tx_ q18 h16)
  else none
  else none
  else none
  else none
  else none
  else none
  else none
  else none
  else none := by
  unfold c_89_336
  exact
    have D : fk_D 89 [(336, some [0], .aload_n 0, 1, 0, 0, 0), (337, none, .sipush 300, 3, 0, 300, 0), (340, none, .newarray .long, 2, 0, 0, 0), (342, none, .putfield 442, 3, 260, 100, 112), (345, none, .aload_n 0, 1, 0, 0, 0), (346, none, .sipush 300, 3, 0, 300, 0), (349, none, .newarray .long, 2, 0, 0, 0), (351, none, .putfield 445, 3, 261, 100, 112), (354, none, .aload_n 0, 1, 0, 0, 0), (355, none, .sipush 300, 3, 0, 300, 0), (358, none, .newarray .boolean, 2, 0, 0, 0), (360, none, .putfield 439, 3, 262, 100, 112), (363, none, .aload_n 0, 1, 0, 0, 0), (364, none, .sipush 4000, 3, 0, 4000, 0), (367, none, .newarray .byte, 2, 0, 0, 0), (369, none, .putfield 674, 3, 265, 100, 112), (372, none, .aload_n 0, 1, 0, 0, 0), (373, none, .iconst (-1), 1, 0, (-1), 0), (374, none, .putfield 454, 3, 268, 100, 10), (377, none, .aload_n 0, 1, 0, 0, 0)] := fq_of2 cd_89 ow_89 cl_89 rfl (pc := 336) (by decide +kernel)
    j_aldn (pc := 336) D rfl rfl rfl fun D =>
    j_sp (pc := 337) D rfl fun D =>
    j_na (pc := 340) (k := 11) (N := 65536) D rfl rfl rfl (gy (by decide)) fun r1 h2 er eh2 S q D =>
    have gt_r1 := nw_gt H.1 er
    have kc_r1 := nw_cls H.1 er eh2
    have kl_r1 := nw_len H.1 er eh2
    have T := fj_hs_ok H.1 S
    have hk := cls_st H.1 T.2 hk (by decide)
    have H := sh0_st H T
    j_pfF (pc := 342) (a := x0.toNat) (ty := 12) D rfl rfl rfl hk ⟨rfl, rfl⟩ rfl gn (gy rfl) gn fun h3 eh3 S D =>
    have T := fj_hs_ok H.1 S
    have hk := cls_st H.1 T.2 hk (by decide)
    have H := sh0_st H T
    j_aldn (pc := 345) D rfl rfl rfl fun D =>
    j_sp (pc := 346) D rfl fun D =>
    j_na (pc := 349) (k := 11) (N := 65536) D rfl rfl rfl (gy (by decide)) fun r4 h5 er eh5 S q D =>
    have gt_r4 := nw_gt H.1 er
    have kc_r4 := nw_cls H.1 er eh5
    have kl_r4 := nw_len H.1 er eh5
    have T := fj_hs_ok H.1 S
    have hk := cls_st H.1 T.2 hk (by decide)
    have H := sh0_st H T
    j_pfF (pc := 351) (a := x0.toNat) (ty := 12) D rfl rfl rfl hk ⟨rfl, rfl⟩ rfl gn (gy rfl) gn fun h6 eh6 S D =>
    have T := fj_hs_ok H.1 S
    have hk := cls_st H.1 T.2 hk (by decide)
    have H := sh0_st H T
    j_aldn (pc := 354) D rfl rfl rfl fun D =>
    j_sp (pc := 355) D rfl fun D =>
    j_na (pc := 358) (k := 4) (N := 65536) D rfl rfl rfl (gy (by decide)) fun r7 h8 er eh8 S q D =>
    have gt_r7 := nw_gt H.1 er
    have kc_r7 := nw_cls H.1 er eh8
    have kl_r7 := nw_len H.1 er eh8
    have T := fj_hs_ok H.1 S
    have hk := cls_st H.1 T.2 hk (by decide)
    have H := sh0_st H T
    j_pfF (pc := 360) (a := x0.toNat) (ty := 12) D rfl rfl rfl hk ⟨rfl, rfl⟩ rfl gn (gy rfl) gn fun h9 eh9 S D =>
    have T := fj_hs_ok H.1 S
    have hk := cls_st H.1 T.2 hk (by decide)
    have H := sh0_st H T
    j_aldn (pc := 363) D rfl rfl rfl fun D =>
    j_sp (pc := 364) D rfl fun D =>
    j_na (pc := 367) (k := 8) (N := 65536) D rfl rfl rfl (gy (by decide)) fun r10 h11 er eh11 S q D =>
    have gt_r10 := nw_gt H.1 er
    have kc_r10 := nw_cls H.1 er eh11
    have kl_r10 := nw_len H.1 er eh11
    have T := fj_hs_ok H.1 S
    have hk := cls_st H.1 T.2 hk (by decide)
    have H := sh0_st H T
    j_pfF (pc := 369) (a := x0.toNat) (ty := 12) D rfl rfl rfl hk ⟨rfl, rfl⟩ rfl gn (gy rfl) gn fun h12 eh12 S D =>
    have T := fj_hs_ok H.1 S
    have hk := cls_st H.1 T.2 hk (by decide)
    have H := sh0_st H T
    j_aldn (pc := 372) D rfl rfl rfl fun D =>
    j_ic (pc := 373) D rfl fun D =>
    j_pf (pc := 374) (a := x0.toNat) D rfl rfl rfl hk rfl rfl gn (gy rfl) fun h13 eh13 S D =>
    have T := fj_hs_ok H.1 S
    have hk := cls_st H.1 T.2 hk (by decide)
    have H := sh0_st H T
    j_aldn (pc := 377) D rfl rfl rfl fun D =>
    have D : fk_D 89 [(378, none, .new 677, 3, 115, 34, 0), (381, none, .dup, 1, 0, 0, 0), (382, none, .aload_n 0, 1, 0, 0, 0), (383, none, .invokespecial 679, 3, 1, 99, 0), (386, none, .putfield 680, 3, 269, 100, 112), (389, none, .aload_n 0, 1, 0, 0, 0), (390, none, .new 464, 3, 113, 4, 0), (393, none, .dup, 1, 0, 0, 0), (394, none, .invokespecial 684, 3, 0, 104, 0), (397, none, .putfield 457, 3, 270, 100, 12), (400, none, .aload_n 0, 1, 0, 0, 0), (401, none, .new 464, 3, 113, 4, 0), (404, none, .dup, 1, 0, 0, 0), (405, none, .invokespecial 684, 3, 0, 104, 0), (408, none, .putfield 569, 3, 271, 100, 12)] := fq_of2 cd_89 ow_89 cl_89 rfl (pc := 378) (by decide +kernel)
    j_new (pc := 378) D rfl fun r14 h15 er eh15 S D =>
    have gt_r14 := nw_gt H.1 er
    have kc_r14 := nw_cls H.1 er eh15
    have T := fj_hs_ok H.1 S
    have hk := cls_st H.1 T.2 hk (by decide)
    have H := sh0_st H T
    j_sh (pc := 381) D rfl rfl rfl fun D =>
    j_aldn (pc := 382) D rfl rfl rfl fun D =>
    j_spv (pc := 383) (m := 99) (a := [(4, x0)]) (rest := [(4, r14), (4, x0)]) D rfl rfl rfl rfl (by rw [show h15 0 r14.toNat 0 = 115 from kc_r14]; decide) (gt_nz gt_r14) (fun h16 e1 D =>
      have T := fj_run_ok _ _ _ _ _ _ H.1 e1
      have hk := cls_st H.1 T.2 hk (by decide)
      have kc_r14 := cls_st H.1 T.2 kc_r14 (by decide)
      have H := sh0_st H T
      j_pfF (pc := 386) (a := x0.toNat) (ty := 12) D rfl rfl rfl hk ⟨rfl, rfl⟩ rfl gn (gy rfl) gn fun h19 eh19 S D =>
      have T := fj_hs_ok H.1 S
      have hk := cls_st H.1 T.2 hk (by decide)
      have H := sh0_st H T
      j_aldn (pc := 389) D rfl rfl rfl fun D =>
      j_new (pc := 390) D rfl fun r20 h21 er eh21 S D =>
      have gt_r20 := nw_gt H.1 er
      have kc_r20 := nw_cls H.1 er eh21
      have T := fj_hs_ok H.1 S
      have hk := cls_st H.1 T.2 hk (by decide)
      have H := sh0_st H T
      j_sh (pc := 393) D rfl rfl rfl fun D =>
      j_spv (pc := 394) (m := 104) (a := []) (rest := [(4, r20), (4, x0)]) D rfl rfl rfl rfl (by rw [show h21 0 r20.toNat 0 = 113 from kc_r20]; decide) (gt_nz gt_r20) (fun h22 e1 D =>
        have T := fj_run_ok _ _ _ _ _ _ H.1 e1
        have hk := cls_st H.1 T.2 hk (by decide)
        have kc_r20 := cls_st H.1 T.2 kc_r20 (by decide)
        have H := sh0_st H T
        j_pf (pc := 397) (a := x0.toNat) D rfl rfl rfl hk rfl rfl gn (gy rfl) fun h25 eh25 S D =>
        have T := fj_hs_ok H.1 S
        have hk := cls_st H.1 T.2 hk (by decide)
        have H := sh0_st H T
        j_aldn (pc := 400) D rfl rfl rfl fun D =>
        j_new (pc := 401) D rfl fun r26 h27 er eh27 S D =>
        have gt_r26 := nw_gt H.1 er
        have kc_r26 := nw_cls H.1 er eh27
        have T := fj_hs_ok H.1 S
        have hk := cls_st H.1 T.2 hk (by decide)
        have H := sh0_st H T
        j_sh (pc := 404) D rfl rfl rfl fun D =>
        j_spv (pc := 405) (m := 104) (a := []) (rest := [(4, r26), (4, x0)]) D rfl rfl rfl rfl (by rw [show h27 0 r26.toNat 0 = 113 from kc_r26]; decide) (gt_nz gt_r26) (fun h28 e1 D =>
          have T := fj_run_ok _ _ _ _ _ _ H.1 e1
          have hk := cls_st H.1 T.2 hk (by decide)
          have kc_r26 := cls_st H.1 T.2 kc_r26 (by decide)
          have H := sh0_st H T
          j_pf (pc := 408) (a := x0.toNat) D rfl rfl rfl hk rfl rfl gn (gy rfl) fun h31 eh31 S D =>
          have T := fj_hs_ok H.1 S
          have hk := cls_st H.1 T.2 hk (by decide)
          have H := sh0_st H T
          fk_jump cut_89_411 rfl rfl) (fun q30 h28 e1 =>
          j_tx (hx_89 _))) (fun q24 h22 e1 =>
        j_tx (hx_89 _))) (fun q18 h16 e1 =>
      j_tx (hx_89 _))
theorem e_89_411 (d : Nat) (x0 : Int) {h : fi_H} (H : Sh0 h) (hk : h 0 x0.toNat 0 = 100) : c_89_411 d x0 h =
  nw_ h 10 400 400 fun r1 h2 =>
  if 302 < x0 then
  if h2 272 x0.toNat 0 = 0 then
  lt_ (fi_upd h2 272 x0.toNat 0 r1) fun h3 =>
  nw_ h3 27 8 8 fun r4 h5 =>
  if 302 < x0 then
  if h5 274 x0.toNat 0 = 0 then
  lt_ (fi_upd h5 274 x0.toNat 0 r4) fun h6 =>
  nw_ h6 10 5 5 fun r7 h8 =>
  lt_ (fi_upd h8 10 r7.toNat 0 (-1)) fun h9 =>
  lt_ (fi_upd h9 10 r7.toNat 1 (-1)) fun h10 =>
  lt_ (fi_upd h10 10 r7.toNat 2 (-1)) fun h11 =>
  lt_ (fi_upd h11 10 r7.toNat 3 (-1)) fun h12 =>
  lt_ (fi_upd h12 10 r7.toNat 4 (-1)) fun h13 =>
  if 302 < x0 then
  if h13 276 x0.toNat 0 = 0 then
  lt_ (fi_upd h13 276 x0.toNat 0 r7) fun h14 =>
  c_89_456 d x0 h14
  else none
  else none
  else none
  else none
  else none
  else none := by
  unfold c_89_411
  exact
    have D : fk_D 89 [(411, some [0], .aload_n 0, 1, 0, 0, 0), (412, none, .sipush 400, 3, 0, 400, 0), (415, none, .newarray .int, 2, 0, 0, 0), (417, none, .putfield 595, 3, 272, 100, 112), (420, none, .aload_n 0, 1, 0, 0, 0), (421, none, .bipush 8, 2, 0, 8, 0), (423, none, .anewarray 398, 3, 166, 27, 0), (426, none, .putfield 685, 3, 274, 100, 112), (429, none, .aload_n 0, 1, 0, 0, 0), (430, none, .iconst 5, 1, 0, 5, 0), (431, none, .newarray .int, 2, 0, 0, 0), (433, none, .dup, 1, 0, 0, 0), (434, none, .iconst 0, 1, 0, 0, 0), (435, none, .iconst (-1), 1, 0, (-1), 0), (436, none, .iastore, 1, 0, 0, 0), (437, none, .dup, 1, 0, 0, 0), (438, none, .iconst 1, 1, 0, 1, 0), (439, none, .iconst (-1), 1, 0, (-1), 0), (440, none, .iastore, 1, 0, 0, 0), (441, none, .dup, 1, 0, 0, 0)] := fq_of2 cd_89 ow_89 cl_89 rfl (pc := 411) (by decide +kernel)
    j_aldn (pc := 411) D rfl rfl rfl fun D =>
    j_sp (pc := 412) D rfl fun D =>
    j_na (pc := 415) (k := 10) (N := 65536) D rfl rfl rfl (gy (by decide)) fun r1 h2 er eh2 S q D =>
    have gt_r1 := nw_gt H.1 er
    have kc_r1 := nw_cls H.1 er eh2
    have kl_r1 := nw_len H.1 er eh2
    have T := fj_hs_ok H.1 S
    have hk := cls_st H.1 T.2 hk (by decide)
    have H := sh0_st H T
    j_pfF (pc := 417) (a := x0.toNat) (ty := 12) D rfl rfl rfl hk ⟨rfl, rfl⟩ rfl gn (gy rfl) gn fun h3 eh3 S D =>
    have T := fj_hs_ok H.1 S
    have hk := cls_st H.1 T.2 hk (by decide)
    have H := sh0_st H T
    j_aldn (pc := 420) D rfl rfl rfl fun D =>
    j_bp (pc := 421) D rfl fun D =>
    j_ana (pc := 423) (N := 65536) D rfl rfl (gy (by decide)) fun r4 h5 er eh5 S q D =>
    have gt_r4 := nw_gt H.1 er
    have kc_r4 := nw_cls H.1 er eh5
    have kl_r4 := nw_len H.1 er eh5
    have T := fj_hs_ok H.1 S
    have hk := cls_st H.1 T.2 hk (by decide)
    have H := sh0_st H T
    j_pfF (pc := 426) (a := x0.toNat) (ty := 12) D rfl rfl rfl hk ⟨rfl, rfl⟩ rfl gn (gy rfl) gn fun h6 eh6 S D =>
    have T := fj_hs_ok H.1 S
    have hk := cls_st H.1 T.2 hk (by decide)
    have H := sh0_st H T
    j_aldn (pc := 429) D rfl rfl rfl fun D =>
    j_ic (pc := 430) D rfl fun D =>
    j_na (pc := 431) (k := 10) (N := 65536) D rfl rfl rfl (gy (by decide)) fun r7 h8 er eh8 S q D =>
    have gt_r7 := nw_gt H.1 er
    have kc_r7 := nw_cls H.1 er eh8
    have kl_r7 := nw_len H.1 er eh8
    have T := fj_hs_ok H.1 S
    have hk := cls_st H.1 T.2 hk (by decide)
    have H := sh0_st H T
    j_sh (pc := 433) D rfl rfl rfl fun D =>
    j_ic (pc := 434) D rfl fun D =>
    j_ic (pc := 435) D rfl fun D =>
    j_as (pc := 436) (a := r7.toNat) (e := 10) D rfl ⟨rfl, rfl⟩ rfl (gt_nle gt_r7) kc_r7 kl_r7 ⟨rfl, rfl, rfl⟩ rfl (gy (by decide)) (gy rfl) fun h9 eh9 S q D =>
    have T := fj_hs_ok H.1 S
    have hk := cls_st H.1 T.2 hk (by decide)
    have kl_r7 := len_st H.1 T.2 kc_r7 (by decide) kl_r7
    have kc_r7 := cls_st H.1 T.2 kc_r7 (by decide)
    have H := sh0_st H T
    j_sh (pc := 437) D rfl rfl rfl fun D =>
    j_ic (pc := 438) D rfl fun D =>
    j_ic (pc := 439) D rfl fun D =>
    j_as (pc := 440) (a := r7.toNat) (e := 10) D rfl ⟨rfl, rfl⟩ rfl (gt_nle gt_r7) kc_r7 kl_r7 ⟨rfl, rfl, rfl⟩ rfl (gy (by decide)) (gy rfl) fun h10 eh10 S q D =>
    have T := fj_hs_ok H.1 S
    have hk := cls_st H.1 T.2 hk (by decide)
    have kl_r7 := len_st H.1 T.2 kc_r7 (by decide) kl_r7
    have kc_r7 := cls_st H.1 T.2 kc_r7 (by decide)
    have H := sh0_st H T
    j_sh (pc := 441) D rfl rfl rfl fun D =>
    have D : fk_D 89 [(442, none, .iconst 2, 1, 0, 2, 0), (443, none, .iconst (-1), 1, 0, (-1), 0), (444, none, .iastore, 1, 0, 0, 0), (445, none, .dup, 1, 0, 0, 0), (446, none, .iconst 3, 1, 0, 3, 0), (447, none, .iconst (-1), 1, 0, (-1), 0), (448, none, .iastore, 1, 0, 0, 0), (449, none, .dup, 1, 0, 0, 0), (450, none, .iconst 4, 1, 0, 4, 0), (451, none, .iconst (-1), 1, 0, (-1), 0), (452, none, .iastore, 1, 0, 0, 0), (453, none, .putfield 624, 3, 276, 100, 112)] := fq_of2 cd_89 ow_89 cl_89 rfl (pc := 442) (by decide +kernel)
    j_ic (pc := 442) D rfl fun D =>
    j_ic (pc := 443) D rfl fun D =>
    j_as (pc := 444) (a := r7.toNat) (e := 10) D rfl ⟨rfl, rfl⟩ rfl (gt_nle gt_r7) kc_r7 kl_r7 ⟨rfl, rfl, rfl⟩ rfl (gy (by decide)) (gy rfl) fun h11 eh11 S q D =>
    have T := fj_hs_ok H.1 S
    have hk := cls_st H.1 T.2 hk (by decide)
    have kl_r7 := len_st H.1 T.2 kc_r7 (by decide) kl_r7
    have kc_r7 := cls_st H.1 T.2 kc_r7 (by decide)
    have H := sh0_st H T
    j_sh (pc := 445) D rfl rfl rfl fun D =>
    j_ic (pc := 446) D rfl fun D =>
    j_ic (pc := 447) D rfl fun D =>
    j_as (pc := 448) (a := r7.toNat) (e := 10) D rfl ⟨rfl, rfl⟩ rfl (gt_nle gt_r7) kc_r7 kl_r7 ⟨rfl, rfl, rfl⟩ rfl (gy (by decide)) (gy rfl) fun h12 eh12 S q D =>
    have T := fj_hs_ok H.1 S
    have hk := cls_st H.1 T.2 hk (by decide)
    have kl_r7 := len_st H.1 T.2 kc_r7 (by decide) kl_r7
    have kc_r7 := cls_st H.1 T.2 kc_r7 (by decide)
    have H := sh0_st H T
    j_sh (pc := 449) D rfl rfl rfl fun D =>
    j_ic (pc := 450) D rfl fun D =>
    j_ic (pc := 451) D rfl fun D =>
    j_as (pc := 452) (a := r7.toNat) (e := 10) D rfl ⟨rfl, rfl⟩ rfl (gt_nle gt_r7) kc_r7 kl_r7 ⟨rfl, rfl, rfl⟩ rfl (gy (by decide)) (gy rfl) fun h13 eh13 S q D =>
    have T := fj_hs_ok H.1 S
    have hk := cls_st H.1 T.2 hk (by decide)
    have kl_r7 := len_st H.1 T.2 kc_r7 (by decide) kl_r7
    have kc_r7 := cls_st H.1 T.2 kc_r7 (by decide)
    have H := sh0_st H T
    j_pfF (pc := 453) (a := x0.toNat) (ty := 12) D rfl rfl rfl hk ⟨rfl, rfl⟩ rfl gn (gy rfl) gn fun h14 eh14 S D =>
    have T := fj_hs_ok H.1 S
    have hk := cls_st H.1 T.2 hk (by decide)
    have H := sh0_st H T
    fk_jump cut_89_456 rfl rfl
theorem e_89_456 (d : Nat) (x0 : Int) {h : fi_H} (H : Sh0 h) (hk : h 0 x0.toNat 0 = 100) : c_89_456 d x0 h =
  ng_ h 40 40 fun r1 h2 =>
  if 302 < x0 then
  if h2 279 x0.toNat 0 = 0 then
  lt_ (fi_upd h2 279 x0.toNat 0 r1) fun h3 =>
  nw_ h3 5 400 400 fun r4 h5 =>
  if 302 < x0 then
  if h5 282 x0.toNat 0 = 0 then
  lt_ (fi_upd h5 282 x0.toNat 0 r4) fun h6 =>
  nw_ h6 8 400 400 fun r7 h8 =>
  if 302 < x0 then
  if h8 283 x0.toNat 0 = 0 then
  lt_ (fi_upd h8 283 x0.toNat 0 r7) fun h9 =>
  nw_ h9 11 400 400 fun r10 h11 =>
  if 302 < x0 then
  if h11 284 x0.toNat 0 = 0 then
  lt_ (fi_upd h11 284 x0.toNat 0 r10) fun h12 =>
  nw_ h12 11 400 400 fun r13 h14 =>
  if 302 < x0 then
  if h14 285 x0.toNat 0 = 0 then
  lt_ (fi_upd h14 285 x0.toNat 0 r13) fun h15 =>
  nw_ h15 29 30 30 fun r16 h17 =>
  if 302 < x0 then
  if h17 288 x0.toNat 0 = 0 then
  lt_ (fi_upd h17 288 x0.toNat 0 r16) fun h18 =>
  if 302 < x0 then
  lt_ (fi_upd h18 291 x0.toNat 0 48) fun h19 =>
  if 302 < x0 then
  lt_ (fi_upd h19 292 x0.toNat 0 1) fun h20 =>
  if 302 < x0 then
  lt_ (fi_upd h20 293 x0.toNat 0 200) fun h21 =>
  c_89_531 d x0 h21
  else none
  else none
  else none
  else none
  else none
  else none
  else none
  else none
  else none
  else none
  else none
  else none
  else none
  else none
  else none := by
  unfold c_89_456
  exact
    have D : fk_D 89 [(456, some [0], .aload_n 0, 1, 0, 0, 0), (457, none, .bipush 40, 2, 0, 40, 0), (459, none, .bipush 40, 2, 0, 40, 0), (461, none, .multianewarray 688 2, 4, 0, 0, 0), (465, none, .putfield 629, 3, 279, 100, 112), (468, none, .aload_n 0, 1, 0, 0, 0), (469, none, .sipush 400, 3, 0, 400, 0), (472, none, .newarray .char, 2, 0, 0, 0), (474, none, .putfield 689, 3, 282, 100, 112), (477, none, .aload_n 0, 1, 0, 0, 0), (478, none, .sipush 400, 3, 0, 400, 0), (481, none, .newarray .byte, 2, 0, 0, 0), (483, none, .putfield 692, 3, 283, 100, 112), (486, none, .aload_n 0, 1, 0, 0, 0), (487, none, .sipush 400, 3, 0, 400, 0), (490, none, .newarray .long, 2, 0, 0, 0), (492, none, .putfield 695, 3, 284, 100, 112), (495, none, .aload_n 0, 1, 0, 0, 0), (496, none, .sipush 400, 3, 0, 400, 0), (499, none, .newarray .long, 2, 0, 0, 0)] := fq_of2 cd_89 ow_89 cl_89 rfl (pc := 456) (by decide +kernel)
    j_aldn (pc := 456) D rfl rfl rfl fun D =>
    j_bp (pc := 457) D rfl fun D =>
    j_bp (pc := 459) D rfl fun D =>
    j_mna (pc := 461) D rfl (by decide) fun r1 h2 er eh2 S D =>
    have gt_r1 := nw_gt H.1 er
    have T := fj_hs_ok H.1 S
    have hk := cls_st H.1 T.2 hk (by decide)
    have H := sh0_st H T
    j_pfF (pc := 465) (a := x0.toNat) (ty := 12) D rfl rfl rfl hk ⟨rfl, rfl⟩ rfl gn (gy rfl) gn fun h3 eh3 S D =>
    have T := fj_hs_ok H.1 S
    have hk := cls_st H.1 T.2 hk (by decide)
    have H := sh0_st H T
    j_aldn (pc := 468) D rfl rfl rfl fun D =>
    j_sp (pc := 469) D rfl fun D =>
    j_na (pc := 472) (k := 5) (N := 65536) D rfl rfl rfl (gy (by decide)) fun r4 h5 er eh5 S q D =>
    have gt_r4 := nw_gt H.1 er
    have kc_r4 := nw_cls H.1 er eh5
    have kl_r4 := nw_len H.1 er eh5
    have T := fj_hs_ok H.1 S
    have hk := cls_st H.1 T.2 hk (by decide)
    have H := sh0_st H T
    j_pfF (pc := 474) (a := x0.toNat) (ty := 12) D rfl rfl rfl hk ⟨rfl, rfl⟩ rfl gn (gy rfl) gn fun h6 eh6 S D =>
    have T := fj_hs_ok H.1 S
    have hk := cls_st H.1 T.2 hk (by decide)
    have H := sh0_st H T
    j_aldn (pc := 477) D rfl rfl rfl fun D =>
    j_sp (pc := 478) D rfl fun D =>
    j_na (pc := 481) (k := 8) (N := 65536) D rfl rfl rfl (gy (by decide)) fun r7 h8 er eh8 S q D =>
    have gt_r7 := nw_gt H.1 er
    have kc_r7 := nw_cls H.1 er eh8
    have kl_r7 := nw_len H.1 er eh8
    have T := fj_hs_ok H.1 S
    have hk := cls_st H.1 T.2 hk (by decide)
    have H := sh0_st H T
    j_pfF (pc := 483) (a := x0.toNat) (ty := 12) D rfl rfl rfl hk ⟨rfl, rfl⟩ rfl gn (gy rfl) gn fun h9 eh9 S D =>
    have T := fj_hs_ok H.1 S
    have hk := cls_st H.1 T.2 hk (by decide)
    have H := sh0_st H T
    j_aldn (pc := 486) D rfl rfl rfl fun D =>
    j_sp (pc := 487) D rfl fun D =>
    j_na (pc := 490) (k := 11) (N := 65536) D rfl rfl rfl (gy (by decide)) fun r10 h11 er eh11 S q D =>
    have gt_r10 := nw_gt H.1 er
    have kc_r10 := nw_cls H.1 er eh11
    have kl_r10 := nw_len H.1 er eh11
    have T := fj_hs_ok H.1 S
    have hk := cls_st H.1 T.2 hk (by decide)
    have H := sh0_st H T
    j_pfF (pc := 492) (a := x0.toNat) (ty := 12) D rfl rfl rfl hk ⟨rfl, rfl⟩ rfl gn (gy rfl) gn fun h12 eh12 S D =>
    have T := fj_hs_ok H.1 S
    have hk := cls_st H.1 T.2 hk (by decide)
    have H := sh0_st H T
    j_aldn (pc := 495) D rfl rfl rfl fun D =>
    j_sp (pc := 496) D rfl fun D =>
    j_na (pc := 499) (k := 11) (N := 65536) D rfl rfl rfl (gy (by decide)) fun r13 h14 er eh14 S q D =>
    have gt_r13 := nw_gt H.1 er
    have kc_r13 := nw_cls H.1 er eh14
    have kl_r13 := nw_len H.1 er eh14
    have T := fj_hs_ok H.1 S
    have hk := cls_st H.1 T.2 hk (by decide)
    have H := sh0_st H T
    have D : fk_D 89 [(501, none, .putfield 698, 3, 285, 100, 112), (504, none, .aload_n 0, 1, 0, 0, 0), (505, none, .bipush 30, 2, 0, 30, 0), (507, none, .anewarray 701, 3, 104, 29, 0), (510, none, .putfield 703, 3, 288, 100, 112), (513, none, .aload_n 0, 1, 0, 0, 0), (514, none, .bipush 48, 2, 0, 48, 0), (516, none, .putfield 707, 3, 291, 100, 10), (519, none, .aload_n 0, 1, 0, 0, 0), (520, none, .iconst 1, 1, 0, 1, 0), (521, none, .putfield 710, 3, 292, 100, 10), (524, none, .aload_n 0, 1, 0, 0, 0), (525, none, .sipush 200, 3, 0, 200, 0), (528, none, .putfield 713, 3, 293, 100, 10)] := fq_of2 cd_89 ow_89 cl_89 rfl (pc := 501) (by decide +kernel)
    j_pfF (pc := 501) (a := x0.toNat) (ty := 12) D rfl rfl rfl hk ⟨rfl, rfl⟩ rfl gn (gy rfl) gn fun h15 eh15 S D =>
    have T := fj_hs_ok H.1 S
    have hk := cls_st H.1 T.2 hk (by decide)
    have H := sh0_st H T
    j_aldn (pc := 504) D rfl rfl rfl fun D =>
    j_bp (pc := 505) D rfl fun D =>
    j_ana (pc := 507) (N := 65536) D rfl rfl (gy (by decide)) fun r16 h17 er eh17 S q D =>
    have gt_r16 := nw_gt H.1 er
    have kc_r16 := nw_cls H.1 er eh17
    have kl_r16 := nw_len H.1 er eh17
    have T := fj_hs_ok H.1 S
    have hk := cls_st H.1 T.2 hk (by decide)
    have H := sh0_st H T
    j_pfF (pc := 510) (a := x0.toNat) (ty := 12) D rfl rfl rfl hk ⟨rfl, rfl⟩ rfl gn (gy rfl) gn fun h18 eh18 S D =>
    have T := fj_hs_ok H.1 S
    have hk := cls_st H.1 T.2 hk (by decide)
    have H := sh0_st H T
    j_aldn (pc := 513) D rfl rfl rfl fun D =>
    j_bp (pc := 514) D rfl fun D =>
    j_pf (pc := 516) (a := x0.toNat) D rfl rfl rfl hk rfl rfl gn (gy rfl) fun h19 eh19 S D =>
    have T := fj_hs_ok H.1 S
    have hk := cls_st H.1 T.2 hk (by decide)
    have H := sh0_st H T
    j_aldn (pc := 519) D rfl rfl rfl fun D =>
    j_ic (pc := 520) D rfl fun D =>
    j_pf (pc := 521) (a := x0.toNat) D rfl rfl rfl hk rfl rfl gn (gy rfl) fun h20 eh20 S D =>
    have T := fj_hs_ok H.1 S
    have hk := cls_st H.1 T.2 hk (by decide)
    have H := sh0_st H T
    j_aldn (pc := 524) D rfl rfl rfl fun D =>
    j_sp (pc := 525) D rfl fun D =>
    j_pf (pc := 528) (a := x0.toNat) D rfl rfl rfl hk rfl rfl gn (gy rfl) fun h21 eh21 S D =>
    have T := fj_hs_ok H.1 S
    have hk := cls_st H.1 T.2 hk (by decide)
    have H := sh0_st H T
    fk_jump cut_89_531 rfl rfl
theorem e_89_531 (d : Nat) (x0 : Int) {h : fi_H} (H : Sh0 h) (hk : h 0 x0.toNat 0 = 100) : c_89_531 d x0 h =
  nw_ h 8 400 400 fun r1 h2 =>
  if 302 < x0 then
  if h2 294 x0.toNat 0 = 0 then
  lt_ (fi_upd h2 294 x0.toNat 0 r1) fun h3 =>
  nw_ h3 8 400 400 fun r4 h5 =>
  if 302 < x0 then
  if h5 295 x0.toNat 0 = 0 then
  lt_ (fi_upd h5 295 x0.toNat 0 r4) fun h6 =>
  nw_ h6 8 400 400 fun r7 h8 =>
  if 302 < x0 then
  if h8 296 x0.toNat 0 = 0 then
  lt_ (fi_upd h8 296 x0.toNat 0 r7) fun h9 =>
  nw_ h9 8 400 400 fun r10 h11 =>
  if 302 < x0 then
  if h11 297 x0.toNat 0 = 0 then
  lt_ (fi_upd h11 297 x0.toNat 0 r10) fun h12 =>
  nw_ h12 11 400 400 fun r13 h14 =>
  if 302 < x0 then
  if h14 298 x0.toNat 0 = 0 then
  lt_ (fi_upd h14 298 x0.toNat 0 r13) fun h15 =>
  nw_ h15 5 400 400 fun r16 h17 =>
  if 302 < x0 then
  if h17 299 x0.toNat 0 = 0 then
  lt_ (fi_upd h17 299 x0.toNat 0 r16) fun h18 =>
  nw_ h18 11 24 24 fun r19 h20 =>
  if 302 < x0 then
  if h20 300 x0.toNat 0 = 0 then
  lt_ (fi_upd h20 300 x0.toNat 0 r19) fun h21 =>
  nw_ h21 11 24 24 fun r22 h23 =>
  if 302 < x0 then
  if h23 301 x0.toNat 0 = 0 then
  lt_ (fi_upd h23 301 x0.toNat 0 r22) fun h24 =>
  c_89_601 d x0 h24
  else none
  else none
  else none
  else none
  else none
  else none
  else none
  else none
  else none
  else none
  else none
  else none
  else none
  else none
  else none
  else none := by
  unfold c_89_531
  exact
    have D : fk_D 89 [(531, some [0], .aload_n 0, 1, 0, 0, 0), (532, none, .sipush 400, 3, 0, 400, 0), (535, none, .newarray .byte, 2, 0, 0, 0), (537, none, .putfield 716, 3, 294, 100, 112), (540, none, .aload_n 0, 1, 0, 0, 0), (541, none, .sipush 400, 3, 0, 400, 0), (544, none, .newarray .byte, 2, 0, 0, 0), (546, none, .putfield 719, 3, 295, 100, 112), (549, none, .aload_n 0, 1, 0, 0, 0), (550, none, .sipush 400, 3, 0, 400, 0), (553, none, .newarray .byte, 2, 0, 0, 0), (555, none, .putfield 722, 3, 296, 100, 112), (558, none, .aload_n 0, 1, 0, 0, 0), (559, none, .sipush 400, 3, 0, 400, 0), (562, none, .newarray .byte, 2, 0, 0, 0), (564, none, .putfield 725, 3, 297, 100, 112), (567, none, .aload_n 0, 1, 0, 0, 0), (568, none, .sipush 400, 3, 0, 400, 0), (571, none, .newarray .long, 2, 0, 0, 0), (573, none, .putfield 728, 3, 298, 100, 112)] := fq_of2 cd_89 ow_89 cl_89 rfl (pc := 531) (by decide +kernel)
    j_aldn (pc := 531) D rfl rfl rfl fun D =>
    j_sp (pc := 532) D rfl fun D =>
    j_na (pc := 535) (k := 8) (N := 65536) D rfl rfl rfl (gy (by decide)) fun r1 h2 er eh2 S q D =>
    have gt_r1 := nw_gt H.1 er
    have kc_r1 := nw_cls H.1 er eh2
    have kl_r1 := nw_len H.1 er eh2
    have T := fj_hs_ok H.1 S
    have hk := cls_st H.1 T.2 hk (by decide)
    have H := sh0_st H T
    j_pfF (pc := 537) (a := x0.toNat) (ty := 12) D rfl rfl rfl hk ⟨rfl, rfl⟩ rfl gn (gy rfl) gn fun h3 eh3 S D =>
    have T := fj_hs_ok H.1 S
    have hk := cls_st H.1 T.2 hk (by decide)
    have H := sh0_st H T
    j_aldn (pc := 540) D rfl rfl rfl fun D =>
    j_sp (pc := 541) D rfl fun D =>
    j_na (pc := 544) (k := 8) (N := 65536) D rfl rfl rfl (gy (by decide)) fun r4 h5 er eh5 S q D =>
    have gt_r4 := nw_gt H.1 er
    have kc_r4 := nw_cls H.1 er eh5
    have kl_r4 := nw_len H.1 er eh5
    have T := fj_hs_ok H.1 S
    have hk := cls_st H.1 T.2 hk (by decide)
    have H := sh0_st H T
    j_pfF (pc := 546) (a := x0.toNat) (ty := 12) D rfl rfl rfl hk ⟨rfl, rfl⟩ rfl gn (gy rfl) gn fun h6 eh6 S D =>
    have T := fj_hs_ok H.1 S
    have hk := cls_st H.1 T.2 hk (by decide)
    have H := sh0_st H T
    j_aldn (pc := 549) D rfl rfl rfl fun D =>
    j_sp (pc := 550) D rfl fun D =>
    j_na (pc := 553) (k := 8) (N := 65536) D rfl rfl rfl (gy (by decide)) fun r7 h8 er eh8 S q D =>
    have gt_r7 := nw_gt H.1 er
    have kc_r7 := nw_cls H.1 er eh8
    have kl_r7 := nw_len H.1 er eh8
    have T := fj_hs_ok H.1 S
    have hk := cls_st H.1 T.2 hk (by decide)
    have H := sh0_st H T
    j_pfF (pc := 555) (a := x0.toNat) (ty := 12) D rfl rfl rfl hk ⟨rfl, rfl⟩ rfl gn (gy rfl) gn fun h9 eh9 S D =>
    have T := fj_hs_ok H.1 S
    have hk := cls_st H.1 T.2 hk (by decide)
    have H := sh0_st H T
    j_aldn (pc := 558) D rfl rfl rfl fun D =>
    j_sp (pc := 559) D rfl fun D =>
    j_na (pc := 562) (k := 8) (N := 65536) D rfl rfl rfl (gy (by decide)) fun r10 h11 er eh11 S q D =>
    have gt_r10 := nw_gt H.1 er
    have kc_r10 := nw_cls H.1 er eh11
    have kl_r10 := nw_len H.1 er eh11
    have T := fj_hs_ok H.1 S
    have hk := cls_st H.1 T.2 hk (by decide)
    have H := sh0_st H T
    j_pfF (pc := 564) (a := x0.toNat) (ty := 12) D rfl rfl rfl hk ⟨rfl, rfl⟩ rfl gn (gy rfl) gn fun h12 eh12 S D =>
    have T := fj_hs_ok H.1 S
    have hk := cls_st H.1 T.2 hk (by decide)
    have H := sh0_st H T
    j_aldn (pc := 567) D rfl rfl rfl fun D =>
    j_sp (pc := 568) D rfl fun D =>
    j_na (pc := 571) (k := 11) (N := 65536) D rfl rfl rfl (gy (by decide)) fun r13 h14 er eh14 S q D =>
    have gt_r13 := nw_gt H.1 er
    have kc_r13 := nw_cls H.1 er eh14
    have kl_r13 := nw_len H.1 er eh14
    have T := fj_hs_ok H.1 S
    have hk := cls_st H.1 T.2 hk (by decide)
    have H := sh0_st H T
    j_pfF (pc := 573) (a := x0.toNat) (ty := 12) D rfl rfl rfl hk ⟨rfl, rfl⟩ rfl gn (gy rfl) gn fun h15 eh15 S D =>
    have T := fj_hs_ok H.1 S
    have hk := cls_st H.1 T.2 hk (by decide)
    have H := sh0_st H T
    have D : fk_D 89 [(576, none, .aload_n 0, 1, 0, 0, 0), (577, none, .sipush 400, 3, 0, 400, 0), (580, none, .newarray .char, 2, 0, 0, 0), (582, none, .putfield 731, 3, 299, 100, 112), (585, none, .aload_n 0, 1, 0, 0, 0), (586, none, .bipush 24, 2, 0, 24, 0), (588, none, .newarray .long, 2, 0, 0, 0), (590, none, .putfield 734, 3, 300, 100, 112), (593, none, .aload_n 0, 1, 0, 0, 0), (594, none, .bipush 24, 2, 0, 24, 0), (596, none, .newarray .long, 2, 0, 0, 0), (598, none, .putfield 737, 3, 301, 100, 112)] := fq_of2 cd_89 ow_89 cl_89 rfl (pc := 576) (by decide +kernel)
    j_aldn (pc := 576) D rfl rfl rfl fun D =>
    j_sp (pc := 577) D rfl fun D =>
    j_na (pc := 580) (k := 5) (N := 65536) D rfl rfl rfl (gy (by decide)) fun r16 h17 er eh17 S q D =>
    have gt_r16 := nw_gt H.1 er
    have kc_r16 := nw_cls H.1 er eh17
    have kl_r16 := nw_len H.1 er eh17
    have T := fj_hs_ok H.1 S
    have hk := cls_st H.1 T.2 hk (by decide)
    have H := sh0_st H T
    j_pfF (pc := 582) (a := x0.toNat) (ty := 12) D rfl rfl rfl hk ⟨rfl, rfl⟩ rfl gn (gy rfl) gn fun h18 eh18 S D =>
    have T := fj_hs_ok H.1 S
    have hk := cls_st H.1 T.2 hk (by decide)
    have H := sh0_st H T
    j_aldn (pc := 585) D rfl rfl rfl fun D =>
    j_bp (pc := 586) D rfl fun D =>
    j_na (pc := 588) (k := 11) (N := 65536) D rfl rfl rfl (gy (by decide)) fun r19 h20 er eh20 S q D =>
    have gt_r19 := nw_gt H.1 er
    have kc_r19 := nw_cls H.1 er eh20
    have kl_r19 := nw_len H.1 er eh20
    have T := fj_hs_ok H.1 S
    have hk := cls_st H.1 T.2 hk (by decide)
    have H := sh0_st H T
    j_pfF (pc := 590) (a := x0.toNat) (ty := 12) D rfl rfl rfl hk ⟨rfl, rfl⟩ rfl gn (gy rfl) gn fun h21 eh21 S D =>
    have T := fj_hs_ok H.1 S
    have hk := cls_st H.1 T.2 hk (by decide)
    have H := sh0_st H T
    j_aldn (pc := 593) D rfl rfl rfl fun D =>
    j_bp (pc := 594) D rfl fun D =>
    j_na (pc := 596) (k := 11) (N := 65536) D rfl rfl rfl (gy (by decide)) fun r22 h23 er eh23 S q D =>
    have gt_r22 := nw_gt H.1 er
    have kc_r22 := nw_cls H.1 er eh23
    have kl_r22 := nw_len H.1 er eh23
    have T := fj_hs_ok H.1 S
    have hk := cls_st H.1 T.2 hk (by decide)
    have H := sh0_st H T
    j_pfF (pc := 598) (a := x0.toNat) (ty := 12) D rfl rfl rfl hk ⟨rfl, rfl⟩ rfl gn (gy rfl) gn fun h24 eh24 S D =>
    have T := fj_hs_ok H.1 S
    have hk := cls_st H.1 T.2 hk (by decide)
    have H := sh0_st H T
    fk_jump cut_89_601 rfl rfl
theorem e_89_601 (d : Nat) (x0 : Int) {h : fi_H} (H : Sh0 h) (hk : h 0 x0.toNat 0 = 100) : c_89_601 d x0 h =
  nw_ h 5 24 24 fun r1 h2 =>
  if 302 < x0 then
  if h2 302 x0.toNat 0 = 0 then
  lt_ (fi_upd h2 302 x0.toNat 0 r1) fun h3 =>
  nw_ h3 4 24 24 fun r4 h5 =>
  if 302 < x0 then
  if h5 303 x0.toNat 0 = 0 then
  lt_ (fi_upd h5 303 x0.toNat 0 r4) fun h6 =>
  nw_ h6 4 24 24 fun r7 h8 =>
  if 302 < x0 then
  if h8 304 x0.toNat 0 = 0 then
  lt_ (fi_upd h8 304 x0.toNat 0 r7) fun h9 =>
  nw_ h9 11 400 400 fun r10 h11 =>
  if 302 < x0 then
  if h11 305 x0.toNat 0 = 0 then
  lt_ (fi_upd h11 305 x0.toNat 0 r10) fun h12 =>
  nw_ h12 11 30 30 fun r13 h14 =>
  if 302 < x0 then
  if h14 306 x0.toNat 0 = 0 then
  lt_ (fi_upd h14 306 x0.toNat 0 r13) fun h15 =>
  nw_ h15 8 400 400 fun r16 h17 =>
  if 302 < x0 then
  if h17 307 x0.toNat 0 = 0 then
  lt_ (fi_upd h17 307 x0.toNat 0 r16) fun h18 =>
  nw_ h18 10 400 400 fun r19 h20 =>
  if 302 < x0 then
  if h20 308 x0.toNat 0 = 0 then
  lt_ (fi_upd h20 308 x0.toNat 0 r19) fun h21 =>
  nw_ h21 4 400 400 fun r22 h23 =>
  if 302 < x0 then
  if h23 309 x0.toNat 0 = 0 then
  lt_ (fi_upd h23 309 x0.toNat 0 r22) fun h24 =>
  c_89_669 d x0 h24
  else none
  else none
  else none
  else none
  else none
  else none
  else none
  else none
  else none
  else none
  else none
  else none
  else none
  else none
  else none
  else none := by
  unfold c_89_601
  exact
    have D : fk_D 89 [(601, some [0], .aload_n 0, 1, 0, 0, 0), (602, none, .bipush 24, 2, 0, 24, 0), (604, none, .newarray .char, 2, 0, 0, 0), (606, none, .putfield 740, 3, 302, 100, 112), (609, none, .aload_n 0, 1, 0, 0, 0), (610, none, .bipush 24, 2, 0, 24, 0), (612, none, .newarray .boolean, 2, 0, 0, 0), (614, none, .putfield 743, 3, 303, 100, 112), (617, none, .aload_n 0, 1, 0, 0, 0), (618, none, .bipush 24, 2, 0, 24, 0), (620, none, .newarray .boolean, 2, 0, 0, 0), (622, none, .putfield 746, 3, 304, 100, 112), (625, none, .aload_n 0, 1, 0, 0, 0), (626, none, .sipush 400, 3, 0, 400, 0), (629, none, .newarray .long, 2, 0, 0, 0), (631, none, .putfield 749, 3, 305, 100, 112), (634, none, .aload_n 0, 1, 0, 0, 0), (635, none, .bipush 30, 2, 0, 30, 0), (637, none, .newarray .long, 2, 0, 0, 0), (639, none, .putfield 752, 3, 306, 100, 112)] := fq_of2 cd_89 ow_89 cl_89 rfl (pc := 601) (by decide +kernel)
    j_aldn (pc := 601) D rfl rfl rfl fun D =>
    j_bp (pc := 602) D rfl fun D =>
    j_na (pc := 604) (k := 5) (N := 65536) D rfl rfl rfl (gy (by decide)) fun r1 h2 er eh2 S q D =>
    have gt_r1 := nw_gt H.1 er
    have kc_r1 := nw_cls H.1 er eh2
    have kl_r1 := nw_len H.1 er eh2
    have T := fj_hs_ok H.1 S
    have hk := cls_st H.1 T.2 hk (by decide)
    have H := sh0_st H T
    j_pfF (pc := 606) (a := x0.toNat) (ty := 12) D rfl rfl rfl hk ⟨rfl, rfl⟩ rfl gn (gy rfl) gn fun h3 eh3 S D =>
    have T := fj_hs_ok H.1 S
    have hk := cls_st H.1 T.2 hk (by decide)
    have H := sh0_st H T
    j_aldn (pc := 609) D rfl rfl rfl fun D =>
    j_bp (pc := 610) D rfl fun D =>
    j_na (pc := 612) (k := 4) (N := 65536) D rfl rfl rfl (gy (by decide)) fun r4 h5 er eh5 S q D =>
    have gt_r4 := nw_gt H.1 er
    have kc_r4 := nw_cls H.1 er eh5
    have kl_r4 := nw_len H.1 er eh5
    have T := fj_hs_ok H.1 S
    have hk := cls_st H.1 T.2 hk (by decide)
    have H := sh0_st H T
    j_pfF (pc := 614) (a := x0.toNat) (ty := 12) D rfl rfl rfl hk ⟨rfl, rfl⟩ rfl gn (gy rfl) gn fun h6 eh6 S D =>
    have T := fj_hs_ok H.1 S
    have hk := cls_st H.1 T.2 hk (by decide)
    have H := sh0_st H T
    j_aldn (pc := 617) D rfl rfl rfl fun D =>
    j_bp (pc := 618) D rfl fun D =>
    j_na (pc := 620) (k := 4) (N := 65536) D rfl rfl rfl (gy (by decide)) fun r7 h8 er eh8 S q D =>
    have gt_r7 := nw_gt H.1 er
    have kc_r7 := nw_cls H.1 er eh8
    have kl_r7 := nw_len H.1 er eh8
    have T := fj_hs_ok H.1 S
    have hk := cls_st H.1 T.2 hk (by decide)
    have H := sh0_st H T
    j_pfF (pc := 622) (a := x0.toNat) (ty := 12) D rfl rfl rfl hk ⟨rfl, rfl⟩ rfl gn (gy rfl) gn fun h9 eh9 S D =>
    have T := fj_hs_ok H.1 S
    have hk := cls_st H.1 T.2 hk (by decide)
    have H := sh0_st H T
    j_aldn (pc := 625) D rfl rfl rfl fun D =>
    j_sp (pc := 626) D rfl fun D =>
    j_na (pc := 629) (k := 11) (N := 65536) D rfl rfl rfl (gy (by decide)) fun r10 h11 er eh11 S q D =>
    have gt_r10 := nw_gt H.1 er
    have kc_r10 := nw_cls H.1 er eh11
    have kl_r10 := nw_len H.1 er eh11
    have T := fj_hs_ok H.1 S
    have hk := cls_st H.1 T.2 hk (by decide)
    have H := sh0_st H T
    j_pfF (pc := 631) (a := x0.toNat) (ty := 12) D rfl rfl rfl hk ⟨rfl, rfl⟩ rfl gn (gy rfl) gn fun h12 eh12 S D =>
    have T := fj_hs_ok H.1 S
    have hk := cls_st H.1 T.2 hk (by decide)
    have H := sh0_st H T
    j_aldn (pc := 634) D rfl rfl rfl fun D =>
    j_bp (pc := 635) D rfl fun D =>
    j_na (pc := 637) (k := 11) (N := 65536) D rfl rfl rfl (gy (by decide)) fun r13 h14 er eh14 S q D =>
    have gt_r13 := nw_gt H.1 er
    have kc_r13 := nw_cls H.1 er eh14
    have kl_r13 := nw_len H.1 er eh14
    have T := fj_hs_ok H.1 S
    have hk := cls_st H.1 T.2 hk (by decide)
    have H := sh0_st H T
    j_pfF (pc := 639) (a := x0.toNat) (ty := 12) D rfl rfl rfl hk ⟨rfl, rfl⟩ rfl gn (gy rfl) gn fun h15 eh15 S D =>
    have T := fj_hs_ok H.1 S
    have hk := cls_st H.1 T.2 hk (by decide)
    have H := sh0_st H T
    have D : fk_D 89 [(642, none, .aload_n 0, 1, 0, 0, 0), (643, none, .sipush 400, 3, 0, 400, 0), (646, none, .newarray .byte, 2, 0, 0, 0), (648, none, .putfield 755, 3, 307, 100, 112), (651, none, .aload_n 0, 1, 0, 0, 0), (652, none, .sipush 400, 3, 0, 400, 0), (655, none, .newarray .int, 2, 0, 0, 0), (657, none, .putfield 758, 3, 308, 100, 112), (660, none, .aload_n 0, 1, 0, 0, 0), (661, none, .sipush 400, 3, 0, 400, 0), (664, none, .newarray .boolean, 2, 0, 0, 0), (666, none, .putfield 761, 3, 309, 100, 112)] := fq_of2 cd_89 ow_89 cl_89 rfl (pc := 642) (by decide +kernel)
    j_aldn (pc := 642) D rfl rfl rfl fun D =>
    j_sp (pc := 643) D rfl fun D =>
    j_na (pc := 646) (k := 8) (N := 65536) D rfl rfl rfl (gy (by decide)) fun r16 h17 er eh17 S q D =>
    have gt_r16 := nw_gt H.1 er
    have kc_r16 := nw_cls H.1 er eh17
    have kl_r16 := nw_len H.1 er eh17
    have T := fj_hs_ok H.1 S
    have hk := cls_st H.1 T.2 hk (by decide)
    have H := sh0_st H T
    j_pfF (pc := 648) (a := x0.toNat) (ty := 12) D rfl rfl rfl hk ⟨rfl, rfl⟩ rfl gn (gy rfl) gn fun h18 eh18 S D =>
    have T := fj_hs_ok H.1 S
    have hk := cls_st H.1 T.2 hk (by decide)
    have H := sh0_st H T
    j_aldn (pc := 651) D rfl rfl rfl fun D =>
    j_sp (pc := 652) D rfl fun D =>
    j_na (pc := 655) (k := 10) (N := 65536) D rfl rfl rfl (gy (by decide)) fun r19 h20 er eh20 S q D =>
    have gt_r19 := nw_gt H.1 er
    have kc_r19 := nw_cls H.1 er eh20
    have kl_r19 := nw_len H.1 er eh20
    have T := fj_hs_ok H.1 S
    have hk := cls_st H.1 T.2 hk (by decide)
    have H := sh0_st H T
    j_pfF (pc := 657) (a := x0.toNat) (ty := 12) D rfl rfl rfl hk ⟨rfl, rfl⟩ rfl gn (gy rfl) gn fun h21 eh21 S D =>
    have T := fj_hs_ok H.1 S
    have hk := cls_st H.1 T.2 hk (by decide)
    have H := sh0_st H T
    j_aldn (pc := 660) D rfl rfl rfl fun D =>
    j_sp (pc := 661) D rfl fun D =>
    j_na (pc := 664) (k := 4) (N := 65536) D rfl rfl rfl (gy (by decide)) fun r22 h23 er eh23 S q D =>
    have gt_r22 := nw_gt H.1 er
    have kc_r22 := nw_cls H.1 er eh23
    have kl_r22 := nw_len H.1 er eh23
    have T := fj_hs_ok H.1 S
    have hk := cls_st H.1 T.2 hk (by decide)
    have H := sh0_st H T
    j_pfF (pc := 666) (a := x0.toNat) (ty := 12) D rfl rfl rfl hk ⟨rfl, rfl⟩ rfl gn (gy rfl) gn fun h24 eh24 S D =>
    have T := fj_hs_ok H.1 S
    have hk := cls_st H.1 T.2 hk (by decide)
    have H := sh0_st H T
    fk_jump cut_89_669 rfl rfl
theorem e_89_669 (d : Nat) (x0 : Int) {h : fi_H} (H : Sh0 h) (hk : h 0 x0.toNat 0 = 100) : c_89_669 d x0 h =
  if 302 < x0 then
  lt_ (fi_upd h 310 x0.toNat 0 500) fun h1 =>
  if 302 < x0 then
  lt_ (fi_upd h1 311 x0.toNat 0 60) fun h2 =>
  nw_ h2 11 30 30 fun r3 h4 =>
  if 302 < x0 then
  if h4 312 x0.toNat 0 = 0 then
  lt_ (fi_upd h4 312 x0.toNat 0 r3) fun h5 =>
  nw_ h5 11 12 12 fun r6 h7 =>
  if 302 < x0 then
  if h7 313 x0.toNat 0 = 0 then
  lt_ (fi_upd h7 313 x0.toNat 0 r6) fun h8 =>
  nw_ h8 11 60 60 fun r9 h10 =>
  if 302 < x0 then
  if h10 314 x0.toNat 0 = 0 then
  lt_ (fi_upd h10 314 x0.toNat 0 r9) fun h11 =>
  nw_ h11 10 60 60 fun r12 h13 =>
  if 302 < x0 then
  if h13 315 x0.toNat 0 = 0 then
  lt_ (fi_upd h13 315 x0.toNat 0 r12) fun h14 =>
  c_89_716 d x0 0 h14
  else none
  else none
  else none
  else none
  else none
  else none
  else none
  else none
  else none
  else none := by
  unfold c_89_669
  exact
    have D : fk_D 89 [(669, some [0], .aload_n 0, 1, 0, 0, 0), (670, none, .sipush 500, 3, 0, 500, 0), (673, none, .putfield 764, 3, 310, 100, 10), (676, none, .aload_n 0, 1, 0, 0, 0), (677, none, .bipush 60, 2, 0, 60, 0), (679, none, .putfield 767, 3, 311, 100, 10), (682, none, .aload_n 0, 1, 0, 0, 0), (683, none, .bipush 30, 2, 0, 30, 0), (685, none, .newarray .long, 2, 0, 0, 0), (687, none, .putfield 770, 3, 312, 100, 112), (690, none, .aload_n 0, 1, 0, 0, 0), (691, none, .bipush 12, 2, 0, 12, 0), (693, none, .newarray .long, 2, 0, 0, 0), (695, none, .putfield 773, 3, 313, 100, 112), (698, none, .aload_n 0, 1, 0, 0, 0), (699, none, .bipush 60, 2, 0, 60, 0), (701, none, .newarray .long, 2, 0, 0, 0), (703, none, .putfield 776, 3, 314, 100, 112), (706, none, .aload_n 0, 1, 0, 0, 0), (707, none, .bipush 60, 2, 0, 60, 0)] := fq_of2 cd_89 ow_89 cl_89 rfl (pc := 669) (by decide +kernel)
    j_aldn (pc := 669) D rfl rfl rfl fun D =>
    j_sp (pc := 670) D rfl fun D =>
    j_pf (pc := 673) (a := x0.toNat) D rfl rfl rfl hk rfl rfl gn (gy rfl) fun h1 eh1 S D =>
    have T := fj_hs_ok H.1 S
    have hk := cls_st H.1 T.2 hk (by decide)
    have H := sh0_st H T
    j_aldn (pc := 676) D rfl rfl rfl fun D =>
    j_bp (pc := 677) D rfl fun D =>
    j_pf (pc := 679) (a := x0.toNat) D rfl rfl rfl hk rfl rfl gn (gy rfl) fun h2 eh2 S D =>
    have T := fj_hs_ok H.1 S
    have hk := cls_st H.1 T.2 hk (by decide)
    have H := sh0_st H T
    j_aldn (pc := 682) D rfl rfl rfl fun D =>
    j_bp (pc := 683) D rfl fun D =>
    j_na (pc := 685) (k := 11) (N := 65536) D rfl rfl rfl (gy (by decide)) fun r3 h4 er eh4 S q D =>
    have gt_r3 := nw_gt H.1 er
    have kc_r3 := nw_cls H.1 er eh4
    have kl_r3 := nw_len H.1 er eh4
    have T := fj_hs_ok H.1 S
    have hk := cls_st H.1 T.2 hk (by decide)
    have H := sh0_st H T
    j_pfF (pc := 687) (a := x0.toNat) (ty := 12) D rfl rfl rfl hk ⟨rfl, rfl⟩ rfl gn (gy rfl) gn fun h5 eh5 S D =>
    have T := fj_hs_ok H.1 S
    have hk := cls_st H.1 T.2 hk (by decide)
    have H := sh0_st H T
    j_aldn (pc := 690) D rfl rfl rfl fun D =>
    j_bp (pc := 691) D rfl fun D =>
    j_na (pc := 693) (k := 11) (N := 65536) D rfl rfl rfl (gy (by decide)) fun r6 h7 er eh7 S q D =>
    have gt_r6 := nw_gt H.1 er
    have kc_r6 := nw_cls H.1 er eh7
    have kl_r6 := nw_len H.1 er eh7
    have T := fj_hs_ok H.1 S
    have hk := cls_st H.1 T.2 hk (by decide)
    have H := sh0_st H T
    j_pfF (pc := 695) (a := x0.toNat) (ty := 12) D rfl rfl rfl hk ⟨rfl, rfl⟩ rfl gn (gy rfl) gn fun h8 eh8 S D =>
    have T := fj_hs_ok H.1 S
    have hk := cls_st H.1 T.2 hk (by decide)
    have H := sh0_st H T
    j_aldn (pc := 698) D rfl rfl rfl fun D =>
    j_bp (pc := 699) D rfl fun D =>
    j_na (pc := 701) (k := 11) (N := 65536) D rfl rfl rfl (gy (by decide)) fun r9 h10 er eh10 S q D =>
    have gt_r9 := nw_gt H.1 er
    have kc_r9 := nw_cls H.1 er eh10
    have kl_r9 := nw_len H.1 er eh10
    have T := fj_hs_ok H.1 S
    have hk := cls_st H.1 T.2 hk (by decide)
    have H := sh0_st H T
    j_pfF (pc := 703) (a := x0.toNat) (ty := 12) D rfl rfl rfl hk ⟨rfl, rfl⟩ rfl gn (gy rfl) gn fun h11 eh11 S D =>
    have T := fj_hs_ok H.1 S
    have hk := cls_st H.1 T.2 hk (by decide)
    have H := sh0_st H T
    j_aldn (pc := 706) D rfl rfl rfl fun D =>
    j_bp (pc := 707) D rfl fun D =>
    have D : fk_D 89 [(709, none, .newarray .int, 2, 0, 0, 0), (711, none, .putfield 779, 3, 315, 100, 112), (714, none, .iconst 0, 1, 0, 0, 0), (715, none, .istore_n 1, 1, 0, 0, 0)] := fq_of2 cd_89 ow_89 cl_89 rfl (pc := 709) (by decide +kernel)
    j_na (pc := 709) (k := 10) (N := 65536) D rfl rfl rfl (gy (by decide)) fun r12 h13 er eh13 S q D =>
    have gt_r12 := nw_gt H.1 er
    have kc_r12 := nw_cls H.1 er eh13
    have kl_r12 := nw_len H.1 er eh13
    have T := fj_hs_ok H.1 S
    have hk := cls_st H.1 T.2 hk (by decide)
    have H := sh0_st H T
    j_pfF (pc := 711) (a := x0.toNat) (ty := 12) D rfl rfl rfl hk ⟨rfl, rfl⟩ rfl gn (gy rfl) gn fun h14 eh14 S D =>
    have T := fj_hs_ok H.1 S
    have hk := cls_st H.1 T.2 hk (by decide)
    have H := sh0_st H T
    j_ic (pc := 714) D rfl fun D =>
    j_istn (pc := 715) (L' := [(1, (0, 0)), (0, (4, x0))]) D rfl nl_89 rfl rfl fun D =>
    fk_jump cut_89_716 rfl rfl
theorem e_89_716 (d : Nat) (x0 x1 : Int) {h : fi_H} (H : Sh0 h) (hk : h 0 x0.toNat 0 = 100) : c_89_716 d x0 x1 h =
  if x1 < 4 then
    nw_ h 110 5 0 fun r1 h2 =>
    cv_ (fj_run d 105 h2 [(4, r1)])
      (fun h3 =>
      if 302 < h 227 x0.toNat 0 ∧ (20 ≤ h3 0 (h 227 x0.toNat 0).toNat 0 ∧ h3 0 (h 227 x0.toNat 0).toNat 0 < 30) then
      if 0 ≤ x1 ∧ x1 < h3 1 (h 227 x0.toNat 0).toNat 0 then
      if h3 0 (h 227 x0.toNat 0).toNat 0 ≠ 28 ∧ (r1 = 0 ∨ (fi_sup (h3 0 r1.toNat 0)).contains (fi_comp (h3 0 (h 227 x0.toNat 0).toNat 0)) = true) then
      lt_ (fi_upd h3 12 (h 227 x0.toNat 0).toNat x1.toNat r1) fun h6 =>
      c_89_716 d x0 (wI (x1 + 1)) h6
      else none
      else none
      else none)
      (fun q5 h3 => tx_ q5 h3)
  else
    c_89_742 d x0 0 h := by
  unfold c_89_716
  exact
    have D : fk_D 89 [(716, some [0, 1], .iload_n 1, 1, 0, 0, 0), (717, none, .iconst 4, 1, 0, 4, 0), (718, none, .if_icmp .ge 22, 3, 740, 0, 0), (721, none, .aload_n 0, 1, 0, 0, 0), (722, none, .getfield 529, 3, 227, 100, 12), (725, none, .iload_n 1, 1, 0, 0, 0), (726, none, .new 656, 3, 110, 5, 0), (729, none, .dup, 1, 0, 0, 0), (730, none, .invokespecial 782, 3, 0, 105, 0), (733, none, .aastore, 1, 0, 0, 0), (734, none, .iinc 1 1, 3, 0, 1, 0), (737, none, .goto (-21), 3, 716, 0, 0)] := fq_of2 cd_89 ow_89 cl_89 rfl (pc := 716) (by decide +kernel)
    j_ildn (pc := 716) D rfl rfl rfl fun D =>
    j_ic (pc := 717) D rfl fun D =>
    j_ige (pc := 718) D rfl (fun q D =>
      j_aldn (pc := 721) D rfl rfl rfl fun D =>
      j_gf (pc := 722) (a := x0.toNat) D rfl rfl (nz_cls H.2.1 hk (by decide)) rfl hk rfl fun D =>
      j_ildn (pc := 725) D rfl rfl rfl fun D =>
      j_new (pc := 726) D rfl fun r1 h2 er eh2 S D =>
      have gt_r1 := nw_gt H.1 er
      have kc_r1 := nw_cls H.1 er eh2
      have T := fj_hs_ok H.1 S
      have hk := cls_st H.1 T.2 hk (by decide)
      have H := sh0_st H T
      j_sh (pc := 729) D rfl rfl rfl fun D =>
      j_spv (pc := 730) (m := 105) (a := []) (rest := [(4, r1), (0, x1), (4, h 227 x0.toNat 0)]) D rfl rfl rfl rfl (by rw [show h2 0 r1.toNat 0 = 110 from kc_r1]; decide) (gt_nz gt_r1) (fun h3 e1 D =>
        have T := fj_run_ok _ _ _ _ _ _ H.1 e1
        have hk := cls_st H.1 T.2 hk (by decide)
        have kc_r1 := cls_st H.1 T.2 kc_r1 (by decide)
        have H := sh0_st H T
        j_asur (pc := 733) D rfl rfl gn gn gn fun h6 eh6 S q q2 D =>
        have T := fj_hs_ok H.1 S
        have hk := cls_st H.1 T.2 hk (by decide)
        have H := sh0_st H T
        j_inc (pc := 734) (L' := [(1, (0, wI (x1 + 1))), (0, (4, x0))]) D rfl rfl rfl (by decide +kernel) rfl fun D =>
        j_goto (pc := 737) D rfl <|
        fk_jump cut_89_716 rfl rfl) (fun q5 h3 e1 =>
        j_tx (hx_89 _))) (fun q =>
      have D : fk_D 89 [(740, none, .iconst 0, 1, 0, 0, 0), (741, none, .istore_n 1, 1, 0, 0, 0)] := fq_of2 cd_89 ow_89 cl_89 rfl (pc := 740) (by decide +kernel)
      j_ic (pc := 740) D rfl fun D =>
      j_istn (pc := 741) (L' := [(1, (0, 0)), (0, (4, x0))]) D rfl nl_89 rfl rfl fun D =>
      fk_jump cut_89_742 rfl rfl)
theorem e_89_742 (d : Nat) (x0 x1 : Int) {h : fi_H} (H : Sh0 h) (hk : h 0 x0.toNat 0 = 100) : c_89_742 d x0 x1 h =
  if fk_isA (h 0 (h 248 x0.toNat 0).toNat 0) = true then
  if x1 < h 1 (h 248 x0.toNat 0).toNat 0 then
    nw_ h 120 15 0 fun r1 h2 =>
    cv_ (fj_run d 106 h2 [(4, r1), (4, x0)])
      (fun h3 =>
      if 302 < h 248 x0.toNat 0 ∧ (20 ≤ h3 0 (h 248 x0.toNat 0).toNat 0 ∧ h3 0 (h 248 x0.toNat 0).toNat 0 < 30) then
      if 0 ≤ x1 ∧ x1 < h3 1 (h 248 x0.toNat 0).toNat 0 then
      if h3 0 (h 248 x0.toNat 0).toNat 0 ≠ 28 ∧ (r1 = 0 ∨ (fi_sup (h3 0 r1.toNat 0)).contains (fi_comp (h3 0 (h 248 x0.toNat 0).toNat 0)) = true) then
      lt_ (fi_upd h3 12 (h 248 x0.toNat 0).toNat x1.toNat r1) fun h6 =>
      c_89_742 d x0 (wI (x1 + 1)) h6
      else none
      else none
      else none)
      (fun q5 h3 => tx_ q5 h3)
  else
    c_89_773 d x0 0 h
  else none := by
  unfold c_89_742
  exact
    have D : fk_D 89 [(742, some [0, 1], .iload_n 1, 1, 0, 0, 0), (743, none, .aload_n 0, 1, 0, 0, 0), (744, none, .getfield 348, 3, 248, 100, 12), (747, none, .arraylength, 1, 0, 0, 0), (748, none, .if_icmp .ge 23, 3, 771, 0, 0), (751, none, .aload_n 0, 1, 0, 0, 0), (752, none, .getfield 348, 3, 248, 100, 12), (755, none, .iload_n 1, 1, 0, 0, 0), (756, none, .new 353, 3, 120, 15, 0), (759, none, .dup, 1, 0, 0, 0), (760, none, .aload_n 0, 1, 0, 0, 0), (761, none, .invokespecial 783, 3, 1, 106, 0), (764, none, .aastore, 1, 0, 0, 0), (765, none, .iinc 1 1, 3, 0, 1, 0), (768, none, .goto (-26), 3, 742, 0, 0)] := fq_of2 cd_89 ow_89 cl_89 rfl (pc := 742) (by decide +kernel)
    j_ildn (pc := 742) D rfl rfl rfl fun D =>
    j_aldn (pc := 743) D rfl rfl rfl fun D =>
    j_gf (pc := 744) (a := x0.toNat) D rfl rfl (nz_cls H.2.1 hk (by decide)) rfl hk rfl fun D =>
    j_lenu (pc := 747) H.2.1 D rfl fun q D =>
    j_ige (pc := 748) D rfl (fun q D =>
      j_aldn (pc := 751) D rfl rfl rfl fun D =>
      j_gf (pc := 752) (a := x0.toNat) D rfl rfl (nz_cls H.2.1 hk (by decide)) rfl hk rfl fun D =>
      j_ildn (pc := 755) D rfl rfl rfl fun D =>
      j_new (pc := 756) D rfl fun r1 h2 er eh2 S D =>
      have gt_r1 := nw_gt H.1 er
      have kc_r1 := nw_cls H.1 er eh2
      have T := fj_hs_ok H.1 S
      have hk := cls_st H.1 T.2 hk (by decide)
      have H := sh0_st H T
      j_sh (pc := 759) D rfl rfl rfl fun D =>
      j_aldn (pc := 760) D rfl rfl rfl fun D =>
      j_spv (pc := 761) (m := 106) (a := [(4, x0)]) (rest := [(4, r1), (0, x1), (4, h 248 x0.toNat 0)]) D rfl rfl rfl rfl (by rw [show h2 0 r1.toNat 0 = 120 from kc_r1]; decide) (gt_nz gt_r1) (fun h3 e1 D =>
        have T := fj_run_ok _ _ _ _ _ _ H.1 e1
        have hk := cls_st H.1 T.2 hk (by decide)
        have kc_r1 := cls_st H.1 T.2 kc_r1 (by decide)
        have H := sh0_st H T
        j_asur (pc := 764) D rfl rfl gn gn gn fun h6 eh6 S q q2 D =>
        have T := fj_hs_ok H.1 S
        have hk := cls_st H.1 T.2 hk (by decide)
        have H := sh0_st H T
        j_inc (pc := 765) (L' := [(1, (0, wI (x1 + 1))), (0, (4, x0))]) D rfl rfl rfl (by decide +kernel) rfl fun D =>
        j_goto (pc := 768) D rfl <|
        fk_jump cut_89_742 rfl rfl) (fun q5 h3 e1 =>
        j_tx (hx_89 _))) (fun q =>
      have D : fk_D 89 [(771, none, .iconst 0, 1, 0, 0, 0), (772, none, .istore_n 1, 1, 0, 0, 0)] := fq_of2 cd_89 ow_89 cl_89 rfl (pc := 771) (by decide +kernel)
      j_ic (pc := 771) D rfl fun D =>
      j_istn (pc := 772) (L' := [(1, (0, 0)), (0, (4, x0))]) D rfl nl_89 rfl rfl fun D =>
      fk_jump cut_89_773 rfl rfl)
theorem e_89_773 (d : Nat) (x0 x1 : Int) {h : fi_H} (H : Sh0 h) (hk : h 0 x0.toNat 0 = 100) : c_89_773 d x0 x1 h =
  if x1 < 30 then
    if 302 < h 217 x0.toNat 0 ∧ h 0 (h 217 x0.toNat 0).toNat 0 = 6 then
    if 0 ≤ x1 ∧ x1 < h 1 (h 217 x0.toNat 0).toNat 0 then
    lt_ (fi_upd h 6 (h 217 x0.toNat 0).toNat x1.toNat 1065353216) fun h1 =>
    c_89_773 d x0 (wI (x1 + 1)) h1
    else none
    else none
  else
    some (.inl none, h) := by
  unfold c_89_773
  exact
    have D : fk_D 89 [(773, some [0, 1], .iload_n 1, 1, 0, 0, 0), (774, none, .bipush 30, 2, 0, 30, 0), (776, none, .if_icmp .ge 16, 3, 792, 0, 0), (779, none, .aload_n 0, 1, 0, 0, 0), (780, none, .getfield 649, 3, 217, 100, 12), (783, none, .iload_n 1, 1, 0, 0, 0), (784, none, .fconst 1, 1, 0, 0, 0), (785, none, .fastore, 1, 0, 0, 0), (786, none, .iinc 1 1, 3, 0, 1, 0), (789, none, .goto (-16), 3, 773, 0, 0)] := fq_of2 cd_89 ow_89 cl_89 rfl (pc := 773) (by decide +kernel)
    j_ildn (pc := 773) D rfl rfl rfl fun D =>
    j_bp (pc := 774) D rfl fun D =>
    j_ige (pc := 776) D rfl (fun q D =>
      j_aldn (pc := 779) D rfl rfl rfl fun D =>
      j_gf (pc := 780) (a := x0.toNat) D rfl rfl (nz_cls H.2.1 hk (by decide)) rfl hk rfl fun D =>
      j_ildn (pc := 783) D rfl rfl rfl fun D =>
      j_c0 (pc := 784) (v := (2, 1065353216)) D rfl rfl (by decide +kernel) fun D =>
      j_asu (pc := 785) (e := 6) D rfl rfl ⟨rfl, rfl, rfl⟩ rfl gn gn (gy rfl) fun h1 eh1 S q q2 D =>
      have T := fj_hs_ok H.1 S
      have hk := cls_st H.1 T.2 hk (by decide)
      have H := sh0_st H T
      j_inc (pc := 786) (L' := [(1, (0, wI (x1 + 1))), (0, (4, x0))]) D rfl rfl rfl (by decide +kernel) rfl fun D =>
      j_goto (pc := 789) D rfl <|
      fk_jump cut_89_773 rfl rfl) (fun q =>
      have D : fk_D 89 [(792, none, .return_, 1, 0, 0, 0)] := fq_of2 cd_89 ow_89 cl_89 rfl (pc := 792) (by decide +kernel)
      j_vret D rt_89)
theorem m_89 (d : Nat) (x0 : Int) {h : fi_H} (H : Sh0 h) (hk : h 0 x0.toNat 0 = 100) : fj_run (d + 1) 89 h [(4, x0)] =
  cv_ (fj_run d 1009 h [(4, x0)])
    (fun h1 =>
    nw_ h1 128 8 0 fun r4 h5 =>
    cv_ (fj_run d 91 h5 [(4, r4)])
      (fun h6 =>
      if 302 < x0 then
      if h6 207 x0.toNat 0 = 0 then
      lt_ (fi_upd h6 207 x0.toNat 0 r4) fun h9 =>
      nw_ h9 107 7 0 fun r10 h11 =>
      cv_ (fj_run d 94 h11 [(4, r10)])
        (fun h12 =>
        if 302 < x0 then
        if h12 208 x0.toNat 0 = 0 then
        lt_ (fi_upd h12 208 x0.toNat 0 r10) fun h15 =>
        nw_ h15 101 3 0 fun r16 h17 =>
        cv_ (fj_run d 95 h17 [(4, r16)])
          (fun h18 =>
          if 302 < x0 then
          if h18 209 x0.toNat 0 = 0 then
          lt_ (fi_upd h18 209 x0.toNat 0 r16) fun h21 =>
          nw_ h21 20 20 20 fun r22 h23 =>
          if 302 < x0 then
          lt_ (fi_upd h23 210 x0.toNat 0 r22) fun h24 =>
          nw_ h24 20 20 20 fun r25 h26 =>
          if 302 < x0 then
          lt_ (fi_upd h26 211 x0.toNat 0 r25) fun h27 =>
          nw_ h27 119 10 0 fun r28 h29 =>
          cv_ (fj_run d 96 h29 [(4, r28), (0, 700)])
            (fun h30 =>
            if 302 < x0 then
            if h30 213 x0.toNat 0 = 0 then
            lt_ (fi_upd h30 213 x0.toNat 0 r28) fun h33 =>
            nw_ h33 21 40 40 fun r34 h35 =>
            if 302 < x0 then
            if h35 214 x0.toNat 0 = 0 then
            lt_ (fi_upd h35 214 x0.toNat 0 r34) fun h36 =>
            c_89_78 d x0 h36
            else none
            else none
            else none
            else none)
            (fun q32 h30 => tx_ q32 h30)
          else none
          else none
          else none
          else none)
          (fun q20 h18 => tx_ q20 h18)
        else none
        else none)
        (fun q14 h12 => tx_ q14 h12)
      else none
      else none)
      (fun q8 h6 => tx_ q8 h6))
    (fun q3 h1 => tx_ q3 h1) := by
  rw [fj_run_eq d (by decide) h [(4, x0)] (Nat.le_of_ble_eq_true (by rw [nl_89]; rfl))]
  show gG (fj_run d) 89 0 [(0, (4, x0))] [] h = _
  exact
    have D : fk_D 89 [(0, none, .aload_n 0, 1, 0, 0, 0), (1, none, .invokespecial 636, 3, 0, 1009, 0), (4, none, .aload_n 0, 1, 0, 0, 0), (5, none, .new 8, 3, 128, 8, 0), (8, none, .dup, 1, 0, 0, 0), (9, none, .invokespecial 641, 3, 0, 91, 0), (12, none, .putfield 1, 3, 207, 100, 112), (15, none, .aload_n 0, 1, 0, 0, 0), (16, none, .new 312, 3, 107, 7, 0), (19, none, .dup, 1, 0, 0, 0), (20, none, .invokespecial 642, 3, 0, 94, 0), (23, none, .putfield 307, 3, 208, 100, 112), (26, none, .aload_n 0, 1, 0, 0, 0), (27, none, .new 21, 3, 101, 3, 0), (30, none, .dup, 1, 0, 0, 0), (31, none, .invokespecial 643, 3, 0, 95, 0), (34, none, .putfield 16, 3, 209, 100, 112), (37, none, .aload_n 0, 1, 0, 0, 0), (38, none, .bipush 20, 2, 0, 20, 0), (40, none, .anewarray 34, 3, 189, 20, 0)] := fq_of2 cd_89 ow_89 cl_89 rfl (pc := 0) (by decide +kernel)
    j_aldn (pc := 0) D rfl rfl rfl fun D =>
    j_spv (pc := 1) (m := 1009) (a := []) (rest := []) D rfl rfl rfl rfl (by rw [show h 0 x0.toNat 0 = 100 from hk]; decide) (nz_cls H.2.1 hk (by decide)) (fun h1 e1 D =>
      have T := fj_run_ok _ _ _ _ _ _ H.1 e1
      have hk := cls_st H.1 T.2 hk (by decide)
      have H := sh0_st H T
      j_aldn (pc := 4) D rfl rfl rfl fun D =>
      j_new (pc := 5) D rfl fun r4 h5 er eh5 S D =>
      have gt_r4 := nw_gt H.1 er
      have kc_r4 := nw_cls H.1 er eh5
      have T := fj_hs_ok H.1 S
      have hk := cls_st H.1 T.2 hk (by decide)
      have H := sh0_st H T
      j_sh (pc := 8) D rfl rfl rfl fun D =>
      j_spv (pc := 9) (m := 91) (a := []) (rest := [(4, r4), (4, x0)]) D rfl rfl rfl rfl (by rw [show h5 0 r4.toNat 0 = 128 from kc_r4]; decide) (gt_nz gt_r4) (fun h6 e1 D =>
        have T := fj_run_ok _ _ _ _ _ _ H.1 e1
        have hk := cls_st H.1 T.2 hk (by decide)
        have kc_r4 := cls_st H.1 T.2 kc_r4 (by decide)
        have H := sh0_st H T
        j_pfF (pc := 12) (a := x0.toNat) (ty := 12) D rfl rfl rfl hk ⟨rfl, rfl⟩ rfl gn (gy rfl) gn fun h9 eh9 S D =>
        have T := fj_hs_ok H.1 S
        have hk := cls_st H.1 T.2 hk (by decide)
        have H := sh0_st H T
        j_aldn (pc := 15) D rfl rfl rfl fun D =>
        j_new (pc := 16) D rfl fun r10 h11 er eh11 S D =>
        have gt_r10 := nw_gt H.1 er
        have kc_r10 := nw_cls H.1 er eh11
        have T := fj_hs_ok H.1 S
        have hk := cls_st H.1 T.2 hk (by decide)
        have H := sh0_st H T
        j_sh (pc := 19) D rfl rfl rfl fun D =>
        j_spv (pc := 20) (m := 94) (a := []) (rest := [(4, r10), (4, x0)]) D rfl rfl rfl rfl (by rw [show h11 0 r10.toNat 0 = 107 from kc_r10]; decide) (gt_nz gt_r10) (fun h12 e1 D =>
          have T := fj_run_ok _ _ _ _ _ _ H.1 e1
          have hk := cls_st H.1 T.2 hk (by decide)
          have kc_r10 := cls_st H.1 T.2 kc_r10 (by decide)
          have H := sh0_st H T
          j_pfF (pc := 23) (a := x0.toNat) (ty := 12) D rfl rfl rfl hk ⟨rfl, rfl⟩ rfl gn (gy rfl) gn fun h15 eh15 S D =>
          have T := fj_hs_ok H.1 S
          have hk := cls_st H.1 T.2 hk (by decide)
          have H := sh0_st H T
          j_aldn (pc := 26) D rfl rfl rfl fun D =>
          j_new (pc := 27) D rfl fun r16 h17 er eh17 S D =>
          have gt_r16 := nw_gt H.1 er
          have kc_r16 := nw_cls H.1 er eh17
          have T := fj_hs_ok H.1 S
          have hk := cls_st H.1 T.2 hk (by decide)
          have H := sh0_st H T
          j_sh (pc := 30) D rfl rfl rfl fun D =>
          j_spv (pc := 31) (m := 95) (a := []) (rest := [(4, r16), (4, x0)]) D rfl rfl rfl rfl (by rw [show h17 0 r16.toNat 0 = 101 from kc_r16]; decide) (gt_nz gt_r16) (fun h18 e1 D =>
            have T := fj_run_ok _ _ _ _ _ _ H.1 e1
            have hk := cls_st H.1 T.2 hk (by decide)
            have kc_r16 := cls_st H.1 T.2 kc_r16 (by decide)
            have H := sh0_st H T
            j_pfF (pc := 34) (a := x0.toNat) (ty := 12) D rfl rfl rfl hk ⟨rfl, rfl⟩ rfl gn (gy rfl) gn fun h21 eh21 S D =>
            have T := fj_hs_ok H.1 S
            have hk := cls_st H.1 T.2 hk (by decide)
            have H := sh0_st H T
            j_aldn (pc := 37) D rfl rfl rfl fun D =>
            j_bp (pc := 38) D rfl fun D =>
            j_ana (pc := 40) (N := 65536) D rfl rfl (gy (by decide)) fun r22 h23 er eh23 S q D =>
            have gt_r22 := nw_gt H.1 er
            have kc_r22 := nw_cls H.1 er eh23
            have kl_r22 := nw_len H.1 er eh23
            have T := fj_hs_ok H.1 S
            have hk := cls_st H.1 T.2 hk (by decide)
            have H := sh0_st H T
            have D : fk_D 89 [(43, none, .putfield 29, 3, 210, 100, 12), (46, none, .aload_n 0, 1, 0, 0, 0), (47, none, .bipush 20, 2, 0, 20, 0), (49, none, .anewarray 34, 3, 189, 20, 0), (52, none, .putfield 644, 3, 211, 100, 12), (55, none, .aload_n 0, 1, 0, 0, 0), (56, none, .new 57, 3, 119, 10, 0), (59, none, .dup, 1, 0, 0, 0), (60, none, .sipush 700, 3, 0, 700, 0), (63, none, .invokespecial 647, 3, 1, 96, 0), (66, none, .putfield 113, 3, 213, 100, 112), (69, none, .aload_n 0, 1, 0, 0, 0), (70, none, .bipush 40, 2, 0, 40, 0), (72, none, .anewarray 260, 3, 124, 21, 0), (75, none, .putfield 255, 3, 214, 100, 112)] := fq_of2 cd_89 ow_89 cl_89 rfl (pc := 43) (by decide +kernel)
            j_pf (pc := 43) (a := x0.toNat) D rfl rfl rfl hk rfl rfl gn (gy rfl) fun h24 eh24 S D =>
            have T := fj_hs_ok H.1 S
            have hk := cls_st H.1 T.2 hk (by decide)
            have H := sh0_st H T
            j_aldn (pc := 46) D rfl rfl rfl fun D =>
            j_bp (pc := 47) D rfl fun D =>
            j_ana (pc := 49) (N := 65536) D rfl rfl (gy (by decide)) fun r25 h26 er eh26 S q D =>
            have gt_r25 := nw_gt H.1 er
            have kc_r25 := nw_cls H.1 er eh26
            have kl_r25 := nw_len H.1 er eh26
            have T := fj_hs_ok H.1 S
            have hk := cls_st H.1 T.2 hk (by decide)
            have H := sh0_st H T
            j_pf (pc := 52) (a := x0.toNat) D rfl rfl rfl hk rfl rfl gn (gy rfl) fun h27 eh27 S D =>
            have T := fj_hs_ok H.1 S
            have hk := cls_st H.1 T.2 hk (by decide)
            have H := sh0_st H T
            j_aldn (pc := 55) D rfl rfl rfl fun D =>
            j_new (pc := 56) D rfl fun r28 h29 er eh29 S D =>
            have gt_r28 := nw_gt H.1 er
            have kc_r28 := nw_cls H.1 er eh29
            have T := fj_hs_ok H.1 S
            have hk := cls_st H.1 T.2 hk (by decide)
            have H := sh0_st H T
            j_sh (pc := 59) D rfl rfl rfl fun D =>
            j_sp (pc := 60) D rfl fun D =>
            j_spv (pc := 63) (m := 96) (a := [(0, 700)]) (rest := [(4, r28), (4, x0)]) D rfl rfl rfl rfl (by rw [show h29 0 r28.toNat 0 = 119 from kc_r28]; decide) (gt_nz gt_r28) (fun h30 e1 D =>
              have T := fj_run_ok _ _ _ _ _ _ H.1 e1
              have hk := cls_st H.1 T.2 hk (by decide)
              have kc_r28 := cls_st H.1 T.2 kc_r28 (by decide)
              have H := sh0_st H T
              j_pfF (pc := 66) (a := x0.toNat) (ty := 12) D rfl rfl rfl hk ⟨rfl, rfl⟩ rfl gn (gy rfl) gn fun h33 eh33 S D =>
              have T := fj_hs_ok H.1 S
              have hk := cls_st H.1 T.2 hk (by decide)
              have H := sh0_st H T
              j_aldn (pc := 69) D rfl rfl rfl fun D =>
              j_bp (pc := 70) D rfl fun D =>
              j_ana (pc := 72) (N := 65536) D rfl rfl (gy (by decide)) fun r34 h35 er eh35 S q D =>
              have gt_r34 := nw_gt H.1 er
              have kc_r34 := nw_cls H.1 er eh35
              have kl_r34 := nw_len H.1 er eh35
              have T := fj_hs_ok H.1 S
              have hk := cls_st H.1 T.2 hk (by decide)
              have H := sh0_st H T
              j_pfF (pc := 75) (a := x0.toNat) (ty := 12) D rfl rfl rfl hk ⟨rfl, rfl⟩ rfl gn (gy rfl) gn fun h36 eh36 S D =>
              have T := fj_hs_ok H.1 S
              have hk := cls_st H.1 T.2 hk (by decide)
              have H := sh0_st H T
              fk_jump cut_89_78 rfl rfl) (fun q32 h30 e1 =>
              j_tx (hx_89 _))) (fun q20 h18 e1 =>
            j_tx (hx_89 _))) (fun q14 h12 e1 =>
          j_tx (hx_89 _))) (fun q8 h6 e1 =>
        j_tx (hx_89 _))) (fun q3 h1 e1 =>
      j_tx (hx_89 _))
