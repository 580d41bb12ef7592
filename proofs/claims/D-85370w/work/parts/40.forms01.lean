/-! forms of methods 38..69, printed by gen/forms.py -/
set_option maxRecDepth 100000
/-! 38 StatuteHouse$Constant.write()V -/
theorem cd_38 : fi_code 38 = prog_5_method_4_code := rfl
theorem hx_38 : ∀ pc, fi_hat 38 pc = none := fun pc => by unfold fi_hat; rw [show fi_hh 38 = [] from rfl]; rfl
theorem rt_38 : fi_ret 38 = none := rfl
theorem nl_38 : fi_nl 38 = 1 := rfl
theorem ow_38 : fi_ow 38 = 3 := rfl
theorem cl_38 : fj_cutT.getD 38 [] = [(67, []), (144, []), (174, [0]), (201, [])] := rfl
theorem cut_38_67 : fj_cut 38 67 = some [] := by decide +kernel
noncomputable def c_38_67 (d : Nat) (s0 s1 : Int) (h : fi_H) : fk_R := gG (fj_run d) 38 67 [] [(4, s1), (4, s0)] h
theorem cut_38_144 : fj_cut 38 144 = some [] := by decide +kernel
noncomputable def c_38_144 (d : Nat) (h : fi_H) : fk_R := gG (fj_run d) 38 144 [] [] h
theorem cut_38_174 : fj_cut 38 174 = some [0] := by decide +kernel
noncomputable def c_38_174 (d : Nat) (x0 s0 s1 : Int) (h : fi_H) : fk_R := gG (fj_run d) 38 174 [(0, (4, x0))] [(1, s1), (4, s0)] h
theorem cut_38_201 : fj_cut 38 201 = some [] := by decide +kernel
noncomputable def c_38_201 (d : Nat) (s0 s1 : Int) (h : fi_H) : fk_R := gG (fj_run d) 38 201 [] [(4, s1), (4, s0)] h
theorem e_38_67 (d : Nat) (s0 s1 : Int) {h : fi_H} (H : Shp h) : c_38_67 d s0 s1 h =
  dv_ (fi_vt 138 (h 0 s0.toNat 0)) fun m4 => cv_ (fj_run d m4 h [(4, s0), (4, s1)])
    (fun h1 =>
    some (.inl none, h1))
    (fun q3 h1 => tx_ q3 h1) := by
  unfold c_38_67
  exact
    have D : fk_D 38 [(67, some [], .invokevirtual 52, 3, 1, 138, 0), (70, none, .goto 152, 3, 222, 0, 0)] := fq_of2 cd_38 ow_38 cl_38 rfl (pc := 67) (by decide +kernel)
    j_ivuv (pc := 67) (dd := 138) (a := [(4, s1)]) (rest := []) H.2.1 D rfl rfl rfl rfl rfl (fun m4 h1 e1 D =>
      have T := fj_run_ok _ _ _ _ _ _ H.1 e1
      have H := shp_st H T
      j_goto (pc := 70) D rfl <|
      have D : fk_D 38 [(222, none, .return_, 1, 0, 0, 0)] := fq_of2 cd_38 ow_38 cl_38 rfl (pc := 222) (by decide +kernel)
      j_vret D rt_38) (fun m4 q3 h1 e1 =>
      j_tx (hx_38 _))
theorem e_38_144 (d : Nat) {h : fi_H} (H : Shp h) : c_38_144 d h =
  some (.inl none, h) := by
  unfold c_38_144
  exact
    have D : fk_D 38 [(144, some [], .goto 78, 3, 222, 0, 0)] := fq_of2 cd_38 ow_38 cl_38 rfl (pc := 144) (by decide +kernel)
    j_goto (pc := 144) D rfl <|
    have D : fk_D 38 [(222, none, .return_, 1, 0, 0, 0)] := fq_of2 cd_38 ow_38 cl_38 rfl (pc := 222) (by decide +kernel)
    j_vret D rt_38
theorem e_38_174 (d : Nat) (x0 s0 s1 : Int) {h : fi_H} (H : Shp h) (hk : h 0 x0.toNat 0 = 103) (ht339 : h 339 x0.toNat 0 = 303) : c_38_174 d x0 s0 s1 h =
  dv_ (fi_vt 141 (h 0 s0.toNat 0)) fun m4 => cv_ (fj_run d m4 h [(4, s0), (1, s1), (0, 1)])
    (fun h1 =>
    if lc_ (h1 337 x0.toNat 0) 0 = 0 then
      c_38_201 d (h1 270 303 0) 137 h1
    else
      c_38_201 d (h1 270 303 0) 135 h1)
    (fun q3 h1 => tx_ q3 h1) := by
  unfold c_38_174
  exact
    have D : fk_D 38 [(174, some [0], .iconst 1, 1, 0, 1, 0), (175, none, .invokevirtual 64, 3, 2, 141, 0), (178, none, .aload_n 0, 1, 0, 0, 0), (179, none, .getfield 1, 3, 339, 103, 12), (182, none, .getfield 44, 3, 270, 100, 12), (185, none, .aload_n 0, 1, 0, 0, 0), (186, none, .getfield 13, 3, 337, 103, 11), (189, none, .lconst 0, 1, 0, 0, 0), (190, none, .lcmp, 1, 0, 0, 0), (191, none, .ifCond .eq 8, 3, 199, 0, 0), (194, none, .ldc 75, 2, 4, 135, 0), (196, none, .goto 5, 3, 201, 0, 0)] := fq_of2 cd_38 ow_38 cl_38 rfl (pc := 174) (by decide +kernel)
    j_ic (pc := 174) D rfl fun D =>
    j_ivuv (pc := 175) (dd := 141) (a := [(1, s1), (0, 1)]) (rest := []) H.2.1 D rfl rfl rfl rfl rfl (fun m4 h1 e1 D =>
      have T := fj_run_ok _ _ _ _ _ _ H.1 e1
      have ht339 := fin_st H.1 T.2 hk (by decide) (by decide +kernel) ht339 (by decide)
      have hk := cls_st H.1 T.2 hk (by decide)
      have H := shp_st H T
      j_aldn (pc := 178) D rfl rfl rfl fun D =>
      j_gfc (pc := 179) (a := x0.toNat) D rfl rfl (nz_cls H.2.1 hk (by decide)) rfl hk rfl ht339 fun D =>
      j_gf (pc := 182) (a := 303) D rfl rfl (by decide) rfl (s0_303 H) rfl fun D =>
      j_aldn (pc := 185) D rfl rfl rfl fun D =>
      j_gf (pc := 186) (a := x0.toNat) D rfl rfl (nz_cls H.2.1 hk (by decide)) rfl hk rfl fun D =>
      j_c0 (pc := 189) (v := (1, 0)) D rfl rfl (by decide +kernel) fun D =>
      j_lcmp (pc := 190) D rfl fun D =>
      j_ifeq (pc := 191) D rfl (fun q =>
        have D : fk_D 38 [(199, none, .ldc 77, 2, 4, 137, 0)] := fq_of2 cd_38 ow_38 cl_38 rfl (pc := 199) (by decide +kernel)
        j_ldc (pc := 199) D rfl fun D =>
        fk_jump cut_38_201 rfl rfl) (fun q D =>
        j_ldc (pc := 194) D rfl fun D =>
        j_goto (pc := 196) D rfl <|
        fk_jump cut_38_201 rfl rfl)) (fun m4 q3 h1 e1 =>
      j_tx (hx_38 _))
theorem e_38_201 (d : Nat) (s0 s1 : Int) {h : fi_H} (H : Shp h) : c_38_201 d s0 s1 h =
  dv_ (fi_vt 138 (h 0 s0.toNat 0)) fun m4 => cv_ (fj_run d m4 h [(4, s0), (4, s1)])
    (fun h1 =>
    some (.inl none, h1))
    (fun q3 h1 => tx_ q3 h1) := by
  unfold c_38_201
  exact
    have D : fk_D 38 [(201, some [], .invokevirtual 52, 3, 1, 138, 0), (204, none, .goto 18, 3, 222, 0, 0)] := fq_of2 cd_38 ow_38 cl_38 rfl (pc := 201) (by decide +kernel)
    j_ivuv (pc := 201) (dd := 138) (a := [(4, s1)]) (rest := []) H.2.1 D rfl rfl rfl rfl rfl (fun m4 h1 e1 D =>
      have T := fj_run_ok _ _ _ _ _ _ H.1 e1
      have H := shp_st H T
      j_goto (pc := 204) D rfl <|
      have D : fk_D 38 [(222, none, .return_, 1, 0, 0, 0)] := fq_of2 cd_38 ow_38 cl_38 rfl (pc := 222) (by decide +kernel)
      j_vret D rt_38) (fun m4 q3 h1 e1 =>
      j_tx (hx_38 _))
theorem m_38 (d : Nat) (x0 : Int) {h : fi_H} (H : Shp h) (hk : h 0 x0.toNat 0 = 103) (ht339 : h 339 x0.toNat 0 = 303) : fj_run (d + 1) 38 h [(4, x0)] =
  dv_ (fi_vt 111 (h 0 (h 340 x0.toNat 0).toNat 0)) fun m4 => ca_ (fj_run d m4 h [(4, h 340 x0.toNat 0)]) 0
    (fun v2 h1 =>
    if v2 = 0 then
      if lc_ (h1 337 x0.toNat 0) 1 = 0 then
        c_38_67 d (h1 270 303 0) 131 h1
      else
        c_38_67 d (h1 270 303 0) 133 h1
    else if v2 = 2 then
      dv_ (fi_vt 140 (h1 0 (h1 270 303 0).toNat 0)) fun m8 => cv_ (fj_run d m8 h1 [(4, h1 270 303 0), (1, h1 337 x0.toNat 0)])
        (fun h5 =>
        some (.inl none, h5))
        (fun q7 h5 => tx_ q7 h5)
    else if v2 = 3 then
      if h1 338 x0.toNat 0 = 0 then none else
      dv_ (fi_vt 141 (h1 0 (h1 270 303 0).toNat 0)) fun m12 => cv_ (fj_run d m12 h1 [(4, h1 270 303 0), (1, lq_ (wJ (100 * (h1 337 x0.toNat 0))) (h1 338 x0.toNat 0)), (0, 1)])
        (fun h9 =>
        dv_ (fi_vt 139 (h9 0 (h9 270 303 0).toNat 0)) fun m16 => cv_ (fj_run d m16 h9 [(4, h9 270 303 0), (0, 37)])
          (fun h13 =>
          some (.inl none, h13))
          (fun q15 h13 => tx_ q15 h13))
        (fun q11 h9 => tx_ q11 h9)
    else if v2 = 4 then
      dv_ (fi_vt 182 (h1 0 (h1 270 303 0).toNat 0)) fun m20 => cv_ (fj_run d m20 h1 [(4, h1 270 303 0), (0, wI (h1 337 x0.toNat 0))])
        (fun h17 =>
        c_38_144 d h17)
        (fun q19 h17 => tx_ q19 h17)
    else if v2 = 5 then
      if lc_ (h1 337 x0.toNat 0) 0 = 0 then
        c_38_174 d x0 (h1 270 303 0) (h1 338 x0.toNat 0) h1
      else
        c_38_174 d x0 (h1 270 303 0) (h1 337 x0.toNat 0) h1
    else 
      dv_ (fi_vt 141 (h1 0 (h1 270 303 0).toNat 0)) fun m24 => cv_ (fj_run d m24 h1 [(4, h1 270 303 0), (1, h1 337 x0.toNat 0), (0, 1)])
        (fun h21 =>
        some (.inl none, h21))
        (fun q23 h21 => tx_ q23 h21))
    (fun q3 h1 => tx_ q3 h1) := by
  rw [fj_run_eq d (by decide) h [(4, x0)] (Nat.le_of_ble_eq_true (by rw [nl_38]; rfl))]
  show gG (fj_run d) 38 0 [(0, (4, x0))] [] h = _
  exact
    have D : fk_D 38 [(0, none, .aload_n 0, 1, 0, 0, 0), (1, none, .getfield 30, 3, 340, 103, 12), (4, none, .invokevirtual 38, 3, 0, 111, 1), (7, none, .tableswitch 200 0 5 #[37, 200, 66, 83, 122, 140], 37, 0, 0, 0)] := fq_of3 cd_38 ow_38 cl_38 rfl (pc := 0) (by decide +kernel)
    j_aldn (pc := 0) D rfl rfl rfl fun D =>
    j_gf (pc := 1) (a := x0.toNat) D rfl rfl (nz_cls H.2.1 hk (by decide)) rfl hk rfl fun D =>
    j_ivu (pc := 4) (dd := 111) (a := []) (rest := []) H.2.1 D rfl rfl rfl rfl rfl (fun m4 v2 h1 e1 D =>
      have T := fj_run_ok _ _ _ _ _ _ H.1 e1
      have ht339 := fin_st H.1 T.2 hk (by decide) (by decide +kernel) ht339 (by decide)
      have hk := cls_st H.1 T.2 hk (by decide)
      have H := shp_st H T
      have N : fk_ni (v2) [] := trivial
      j_tc (pc := 7) 0 (t := 44) D N rfl (by decide +kernel) (fun q =>
        have D : fk_D 38 [(44, none, .aload_n 0, 1, 0, 0, 0), (45, none, .getfield 1, 3, 339, 103, 12), (48, none, .getfield 44, 3, 270, 100, 12), (51, none, .aload_n 0, 1, 0, 0, 0), (52, none, .getfield 13, 3, 337, 103, 11), (55, none, .lconst 1, 1, 0, 0, 0), (56, none, .lcmp, 1, 0, 0, 0), (57, none, .ifCond .ne 8, 3, 65, 0, 0), (60, none, .ldc 48, 2, 4, 131, 0), (62, none, .goto 5, 3, 67, 0, 0)] := fq_of2 cd_38 ow_38 cl_38 rfl (pc := 44) (by decide +kernel)
        j_aldn (pc := 44) D rfl rfl rfl fun D =>
        j_gfc (pc := 45) (a := x0.toNat) D rfl rfl (nz_cls H.2.1 hk (by decide)) rfl hk rfl ht339 fun D =>
        j_gf (pc := 48) (a := 303) D rfl rfl (by decide) rfl (s0_303 H) rfl fun D =>
        j_aldn (pc := 51) D rfl rfl rfl fun D =>
        j_gf (pc := 52) (a := x0.toNat) D rfl rfl (nz_cls H.2.1 hk (by decide)) rfl hk rfl fun D =>
        j_c0 (pc := 55) (v := (1, 1)) D rfl rfl (by decide +kernel) fun D =>
        j_lcmp (pc := 56) D rfl fun D =>
        j_ifne (pc := 57) D rfl (fun q D =>
          j_ldc (pc := 60) D rfl fun D =>
          j_goto (pc := 62) D rfl <|
          fk_jump cut_38_67 rfl rfl) (fun q =>
          have D : fk_D 38 [(65, none, .ldc 50, 2, 4, 133, 0)] := fq_of2 cd_38 ow_38 cl_38 rfl (pc := 65) (by decide +kernel)
          j_ldc (pc := 65) D rfl fun D =>
          fk_jump cut_38_67 rfl rfl)) (fun N =>
        j_tc 2 (t := 73) D N rfl (by decide +kernel) (fun q =>
          have D : fk_D 38 [(73, none, .aload_n 0, 1, 0, 0, 0), (74, none, .getfield 1, 3, 339, 103, 12), (77, none, .getfield 44, 3, 270, 100, 12), (80, none, .aload_n 0, 1, 0, 0, 0), (81, none, .getfield 13, 3, 337, 103, 11), (84, none, .invokevirtual 58, 3, 1, 140, 0), (87, none, .goto 135, 3, 222, 0, 0)] := fq_of2 cd_38 ow_38 cl_38 rfl (pc := 73) (by decide +kernel)
          j_aldn (pc := 73) D rfl rfl rfl fun D =>
          j_gfc (pc := 74) (a := x0.toNat) D rfl rfl (nz_cls H.2.1 hk (by decide)) rfl hk rfl ht339 fun D =>
          j_gf (pc := 77) (a := 303) D rfl rfl (by decide) rfl (s0_303 H) rfl fun D =>
          j_aldn (pc := 80) D rfl rfl rfl fun D =>
          j_gf (pc := 81) (a := x0.toNat) D rfl rfl (nz_cls H.2.1 hk (by decide)) rfl hk rfl fun D =>
          j_ivuv (pc := 84) (dd := 140) (a := [(1, h1 337 x0.toNat 0)]) (rest := []) H.2.1 D rfl rfl rfl rfl rfl (fun m8 h5 e1 D =>
            have T := fj_run_ok _ _ _ _ _ _ H.1 e1
            have ht339 := fin_st H.1 T.2 hk (by decide) (by decide +kernel) ht339 (by decide)
            have hk := cls_st H.1 T.2 hk (by decide)
            have H := shp_st H T
            j_goto (pc := 87) D rfl <|
            have D : fk_D 38 [(222, none, .return_, 1, 0, 0, 0)] := fq_of2 cd_38 ow_38 cl_38 rfl (pc := 222) (by decide +kernel)
            j_vret D rt_38) (fun m8 q7 h5 e1 =>
            j_tx (hx_38 _))) (fun N =>
          j_tc 3 (t := 90) D N rfl (by decide +kernel) (fun q =>
            have D : fk_D 38 [(90, none, .aload_n 0, 1, 0, 0, 0), (91, none, .getfield 1, 3, 339, 103, 12), (94, none, .getfield 44, 3, 270, 100, 12), (97, none, .ldc2_w 62, 3, 1, 100, 0), (100, none, .aload_n 0, 1, 0, 0, 0), (101, none, .getfield 13, 3, 337, 103, 11), (104, none, .lmul, 1, 0, 0, 0), (105, none, .aload_n 0, 1, 0, 0, 0), (106, none, .getfield 17, 3, 338, 103, 11), (109, none, .ldiv, 1, 0, 0, 0), (110, none, .iconst 1, 1, 0, 1, 0), (111, none, .invokevirtual 64, 3, 2, 141, 0), (114, none, .aload_n 0, 1, 0, 0, 0), (115, none, .getfield 1, 3, 339, 103, 12), (118, none, .getfield 44, 3, 270, 100, 12), (121, none, .bipush 37, 2, 0, 37, 0), (123, none, .invokevirtual 68, 3, 1, 139, 0), (126, none, .goto 96, 3, 222, 0, 0)] := fq_of2 cd_38 ow_38 cl_38 rfl (pc := 90) (by decide +kernel)
            j_aldn (pc := 90) D rfl rfl rfl fun D =>
            j_gfc (pc := 91) (a := x0.toNat) D rfl rfl (nz_cls H.2.1 hk (by decide)) rfl hk rfl ht339 fun D =>
            j_gf (pc := 94) (a := 303) D rfl rfl (by decide) rfl (s0_303 H) rfl fun D =>
            j_ldc2 (pc := 97) D rfl fun D =>
            j_aldn (pc := 100) D rfl rfl rfl fun D =>
            j_gf (pc := 101) (a := x0.toNat) D rfl rfl (nz_cls H.2.1 hk (by decide)) rfl hk rfl fun D =>
            j_lmul (pc := 104) D rfl fun D =>
            j_aldn (pc := 105) D rfl rfl rfl fun D =>
            j_gf (pc := 106) (a := x0.toNat) D rfl rfl (nz_cls H.2.1 hk (by decide)) rfl hk rfl fun D =>
            j_ldiv (pc := 109) D rfl fun q D =>
            j_ic (pc := 110) D rfl fun D =>
            j_ivuv (pc := 111) (dd := 141) (a := [(1, lq_ (wJ (100 * (h1 337 x0.toNat 0))) (h1 338 x0.toNat 0)), (0, 1)]) (rest := []) H.2.1 D rfl rfl rfl rfl rfl (fun m12 h9 e1 D =>
              have T := fj_run_ok _ _ _ _ _ _ H.1 e1
              have ht339 := fin_st H.1 T.2 hk (by decide) (by decide +kernel) ht339 (by decide)
              have hk := cls_st H.1 T.2 hk (by decide)
              have H := shp_st H T
              j_aldn (pc := 114) D rfl rfl rfl fun D =>
              j_gfc (pc := 115) (a := x0.toNat) D rfl rfl (nz_cls H.2.1 hk (by decide)) rfl hk rfl ht339 fun D =>
              j_gf (pc := 118) (a := 303) D rfl rfl (by decide) rfl (s0_303 H) rfl fun D =>
              j_bp (pc := 121) D rfl fun D =>
              j_ivuv (pc := 123) (dd := 139) (a := [(0, 37)]) (rest := []) H.2.1 D rfl rfl rfl rfl rfl (fun m16 h13 e1 D =>
                have T := fj_run_ok _ _ _ _ _ _ H.1 e1
                have ht339 := fin_st H.1 T.2 hk (by decide) (by decide +kernel) ht339 (by decide)
                have hk := cls_st H.1 T.2 hk (by decide)
                have H := shp_st H T
                j_goto (pc := 126) D rfl <|
                have D : fk_D 38 [(222, none, .return_, 1, 0, 0, 0)] := fq_of2 cd_38 ow_38 cl_38 rfl (pc := 222) (by decide +kernel)
                j_vret D rt_38) (fun m16 q15 h13 e1 =>
                j_tx (hx_38 _))) (fun m12 q11 h9 e1 =>
              j_tx (hx_38 _))) (fun N =>
            j_tc 4 (t := 129) D N rfl (by decide +kernel) (fun q =>
              have D : fk_D 38 [(129, none, .aload_n 0, 1, 0, 0, 0), (130, none, .getfield 1, 3, 339, 103, 12), (133, none, .getfield 44, 3, 270, 100, 12), (136, none, .aload_n 0, 1, 0, 0, 0), (137, none, .getfield 13, 3, 337, 103, 11), (140, none, .l2i, 1, 0, 0, 0), (141, none, .invokevirtual 72, 3, 1, 182, 0)] := fq_of2 cd_38 ow_38 cl_38 rfl (pc := 129) (by decide +kernel)
              j_aldn (pc := 129) D rfl rfl rfl fun D =>
              j_gfc (pc := 130) (a := x0.toNat) D rfl rfl (nz_cls H.2.1 hk (by decide)) rfl hk rfl ht339 fun D =>
              j_gf (pc := 133) (a := 303) D rfl rfl (by decide) rfl (s0_303 H) rfl fun D =>
              j_aldn (pc := 136) D rfl rfl rfl fun D =>
              j_gf (pc := 137) (a := x0.toNat) D rfl rfl (nz_cls H.2.1 hk (by decide)) rfl hk rfl fun D =>
              j_l2i (pc := 140) D rfl fun D =>
              j_ivuv (pc := 141) (dd := 182) (a := [(0, wI (h1 337 x0.toNat 0))]) (rest := []) H.2.1 D rfl rfl rfl rfl rfl (fun m20 h17 e1 D =>
                have T := fj_run_ok _ _ _ _ _ _ H.1 e1
                have ht339 := fin_st H.1 T.2 hk (by decide) (by decide +kernel) ht339 (by decide)
                have hk := cls_st H.1 T.2 hk (by decide)
                have H := shp_st H T
                fk_jump cut_38_144 rfl rfl) (fun m20 q19 h17 e1 =>
                j_tx (hx_38 _))) (fun N =>
              j_tc 5 (t := 147) D N rfl (by decide +kernel) (fun q =>
                have D : fk_D 38 [(147, none, .aload_n 0, 1, 0, 0, 0), (148, none, .getfield 1, 3, 339, 103, 12), (151, none, .getfield 44, 3, 270, 100, 12), (154, none, .aload_n 0, 1, 0, 0, 0), (155, none, .getfield 13, 3, 337, 103, 11), (158, none, .lconst 0, 1, 0, 0, 0), (159, none, .lcmp, 1, 0, 0, 0), (160, none, .ifCond .eq 10, 3, 170, 0, 0), (163, none, .aload_n 0, 1, 0, 0, 0), (164, none, .getfield 13, 3, 337, 103, 11), (167, none, .goto 7, 3, 174, 0, 0)] := fq_of2 cd_38 ow_38 cl_38 rfl (pc := 147) (by decide +kernel)
                j_aldn (pc := 147) D rfl rfl rfl fun D =>
                j_gfc (pc := 148) (a := x0.toNat) D rfl rfl (nz_cls H.2.1 hk (by decide)) rfl hk rfl ht339 fun D =>
                j_gf (pc := 151) (a := 303) D rfl rfl (by decide) rfl (s0_303 H) rfl fun D =>
                j_aldn (pc := 154) D rfl rfl rfl fun D =>
                j_gf (pc := 155) (a := x0.toNat) D rfl rfl (nz_cls H.2.1 hk (by decide)) rfl hk rfl fun D =>
                j_c0 (pc := 158) (v := (1, 0)) D rfl rfl (by decide +kernel) fun D =>
                j_lcmp (pc := 159) D rfl fun D =>
                j_ifeq (pc := 160) D rfl (fun q =>
                  have D : fk_D 38 [(170, none, .aload_n 0, 1, 0, 0, 0), (171, none, .getfield 17, 3, 338, 103, 11)] := fq_of2 cd_38 ow_38 cl_38 rfl (pc := 170) (by decide +kernel)
                  j_aldn (pc := 170) D rfl rfl rfl fun D =>
                  j_gf (pc := 171) (a := x0.toNat) D rfl rfl (nz_cls H.2.1 hk (by decide)) rfl hk rfl fun D =>
                  fk_jump cut_38_174 rfl rfl) (fun q D =>
                  j_aldn (pc := 163) D rfl rfl rfl fun D =>
                  j_gf (pc := 164) (a := x0.toNat) D rfl rfl (nz_cls H.2.1 hk (by decide)) rfl hk rfl fun D =>
                  j_goto (pc := 167) D rfl <|
                  fk_jump cut_38_174 rfl rfl)) (fun N =>
                j_td (t := 207) D N rfl (by decide +kernel) (by decide +kernel) <|
                have D : fk_D 38 [(207, none, .aload_n 0, 1, 0, 0, 0), (208, none, .getfield 1, 3, 339, 103, 12), (211, none, .getfield 44, 3, 270, 100, 12), (214, none, .aload_n 0, 1, 0, 0, 0), (215, none, .getfield 13, 3, 337, 103, 11), (218, none, .iconst 1, 1, 0, 1, 0), (219, none, .invokevirtual 64, 3, 2, 141, 0), (222, none, .return_, 1, 0, 0, 0)] := fq_of2 cd_38 ow_38 cl_38 rfl (pc := 207) (by decide +kernel)
                j_aldn (pc := 207) D rfl rfl rfl fun D =>
                j_gfc (pc := 208) (a := x0.toNat) D rfl rfl (nz_cls H.2.1 hk (by decide)) rfl hk rfl ht339 fun D =>
                j_gf (pc := 211) (a := 303) D rfl rfl (by decide) rfl (s0_303 H) rfl fun D =>
                j_aldn (pc := 214) D rfl rfl rfl fun D =>
                j_gf (pc := 215) (a := x0.toNat) D rfl rfl (nz_cls H.2.1 hk (by decide)) rfl hk rfl fun D =>
                j_ic (pc := 218) D rfl fun D =>
                j_ivuv (pc := 219) (dd := 141) (a := [(1, h1 337 x0.toNat 0), (0, 1)]) (rest := []) H.2.1 D rfl rfl rfl rfl rfl (fun m24 h21 e1 D =>
                  have T := fj_run_ok _ _ _ _ _ _ H.1 e1
                  have ht339 := fin_st H.1 T.2 hk (by decide) (by decide +kernel) ht339 (by decide)
                  have hk := cls_st H.1 T.2 hk (by decide)
                  have H := shp_st H T
                  j_vret D rt_38) (fun m24 q23 h21 e1 =>
                  j_tx (hx_38 _)))))))) (fun m4 q3 h1 e1 =>
      j_tx (hx_38 _))
/-! 39 StatuteHouse$Pen.date(I)V -/
theorem cd_39 : fi_code 39 = prog_51_method_6_code := rfl
theorem hx_39 : ∀ pc, fi_hat 39 pc = none := fun pc => by unfold fi_hat; rw [show fi_hh 39 = [] from rfl]; rfl
theorem rt_39 : fi_ret 39 = none := rfl
theorem nl_39 : fi_nl 39 = 2 := rfl
theorem ow_39 : fi_ow 39 = 13 := rfl
theorem cl_39 : fj_cutT.getD 39 [] = [] := rfl
theorem m_39 (d : Nat) (x0 x1 : Int) {h : fi_H} (H : Shp h) (hk : h 0 x0.toNat 0 = 113) : fj_run (d + 1) 39 h [(4, x0), (0, x1)] =
  dv_ (fi_vt 108 (h 0 (h 184 x0.toNat 0).toNat 0)) fun m4 => cv_ (fj_run d m4 h [(4, h 184 x0.toNat 0), (0, x1)])
    (fun h1 =>
    if h1 0 (h1 184 x0.toNat 0).toNat 0 = 101 then
    cv_ (fj_run d 31 h1 [(4, x0), (1, wI (h1 111 (h1 184 x0.toNat 0).toNat 0)), (0, 4)])
      (fun h6 =>
      cv_ (fj_run d 29 h6 [(4, x0), (0, 45)])
        (fun h9 =>
        if h9 0 (h9 184 x0.toNat 0).toNat 0 = 101 then
        cv_ (fj_run d 31 h9 [(4, x0), (1, wI (h9 112 (h9 184 x0.toNat 0).toNat 0)), (0, 2)])
          (fun h13 =>
          cv_ (fj_run d 29 h13 [(4, x0), (0, 45)])
            (fun h16 =>
            if h16 0 (h16 184 x0.toNat 0).toNat 0 = 101 then
            cv_ (fj_run d 31 h16 [(4, x0), (1, wI (h16 113 (h16 184 x0.toNat 0).toNat 0)), (0, 2)])
              (fun h20 =>
              some (.inl none, h20))
              (fun q22 h20 => tx_ q22 h20)
            else none)
            (fun q18 h16 => tx_ q18 h16))
          (fun q15 h13 => tx_ q15 h13)
        else none)
        (fun q11 h9 => tx_ q11 h9))
      (fun q8 h6 => tx_ q8 h6)
    else none)
    (fun q3 h1 => tx_ q3 h1) := by
  rw [fj_run_eq d (by decide) h [(4, x0), (0, x1)] (Nat.le_of_ble_eq_true (by rw [nl_39]; rfl))]
  show gG (fj_run d) 39 0 [(0, (4, x0)), (1, (0, x1))] [] h = _
  exact
    have D : fk_D 39 [(0, none, .aload_n 0, 1, 0, 0, 0), (1, none, .getfield 18, 3, 184, 113, 12), (4, none, .iload_n 1, 1, 0, 0, 0), (5, none, .invokevirtual 50, 3, 1, 108, 0), (8, none, .aload_n 0, 1, 0, 0, 0), (9, none, .aload_n 0, 1, 0, 0, 0), (10, none, .getfield 18, 3, 184, 113, 12), (13, none, .getfield 53, 3, 111, (-101), 10), (16, none, .i2l, 1, 0, 0, 0), (17, none, .iconst 4, 1, 0, 4, 0), (18, none, .invokevirtual 56, 3, 2, 141, 0), (21, none, .aload_n 0, 1, 0, 0, 0), (22, none, .bipush 45, 2, 0, 45, 0), (24, none, .invokevirtual 40, 3, 1, 139, 0), (27, none, .aload_n 0, 1, 0, 0, 0), (28, none, .aload_n 0, 1, 0, 0, 0), (29, none, .getfield 18, 3, 184, 113, 12), (32, none, .getfield 60, 3, 112, (-101), 10), (35, none, .i2l, 1, 0, 0, 0), (36, none, .iconst 2, 1, 0, 2, 0)] := fq_of2 cd_39 ow_39 cl_39 rfl (pc := 0) (by decide +kernel)
    j_aldn (pc := 0) D rfl rfl rfl fun D =>
    j_gf (pc := 1) (a := x0.toNat) D rfl rfl (nz_cls H.2.1 hk (by decide)) rfl hk rfl fun D =>
    j_ildn (pc := 4) D rfl rfl rfl fun D =>
    j_ivuv (pc := 5) (dd := 108) (a := [(0, x1)]) (rest := []) H.2.1 D rfl rfl rfl rfl rfl (fun m4 h1 e1 D =>
      have T := fj_run_ok _ _ _ _ _ _ H.1 e1
      have hk := cls_st H.1 T.2 hk (by decide)
      have H := shp_st H T
      j_aldn (pc := 8) D rfl rfl rfl fun D =>
      j_aldn (pc := 9) D rfl rfl rfl fun D =>
      j_gf (pc := 10) (a := x0.toNat) D rfl rfl (nz_cls H.2.1 hk (by decide)) rfl hk rfl fun D =>
      j_gfo (pc := 13) H.2.1 D rfl rfl rfl rfl fun kc5 D =>
      j_i2l (pc := 16) D rfl fun D =>
      j_ic (pc := 17) D rfl fun D =>
      j_ivv (pc := 18) (m := 31) (dd := 141) (a := [(1, wI (h1 111 (h1 184 x0.toNat 0).toNat 0)), (0, 4)]) (rest := []) D rfl rfl rfl rfl rfl (nz_cls H.2.1 hk (by decide)) hk (by decide +kernel) (fun h6 e1 D =>
        have T := fj_run_ok _ _ _ _ _ _ H.1 e1
        have hk := cls_st H.1 T.2 hk (by decide)
        have H := shp_st H T
        j_aldn (pc := 21) D rfl rfl rfl fun D =>
        j_bp (pc := 22) D rfl fun D =>
        j_ivv (pc := 24) (m := 29) (dd := 139) (a := [(0, 45)]) (rest := []) D rfl rfl rfl rfl rfl (nz_cls H.2.1 hk (by decide)) hk (by decide +kernel) (fun h9 e1 D =>
          have T := fj_run_ok _ _ _ _ _ _ H.1 e1
          have hk := cls_st H.1 T.2 hk (by decide)
          have H := shp_st H T
          j_aldn (pc := 27) D rfl rfl rfl fun D =>
          j_aldn (pc := 28) D rfl rfl rfl fun D =>
          j_gf (pc := 29) (a := x0.toNat) D rfl rfl (nz_cls H.2.1 hk (by decide)) rfl hk rfl fun D =>
          j_gfo (pc := 32) H.2.1 D rfl rfl rfl rfl fun kc12 D =>
          j_i2l (pc := 35) D rfl fun D =>
          j_ic (pc := 36) D rfl fun D =>
          have D : fk_D 39 [(37, none, .invokevirtual 56, 3, 2, 141, 0), (40, none, .aload_n 0, 1, 0, 0, 0), (41, none, .bipush 45, 2, 0, 45, 0), (43, none, .invokevirtual 40, 3, 1, 139, 0), (46, none, .aload_n 0, 1, 0, 0, 0), (47, none, .aload_n 0, 1, 0, 0, 0), (48, none, .getfield 18, 3, 184, 113, 12), (51, none, .getfield 63, 3, 113, (-101), 10), (54, none, .i2l, 1, 0, 0, 0), (55, none, .iconst 2, 1, 0, 2, 0), (56, none, .invokevirtual 56, 3, 2, 141, 0), (59, none, .return_, 1, 0, 0, 0)] := fq_of2 cd_39 ow_39 cl_39 rfl (pc := 37) (by decide +kernel)
          j_ivv (pc := 37) (m := 31) (dd := 141) (a := [(1, wI (h9 112 (h9 184 x0.toNat 0).toNat 0)), (0, 2)]) (rest := []) D rfl rfl rfl rfl rfl (nz_cls H.2.1 hk (by decide)) hk (by decide +kernel) (fun h13 e1 D =>
            have T := fj_run_ok _ _ _ _ _ _ H.1 e1
            have hk := cls_st H.1 T.2 hk (by decide)
            have H := shp_st H T
            j_aldn (pc := 40) D rfl rfl rfl fun D =>
            j_bp (pc := 41) D rfl fun D =>
            j_ivv (pc := 43) (m := 29) (dd := 139) (a := [(0, 45)]) (rest := []) D rfl rfl rfl rfl rfl (nz_cls H.2.1 hk (by decide)) hk (by decide +kernel) (fun h16 e1 D =>
              have T := fj_run_ok _ _ _ _ _ _ H.1 e1
              have hk := cls_st H.1 T.2 hk (by decide)
              have H := shp_st H T
              j_aldn (pc := 46) D rfl rfl rfl fun D =>
              j_aldn (pc := 47) D rfl rfl rfl fun D =>
              j_gf (pc := 48) (a := x0.toNat) D rfl rfl (nz_cls H.2.1 hk (by decide)) rfl hk rfl fun D =>
              j_gfo (pc := 51) H.2.1 D rfl rfl rfl rfl fun kc19 D =>
              j_i2l (pc := 54) D rfl fun D =>
              j_ic (pc := 55) D rfl fun D =>
              j_ivv (pc := 56) (m := 31) (dd := 141) (a := [(1, wI (h16 113 (h16 184 x0.toNat 0).toNat 0)), (0, 2)]) (rest := []) D rfl rfl rfl rfl rfl (nz_cls H.2.1 hk (by decide)) hk (by decide +kernel) (fun h20 e1 D =>
                have T := fj_run_ok _ _ _ _ _ _ H.1 e1
                have hk := cls_st H.1 T.2 hk (by decide)
                have H := shp_st H T
                j_vret D rt_39) (fun q22 h20 e1 =>
                j_tx (hx_39 _))) (fun q18 h16 e1 =>
              j_tx (hx_39 _))) (fun q15 h13 e1 =>
            j_tx (hx_39 _))) (fun q11 h9 e1 =>
          j_tx (hx_39 _))) (fun q8 h6 e1 =>
        j_tx (hx_39 _))) (fun m4 q3 h1 e1 =>
      j_tx (hx_39 _))
/-! 40 StatuteHouse$Calendar.look(I)V -/
theorem cd_40 : fi_code 40 = prog_3_method_2_code := rfl
theorem hx_40 : ∀ pc, fi_hat 40 pc = none := fun pc => by unfold fi_hat; rw [show fi_hh 40 = [] from rfl]; rfl
theorem rt_40 : fi_ret 40 = none := rfl
theorem nl_40 : fi_nl 40 = 8 := rfl
theorem ow_40 : fi_ow 40 = 1 := rfl
theorem cl_40 : fj_cutT.getD 40 [] = [(67, [0, 3, 5, 6]), (118, [0, 3, 5]), (143, [])] := rfl
theorem cut_40_67 : fj_cut 40 67 = some [0, 3, 5, 6] := by decide +kernel
noncomputable def c_40_67 (d : Nat) (x0 x3 x5 x6 : Int) (h : fi_H) : fk_R := gG (fj_run d) 40 67 [(0, (4, x0)), (3, (0, x3)), (5, (0, x5)), (6, (0, x6))] [] h
theorem cut_40_118 : fj_cut 40 118 = some [0, 3, 5] := by decide +kernel
noncomputable def c_40_118 (d : Nat) (x0 x3 x5 s0 s1 : Int) (h : fi_H) : fk_R := gG (fj_run d) 40 118 [(0, (4, x0)), (3, (0, x3)), (5, (0, x5))] [(0, s1), (4, s0)] h
theorem cut_40_143 : fj_cut 40 143 = some [] := by decide +kernel
noncomputable def c_40_143 (d : Nat) (s0 s1 s2 : Int) (h : fi_H) : fk_R := gG (fj_run d) 40 143 [] [(0, s2), (0, s1), (4, s0)] h
theorem e_40_67 (d : Nat) (x0 x3 x5 x6 : Int) {h : fi_H} (H : Shp h) (hk : h 0 x0.toNat 0 = 101) : c_40_67 d x0 x3 x5 x6 h =
  if 302 < x0 then
  lt_ (fi_upd h 113 x0.toNat 0 (wI ((wI (x6 - (iq_ (wI ((wI (153 * (iq_ (wI ((wI (5 * x6)) + 2)) 153))) + 2)) 5))) + 1))) fun h1 =>
  if iq_ (wI ((wI (5 * x6)) + 2)) 153 < 10 then
    c_40_118 d x0 x3 x5 x0 (wI ((iq_ (wI ((wI (5 * x6)) + 2)) 153) + 3)) h1
  else
    c_40_118 d x0 x3 x5 x0 (wI ((iq_ (wI ((wI (5 * x6)) + 2)) 153) - 9)) h1
  else none := by
  unfold c_40_67
  exact
    have D : fk_D 40 [(67, some [0, 3, 5, 6], .iconst 5, 1, 0, 5, 0), (68, none, .iload 6, 2, 0, 0, 0), (70, none, .imul, 1, 0, 0, 0), (71, none, .iconst 2, 1, 0, 2, 0), (72, none, .iadd, 1, 0, 0, 0), (73, none, .sipush 153, 3, 0, 153, 0), (76, none, .idiv, 1, 0, 0, 0), (77, none, .istore 7, 2, 0, 0, 0), (79, none, .aload_n 0, 1, 0, 0, 0), (80, none, .iload 6, 2, 0, 0, 0), (82, none, .sipush 153, 3, 0, 153, 0), (85, none, .iload 7, 2, 0, 0, 0), (87, none, .imul, 1, 0, 0, 0), (88, none, .iconst 2, 1, 0, 2, 0), (89, none, .iadd, 1, 0, 0, 0), (90, none, .iconst 5, 1, 0, 5, 0), (91, none, .idiv, 1, 0, 0, 0), (92, none, .isub, 1, 0, 0, 0), (93, none, .iconst 1, 1, 0, 1, 0), (94, none, .iadd, 1, 0, 0, 0)] := fq_of2 cd_40 ow_40 cl_40 rfl (pc := 67) (by decide +kernel)
    j_ic (pc := 67) D rfl fun D =>
    j_ild (pc := 68) D rfl rfl rfl fun D =>
    j_imul (pc := 70) D rfl fun D =>
    j_ic (pc := 71) D rfl fun D =>
    j_iadd (pc := 72) D rfl fun D =>
    j_sp (pc := 73) D rfl fun D =>
    j_idivk (pc := 76) D rfl (by decide) fun D =>
    j_ist (pc := 77) (L' := [(7, (0, iq_ (wI ((wI (5 * x6)) + 2)) 153)), (0, (4, x0)), (3, (0, x3)), (5, (0, x5)), (6, (0, x6))]) D rfl nl_40 rfl rfl fun D =>
    j_aldn (pc := 79) D rfl rfl rfl fun D =>
    j_ild (pc := 80) D rfl rfl rfl fun D =>
    j_sp (pc := 82) D rfl fun D =>
    j_ild (pc := 85) D rfl rfl rfl fun D =>
    j_imul (pc := 87) D rfl fun D =>
    j_ic (pc := 88) D rfl fun D =>
    j_iadd (pc := 89) D rfl fun D =>
    j_ic (pc := 90) D rfl fun D =>
    j_idivk (pc := 91) D rfl (by decide) fun D =>
    j_isub (pc := 92) D rfl fun D =>
    j_ic (pc := 93) D rfl fun D =>
    j_iadd (pc := 94) D rfl fun D =>
    have D : fk_D 40 [(95, none, .putfield 15, 3, 113, 101, 10), (98, none, .aload_n 0, 1, 0, 0, 0), (99, none, .iload 7, 2, 0, 0, 0), (101, none, .bipush 10, 2, 0, 10, 0), (103, none, .if_icmp .ge 10, 3, 113, 0, 0), (106, none, .iload 7, 2, 0, 0, 0), (108, none, .iconst 3, 1, 0, 3, 0), (109, none, .iadd, 1, 0, 0, 0), (110, none, .goto 8, 3, 118, 0, 0)] := fq_of2 cd_40 ow_40 cl_40 rfl (pc := 95) (by decide +kernel)
    j_pf (pc := 95) (a := x0.toNat) D rfl rfl rfl hk rfl rfl gn (gy rfl) fun h1 eh1 S D =>
    have T := fj_hs_ok H.1 S
    have hk := cls_st H.1 T.2 hk (by decide)
    have H := shp_st H T
    j_aldn (pc := 98) D rfl rfl rfl fun D =>
    j_ild (pc := 99) D rfl rfl rfl fun D =>
    j_bp (pc := 101) D rfl fun D =>
    j_ige (pc := 103) D rfl (fun q D =>
      j_ild (pc := 106) D rfl rfl rfl fun D =>
      j_ic (pc := 108) D rfl fun D =>
      j_iadd (pc := 109) D rfl fun D =>
      j_goto (pc := 110) D rfl <|
      fk_jump cut_40_118 rfl rfl) (fun q =>
      have D : fk_D 40 [(113, none, .iload 7, 2, 0, 0, 0), (115, none, .bipush 9, 2, 0, 9, 0), (117, none, .isub, 1, 0, 0, 0)] := fq_of2 cd_40 ow_40 cl_40 rfl (pc := 113) (by decide +kernel)
      j_ild (pc := 113) D rfl rfl rfl fun D =>
      j_bp (pc := 115) D rfl fun D =>
      j_isub (pc := 117) D rfl fun D =>
      fk_jump cut_40_118 rfl rfl)
theorem e_40_118 (d : Nat) (x0 x3 x5 s0 s1 : Int) {h : fi_H} (H : Shp h) (hk : h 0 x0.toNat 0 = 101) : c_40_118 d x0 x3 x5 s0 s1 h =
  if h 0 s0.toNat 0 = 101 then
  if 302 < s0 then
  lt_ (fi_upd h 112 s0.toNat 0 s1) fun h1 =>
  if 2 < h1 112 x0.toNat 0 then
    c_40_143 d x0 (wI (x5 + (wI (400 * x3)))) 0 h1
  else
    c_40_143 d x0 (wI (x5 + (wI (400 * x3)))) 1 h1
  else none
  else none := by
  unfold c_40_118
  exact
    have D : fk_D 40 [(118, some [0, 3, 5], .putfield 19, 3, 112, (-101), 10), (121, none, .aload_n 0, 1, 0, 0, 0), (122, none, .iload 5, 2, 0, 0, 0), (124, none, .sipush 400, 3, 0, 400, 0), (127, none, .iload_n 3, 1, 0, 0, 0), (128, none, .imul, 1, 0, 0, 0), (129, none, .iadd, 1, 0, 0, 0), (130, none, .aload_n 0, 1, 0, 0, 0), (131, none, .getfield 19, 3, 112, 101, 10), (134, none, .iconst 2, 1, 0, 2, 0), (135, none, .if_icmp .gt 7, 3, 142, 0, 0), (138, none, .iconst 1, 1, 0, 1, 0), (139, none, .goto 4, 3, 143, 0, 0)] := fq_of2 cd_40 ow_40 cl_40 rfl (pc := 118) (by decide +kernel)
    j_pfo (pc := 118) D rfl rfl rfl rfl rfl gn gn (gy rfl) fun h1 eh1 S kc2 D =>
    have T := fj_hs_ok H.1 S
    have hk := cls_st H.1 T.2 hk (by decide)
    have H := shp_st H T
    j_aldn (pc := 121) D rfl rfl rfl fun D =>
    j_ild (pc := 122) D rfl rfl rfl fun D =>
    j_sp (pc := 124) D rfl fun D =>
    j_ildn (pc := 127) D rfl rfl rfl fun D =>
    j_imul (pc := 128) D rfl fun D =>
    j_iadd (pc := 129) D rfl fun D =>
    j_aldn (pc := 130) D rfl rfl rfl fun D =>
    j_gf (pc := 131) (a := x0.toNat) D rfl rfl (nz_cls H.2.1 hk (by decide)) rfl hk rfl fun D =>
    j_ic (pc := 134) D rfl fun D =>
    j_igt (pc := 135) D rfl (fun q =>
      have D : fk_D 40 [(142, none, .iconst 0, 1, 0, 0, 0)] := fq_of2 cd_40 ow_40 cl_40 rfl (pc := 142) (by decide +kernel)
      j_ic (pc := 142) D rfl fun D =>
      fk_jump cut_40_143 rfl rfl) (fun q D =>
      j_ic (pc := 138) D rfl fun D =>
      j_goto (pc := 139) D rfl <|
      fk_jump cut_40_143 rfl rfl)
theorem e_40_143 (d : Nat) (s0 s1 s2 : Int) {h : fi_H} (H : Shp h) : c_40_143 d s0 s1 s2 h =
  if h 0 s0.toNat 0 = 101 then
  if 302 < s0 then
  lt_ (fi_upd h 111 s0.toNat 0 (wI (s1 + s2))) fun h1 =>
  some (.inl none, h1)
  else none
  else none := by
  unfold c_40_143
  exact
    have D : fk_D 40 [(143, some [], .iadd, 1, 0, 0, 0), (144, none, .putfield 22, 3, 111, (-101), 10), (147, none, .return_, 1, 0, 0, 0)] := fq_of2 cd_40 ow_40 cl_40 rfl (pc := 143) (by decide +kernel)
    j_iadd (pc := 143) D rfl fun D =>
    j_pfo (pc := 144) D rfl rfl rfl rfl rfl gn gn (gy rfl) fun h1 eh1 S kc2 D =>
    have T := fj_hs_ok H.1 S
    have H := shp_st H T
    j_vret D rt_40
theorem m_40 (d : Nat) (x0 x1 : Int) {h : fi_H} (H : Shp h) (hk : h 0 x0.toNat 0 = 101) : fj_run (d + 1) 40 h [(4, x0), (0, x1)] =
  lt_ (wI ((wI (x1 + 693901)) - (wI ((iq_ (wI (x1 + 693901)) 146097) * 146097)))) fun y1 =>
  lt_ (iq_ (wI ((wI ((wI (y1 - (iq_ y1 1460))) + (iq_ y1 36524))) - (iq_ y1 146096))) 365) fun y2 =>
  lt_ (wI (y1 - (wI ((wI ((wI (365 * y2)) + (iq_ y2 4))) - (iq_ y2 100))))) fun y3 =>
  c_40_67 d x0 (iq_ (wI (x1 + 693901)) 146097) y2 y3 h := by
  rw [fj_run_eq d (by decide) h [(4, x0), (0, x1)] (Nat.le_of_ble_eq_true (by rw [nl_40]; rfl))]
  show gG (fj_run d) 40 0 [(0, (4, x0)), (1, (0, x1))] [] h = _
  exact
    have D : fk_D 40 [(0, none, .iload_n 1, 1, 0, 0, 0), (1, none, .ldc 11, 2, 0, 693901, 0), (3, none, .iadd, 1, 0, 0, 0), (4, none, .istore_n 2, 1, 0, 0, 0), (5, none, .iload_n 2, 1, 0, 0, 0), (6, none, .ldc 12, 2, 0, 146097, 0), (8, none, .idiv, 1, 0, 0, 0), (9, none, .istore_n 3, 1, 0, 0, 0), (10, none, .iload_n 2, 1, 0, 0, 0), (11, none, .iload_n 3, 1, 0, 0, 0), (12, none, .ldc 12, 2, 0, 146097, 0), (14, none, .imul, 1, 0, 0, 0), (15, none, .isub, 1, 0, 0, 0), (16, none, .istore 4, 2, 0, 0, 0), (18, none, .iload 4, 2, 0, 0, 0), (20, none, .iload 4, 2, 0, 0, 0), (22, none, .sipush 1460, 3, 0, 1460, 0), (25, none, .idiv, 1, 0, 0, 0), (26, none, .isub, 1, 0, 0, 0), (27, none, .iload 4, 2, 0, 0, 0)] := fq_of2 cd_40 ow_40 cl_40 rfl (pc := 0) (by decide +kernel)
    j_ildn (pc := 0) D rfl rfl rfl fun D =>
    j_ldc (pc := 1) D rfl fun D =>
    j_iadd (pc := 3) D rfl fun D =>
    j_istn (pc := 4) (L' := [(2, (0, wI (x1 + 693901))), (0, (4, x0)), (1, (0, x1))]) D rfl nl_40 rfl rfl fun D =>
    j_ildn (pc := 5) D rfl rfl rfl fun D =>
    j_ldc (pc := 6) D rfl fun D =>
    j_idivk (pc := 8) D rfl (by decide) fun D =>
    j_istn (pc := 9) (L' := [(3, (0, iq_ (wI (x1 + 693901)) 146097)), (2, (0, wI (x1 + 693901))), (0, (4, x0)), (1, (0, x1))]) D rfl nl_40 rfl rfl fun D =>
    j_ildn (pc := 10) D rfl rfl rfl fun D =>
    j_ildn (pc := 11) D rfl rfl rfl fun D =>
    j_ldc (pc := 12) D rfl fun D =>
    j_imul (pc := 14) D rfl fun D =>
    j_isub (pc := 15) D rfl fun D =>
    j_stl (pc := 16) (L' := fun y1 => [(4, (0, y1)), (3, (0, iq_ (wI (x1 + 693901)) 146097)), (2, (0, wI (x1 + 693901))), (0, (4, x0)), (1, (0, x1))]) D rfl ⟨rfl, rfl, rfl, rfl⟩ nl_40 rfl (fun _ => rfl) fun y1 ey1 D =>
    j_ild (pc := 18) D rfl rfl rfl fun D =>
    j_ild (pc := 20) D rfl rfl rfl fun D =>
    j_sp (pc := 22) D rfl fun D =>
    j_idivk (pc := 25) D rfl (by decide) fun D =>
    j_isub (pc := 26) D rfl fun D =>
    j_ild (pc := 27) D rfl rfl rfl fun D =>
    have D : fk_D 40 [(29, none, .ldc 13, 2, 0, 36524, 0), (31, none, .idiv, 1, 0, 0, 0), (32, none, .iadd, 1, 0, 0, 0), (33, none, .iload 4, 2, 0, 0, 0), (35, none, .ldc 14, 2, 0, 146096, 0), (37, none, .idiv, 1, 0, 0, 0), (38, none, .isub, 1, 0, 0, 0), (39, none, .sipush 365, 3, 0, 365, 0), (42, none, .idiv, 1, 0, 0, 0), (43, none, .istore 5, 2, 0, 0, 0), (45, none, .iload 4, 2, 0, 0, 0), (47, none, .sipush 365, 3, 0, 365, 0), (50, none, .iload 5, 2, 0, 0, 0), (52, none, .imul, 1, 0, 0, 0), (53, none, .iload 5, 2, 0, 0, 0), (55, none, .iconst 4, 1, 0, 4, 0), (56, none, .idiv, 1, 0, 0, 0), (57, none, .iadd, 1, 0, 0, 0), (58, none, .iload 5, 2, 0, 0, 0), (60, none, .bipush 100, 2, 0, 100, 0)] := fq_of2 cd_40 ow_40 cl_40 rfl (pc := 29) (by decide +kernel)
    j_ldc (pc := 29) D rfl fun D =>
    j_idivk (pc := 31) D rfl (by decide) fun D =>
    j_iadd (pc := 32) D rfl fun D =>
    j_ild (pc := 33) D rfl rfl rfl fun D =>
    j_ldc (pc := 35) D rfl fun D =>
    j_idivk (pc := 37) D rfl (by decide) fun D =>
    j_isub (pc := 38) D rfl fun D =>
    j_sp (pc := 39) D rfl fun D =>
    j_idivk (pc := 42) D rfl (by decide) fun D =>
    j_stl (pc := 43) (L' := fun y2 => [(5, (0, y2)), (4, (0, y1)), (3, (0, iq_ (wI (x1 + 693901)) 146097)), (2, (0, wI (x1 + 693901))), (0, (4, x0)), (1, (0, x1))]) D rfl ⟨rfl, rfl, rfl, rfl⟩ nl_40 rfl (fun _ => rfl) fun y2 ey2 D =>
    j_ild (pc := 45) D rfl rfl rfl fun D =>
    j_sp (pc := 47) D rfl fun D =>
    j_ild (pc := 50) D rfl rfl rfl fun D =>
    j_imul (pc := 52) D rfl fun D =>
    j_ild (pc := 53) D rfl rfl rfl fun D =>
    j_ic (pc := 55) D rfl fun D =>
    j_idivk (pc := 56) D rfl (by decide) fun D =>
    j_iadd (pc := 57) D rfl fun D =>
    j_ild (pc := 58) D rfl rfl rfl fun D =>
    j_bp (pc := 60) D rfl fun D =>
    have D : fk_D 40 [(62, none, .idiv, 1, 0, 0, 0), (63, none, .isub, 1, 0, 0, 0), (64, none, .isub, 1, 0, 0, 0), (65, none, .istore 6, 2, 0, 0, 0)] := fq_of2 cd_40 ow_40 cl_40 rfl (pc := 62) (by decide +kernel)
    j_idivk (pc := 62) D rfl (by decide) fun D =>
    j_isub (pc := 63) D rfl fun D =>
    j_isub (pc := 64) D rfl fun D =>
    j_stl (pc := 65) (L' := fun y3 => [(6, (0, y3)), (5, (0, y2)), (4, (0, y1)), (3, (0, iq_ (wI (x1 + 693901)) 146097)), (2, (0, wI (x1 + 693901))), (0, (4, x0)), (1, (0, x1))]) D rfl ⟨rfl, rfl, rfl, rfl⟩ nl_40 rfl (fun _ => rfl) fun y3 ey3 D =>
    fk_jump cut_40_67 rfl rfl
/-! 41 StatuteHouse$Named.write()V -/
theorem cd_41 : fi_code 41 = prog_48_method_4_code := rfl
theorem hx_41 : ∀ pc, fi_hat 41 pc = none := fun pc => by unfold fi_hat; rw [show fi_hh 41 = [] from rfl]; rfl
theorem rt_41 : fi_ret 41 = none := rfl
theorem nl_41 : fi_nl 41 = 1 := rfl
theorem ow_41 : fi_ow 41 = 65 := rfl
theorem cl_41 : fj_cutT.getD 41 [] = [] := rfl
theorem m_41 (d : Nat) (x0 : Int) {h : fi_H} {k0 : Int} (H : Shp h) (hk : h 0 x0.toNat 0 = k0) (hk0 : k0 ≠ 0) (ht348 : h 348 x0.toNat 0 = 303) : fj_run (d + 1) 41 h [(4, x0)] =
  if fi_in (h 0 x0.toNat 0) 348 = true then
  if fi_in (h 0 x0.toNat 0) 348 = true then
  if fi_in (h 0 x0.toNat 0) 347 = true then
  if 0 ≤ h 347 x0.toNat 0 ∧ h 347 x0.toNat 0 < 40 then
  if h 0 (h 12 320 (h 347 x0.toNat 0).toNat).toNat 0 = 124 then
  dv_ (fi_vt 138 (h 0 (h 270 303 0).toNat 0)) fun m6 => cv_ (fj_run d m6 h [(4, h 270 303 0), (4, h 321 (h 12 320 (h 347 x0.toNat 0).toNat).toNat 0)])
    (fun h3 =>
    some (.inl none, h3))
    (fun q5 h3 => tx_ q5 h3)
  else none
  else none
  else none
  else none
  else none := by
  rw [fj_run_eq d (by decide) h [(4, x0)] (Nat.le_of_ble_eq_true (by rw [nl_41]; rfl))]
  show gG (fj_run d) 41 0 [(0, (4, x0))] [] h = _
  exact
    have D : fk_D 41 [(0, none, .aload_n 0, 1, 0, 0, 0), (1, none, .getfield 1, 3, 348, 0, 12), (4, none, .getfield 21, 3, 270, 100, 12), (7, none, .aload_n 0, 1, 0, 0, 0), (8, none, .getfield 1, 3, 348, 0, 12), (11, none, .getfield 27, 3, 214, 100, 12), (14, none, .aload_n 0, 1, 0, 0, 0), (15, none, .getfield 13, 3, 347, 0, 10), (18, none, .aaload, 1, 0, 0, 0), (19, none, .getfield 31, 3, 321, (-124), 12), (22, none, .invokevirtual 37, 3, 1, 138, 0), (25, none, .return_, 1, 0, 0, 0)] := fq_of2 cd_41 ow_41 cl_41 rfl (pc := 0) (by decide +kernel)
    j_aldn (pc := 0) D rfl rfl rfl fun D =>
    j_gfuc (pc := 1) H.2.1 D rfl rfl ht348 fun q D =>
    j_gf (pc := 4) (a := 303) D rfl rfl (by decide) rfl (s0_303 H) rfl fun D =>
    j_aldn (pc := 7) D rfl rfl rfl fun D =>
    j_gfuc (pc := 8) H.2.1 D rfl rfl ht348 fun q D =>
    j_gfc (pc := 11) (a := 303) D rfl rfl (by decide) rfl (s0_303 H) rfl (sf_214_303 H) fun D =>
    j_aldn (pc := 14) D rfl rfl rfl fun D =>
    j_gfu (pc := 15) H.2.1 D rfl rfl fun q D =>
    j_al (pc := 18) (a := 320) (e := 12) D rfl rfl rfl (by decide) (s0_320 H) (s1_320 H) ⟨rfl, rfl, rfl⟩ rfl gn fun qb1 D =>
    j_gfo (pc := 19) H.2.1 D rfl rfl rfl rfl fun kc2 D =>
    j_ivuv (pc := 22) (dd := 138) (a := [(4, h 321 (h 12 320 (h 347 x0.toNat 0).toNat).toNat 0)]) (rest := []) H.2.1 D rfl rfl rfl rfl rfl (fun m6 h3 e1 D =>
      have T := fj_run_ok _ _ _ _ _ _ H.1 e1
      have ht348 := fin_st H.1 T.2 hk hk0 (by decide +kernel) ht348 (by decide)
      have hk := cls_st H.1 T.2 hk hk0
      have H := shp_st H T
      j_vret D rt_41) (fun m6 q5 h3 e1 =>
      j_tx (hx_41 _))
/-! 42 StatuteHouse$Has.write()V -/
theorem cd_42 : fi_code 42 = prog_37_method_4_code := rfl
theorem hx_42 : ∀ pc, fi_hat 42 pc = none := fun pc => by unfold fi_hat; rw [show fi_hh 42 = [] from rfl]; rfl
theorem rt_42 : fi_ret 42 = none := rfl
theorem nl_42 : fi_nl 42 = 1 := rfl
theorem ow_42 : fi_ow 42 = 9 := rfl
theorem cl_42 : fj_cutT.getD 42 [] = [] := rfl
theorem m_42 (d : Nat) (x0 : Int) {h : fi_H} (H : Shp h) (hk : h 0 x0.toNat 0 = 109) (ht346 : h 346 x0.toNat 0 = 303) : fj_run (d + 1) 42 h [(4, x0)] =
  dv_ (fi_vt 138 (h 0 (h 270 303 0).toNat 0)) fun m4 => cv_ (fj_run d m4 h [(4, h 270 303 0), (4, 139)])
    (fun h1 =>
    cv_ (fj_run d 41 h1 [(4, x0)])
      (fun h5 =>
      dv_ (fi_vt 139 (h5 0 (h5 270 303 0).toNat 0)) fun m11 => cv_ (fj_run d m11 h5 [(4, h5 270 303 0), (0, 41)])
        (fun h8 =>
        some (.inl none, h8))
        (fun q10 h8 => tx_ q10 h8))
      (fun q7 h5 => tx_ q7 h5))
    (fun q3 h1 => tx_ q3 h1) := by
  rw [fj_run_eq d (by decide) h [(4, x0)] (Nat.le_of_ble_eq_true (by rw [nl_42]; rfl))]
  show gG (fj_run d) 42 0 [(0, (4, x0))] [] h = _
  exact
    have D : fk_D 42 [(0, none, .aload_n 0, 1, 0, 0, 0), (1, none, .getfield 1, 3, 346, 109, 12), (4, none, .getfield 46, 3, 270, 100, 12), (7, none, .ldc 50, 2, 4, 139, 0), (9, none, .invokevirtual 52, 3, 1, 138, 0), (12, none, .aload_n 0, 1, 0, 0, 0), (13, none, .invokespecial 58, 3, 0, 41, 0), (16, none, .aload_n 0, 1, 0, 0, 0), (17, none, .getfield 1, 3, 346, 109, 12), (20, none, .getfield 46, 3, 270, 100, 12), (23, none, .bipush 41, 2, 0, 41, 0), (25, none, .invokevirtual 61, 3, 1, 139, 0), (28, none, .return_, 1, 0, 0, 0)] := fq_of2 cd_42 ow_42 cl_42 rfl (pc := 0) (by decide +kernel)
    j_aldn (pc := 0) D rfl rfl rfl fun D =>
    j_gfc (pc := 1) (a := x0.toNat) D rfl rfl (nz_cls H.2.1 hk (by decide)) rfl hk rfl ht346 fun D =>
    j_gf (pc := 4) (a := 303) D rfl rfl (by decide) rfl (s0_303 H) rfl fun D =>
    j_ldc (pc := 7) D rfl fun D =>
    j_ivuv (pc := 9) (dd := 138) (a := [(4, 139)]) (rest := []) H.2.1 D rfl rfl rfl rfl rfl (fun m4 h1 e1 D =>
      have T := fj_run_ok _ _ _ _ _ _ H.1 e1
      have ht346 := fin_st H.1 T.2 hk (by decide) (by decide +kernel) ht346 (by decide)
      have hk := cls_st H.1 T.2 hk (by decide)
      have H := shp_st H T
      j_aldn (pc := 12) D rfl rfl rfl fun D =>
      j_spv (pc := 13) (m := 41) (a := []) (rest := []) D rfl rfl rfl rfl (by rw [show h1 0 x0.toNat 0 = 109 from hk]; decide) (nz_cls H.2.1 hk (by decide)) (fun h5 e1 D =>
        have T := fj_run_ok _ _ _ _ _ _ H.1 e1
        have ht346 := fin_st H.1 T.2 hk (by decide) (by decide +kernel) ht346 (by decide)
        have hk := cls_st H.1 T.2 hk (by decide)
        have H := shp_st H T
        j_aldn (pc := 16) D rfl rfl rfl fun D =>
        j_gfc (pc := 17) (a := x0.toNat) D rfl rfl (nz_cls H.2.1 hk (by decide)) rfl hk rfl ht346 fun D =>
        j_gf (pc := 20) (a := 303) D rfl rfl (by decide) rfl (s0_303 H) rfl fun D =>
        j_bp (pc := 23) D rfl fun D =>
        j_ivuv (pc := 25) (dd := 139) (a := [(0, 41)]) (rest := []) H.2.1 D rfl rfl rfl rfl rfl (fun m11 h8 e1 D =>
          have T := fj_run_ok _ _ _ _ _ _ H.1 e1
          have ht346 := fin_st H.1 T.2 hk (by decide) (by decide +kernel) ht346 (by decide)
          have hk := cls_st H.1 T.2 hk (by decide)
          have H := shp_st H T
          j_vret D rt_42) (fun m11 q10 h8 e1 =>
          j_tx (hx_42 _))) (fun q7 h5 e1 =>
        j_tx (hx_42 _))) (fun m4 q3 h1 e1 =>
      j_tx (hx_42 _))
/-! 43 StatuteHouse$Months.write()V -/
theorem cd_43 : fi_code 43 = prog_47_method_4_code := rfl
theorem hx_43 : ∀ pc, fi_hat 43 pc = none := fun pc => by unfold fi_hat; rw [show fi_hh 43 = [] from rfl]; rfl
theorem rt_43 : fi_ret 43 = none := rfl
theorem nl_43 : fi_nl 43 = 1 := rfl
theorem ow_43 : fi_ow 43 = 11 := rfl
theorem cl_43 : fj_cutT.getD 43 [] = [] := rfl
theorem m_43 (d : Nat) (x0 : Int) {h : fi_H} (H : Shp h) (hk : h 0 x0.toNat 0 = 111) (ht352 : h 352 x0.toNat 0 = 303) : fj_run (d + 1) 43 h [(4, x0)] =
  dv_ (fi_vt 138 (h 0 (h 270 303 0).toNat 0)) fun m4 => cv_ (fj_run d m4 h [(4, h 270 303 0), (4, 141)])
    (fun h1 =>
    dv_ (fi_vt 145 (h1 0 (h1 349 x0.toNat 0).toNat 0)) fun m8 => cv_ (fj_run d m8 h1 [(4, h1 349 x0.toNat 0)])
      (fun h5 =>
      dv_ (fi_vt 138 (h5 0 (h5 270 303 0).toNat 0)) fun m12 => cv_ (fj_run d m12 h5 [(4, h5 270 303 0), (4, 129)])
        (fun h9 =>
        dv_ (fi_vt 145 (h9 0 (h9 350 x0.toNat 0).toNat 0)) fun m16 => cv_ (fj_run d m16 h9 [(4, h9 350 x0.toNat 0)])
          (fun h13 =>
          dv_ (fi_vt 138 (h13 0 (h13 270 303 0).toNat 0)) fun m20 => cv_ (fj_run d m20 h13 [(4, h13 270 303 0), (4, 129)])
            (fun h17 =>
            dv_ (fi_vt 145 (h17 0 (h17 351 x0.toNat 0).toNat 0)) fun m24 => cv_ (fj_run d m24 h17 [(4, h17 351 x0.toNat 0)])
              (fun h21 =>
              dv_ (fi_vt 139 (h21 0 (h21 270 303 0).toNat 0)) fun m28 => cv_ (fj_run d m28 h21 [(4, h21 270 303 0), (0, 41)])
                (fun h25 =>
                some (.inl none, h25))
                (fun q27 h25 => tx_ q27 h25))
              (fun q23 h21 => tx_ q23 h21))
            (fun q19 h17 => tx_ q19 h17))
          (fun q15 h13 => tx_ q15 h13))
        (fun q11 h9 => tx_ q11 h9))
      (fun q7 h5 => tx_ q7 h5))
    (fun q3 h1 => tx_ q3 h1) := by
  rw [fj_run_eq d (by decide) h [(4, x0)] (Nat.le_of_ble_eq_true (by rw [nl_43]; rfl))]
  show gG (fj_run d) 43 0 [(0, (4, x0))] [] h = _
  exact
    have D : fk_D 43 [(0, none, .aload_n 0, 1, 0, 0, 0), (1, none, .getfield 3, 3, 352, 111, 12), (4, none, .getfield 91, 3, 270, 100, 12), (7, none, .ldc 95, 2, 4, 141, 0), (9, none, .invokevirtual 97, 3, 1, 138, 0), (12, none, .aload_n 0, 1, 0, 0, 0), (13, none, .getfield 29, 3, 349, 111, 12), (16, none, .invokevirtual 103, 3, 0, 145, 0), (19, none, .aload_n 0, 1, 0, 0, 0), (20, none, .getfield 3, 3, 352, 111, 12), (23, none, .getfield 91, 3, 270, 100, 12), (26, none, .ldc 106, 2, 4, 129, 0), (28, none, .invokevirtual 97, 3, 1, 138, 0), (31, none, .aload_n 0, 1, 0, 0, 0), (32, none, .getfield 33, 3, 350, 111, 12), (35, none, .invokevirtual 103, 3, 0, 145, 0), (38, none, .aload_n 0, 1, 0, 0, 0), (39, none, .getfield 3, 3, 352, 111, 12), (42, none, .getfield 91, 3, 270, 100, 12), (45, none, .ldc 106, 2, 4, 129, 0)] := fq_of2 cd_43 ow_43 cl_43 rfl (pc := 0) (by decide +kernel)
    j_aldn (pc := 0) D rfl rfl rfl fun D =>
    j_gfc (pc := 1) (a := x0.toNat) D rfl rfl (nz_cls H.2.1 hk (by decide)) rfl hk rfl ht352 fun D =>
    j_gf (pc := 4) (a := 303) D rfl rfl (by decide) rfl (s0_303 H) rfl fun D =>
    j_ldc (pc := 7) D rfl fun D =>
    j_ivuv (pc := 9) (dd := 138) (a := [(4, 141)]) (rest := []) H.2.1 D rfl rfl rfl rfl rfl (fun m4 h1 e1 D =>
      have T := fj_run_ok _ _ _ _ _ _ H.1 e1
      have ht352 := fin_st H.1 T.2 hk (by decide) (by decide +kernel) ht352 (by decide)
      have hk := cls_st H.1 T.2 hk (by decide)
      have H := shp_st H T
      j_aldn (pc := 12) D rfl rfl rfl fun D =>
      j_gf (pc := 13) (a := x0.toNat) D rfl rfl (nz_cls H.2.1 hk (by decide)) rfl hk rfl fun D =>
      j_ivuv (pc := 16) (dd := 145) (a := []) (rest := []) H.2.1 D rfl rfl rfl rfl rfl (fun m8 h5 e1 D =>
        have T := fj_run_ok _ _ _ _ _ _ H.1 e1
        have ht352 := fin_st H.1 T.2 hk (by decide) (by decide +kernel) ht352 (by decide)
        have hk := cls_st H.1 T.2 hk (by decide)
        have H := shp_st H T
        j_aldn (pc := 19) D rfl rfl rfl fun D =>
        j_gfc (pc := 20) (a := x0.toNat) D rfl rfl (nz_cls H.2.1 hk (by decide)) rfl hk rfl ht352 fun D =>
        j_gf (pc := 23) (a := 303) D rfl rfl (by decide) rfl (s0_303 H) rfl fun D =>
        j_ldc (pc := 26) D rfl fun D =>
        j_ivuv (pc := 28) (dd := 138) (a := [(4, 129)]) (rest := []) H.2.1 D rfl rfl rfl rfl rfl (fun m12 h9 e1 D =>
          have T := fj_run_ok _ _ _ _ _ _ H.1 e1
          have ht352 := fin_st H.1 T.2 hk (by decide) (by decide +kernel) ht352 (by decide)
          have hk := cls_st H.1 T.2 hk (by decide)
          have H := shp_st H T
          j_aldn (pc := 31) D rfl rfl rfl fun D =>
          j_gf (pc := 32) (a := x0.toNat) D rfl rfl (nz_cls H.2.1 hk (by decide)) rfl hk rfl fun D =>
          j_ivuv (pc := 35) (dd := 145) (a := []) (rest := []) H.2.1 D rfl rfl rfl rfl rfl (fun m16 h13 e1 D =>
            have T := fj_run_ok _ _ _ _ _ _ H.1 e1
            have ht352 := fin_st H.1 T.2 hk (by decide) (by decide +kernel) ht352 (by decide)
            have hk := cls_st H.1 T.2 hk (by decide)
            have H := shp_st H T
            j_aldn (pc := 38) D rfl rfl rfl fun D =>
            j_gfc (pc := 39) (a := x0.toNat) D rfl rfl (nz_cls H.2.1 hk (by decide)) rfl hk rfl ht352 fun D =>
            j_gf (pc := 42) (a := 303) D rfl rfl (by decide) rfl (s0_303 H) rfl fun D =>
            j_ldc (pc := 45) D rfl fun D =>
            have D : fk_D 43 [(47, none, .invokevirtual 97, 3, 1, 138, 0), (50, none, .aload_n 0, 1, 0, 0, 0), (51, none, .getfield 36, 3, 351, 111, 12), (54, none, .invokevirtual 103, 3, 0, 145, 0), (57, none, .aload_n 0, 1, 0, 0, 0), (58, none, .getfield 3, 3, 352, 111, 12), (61, none, .getfield 91, 3, 270, 100, 12), (64, none, .bipush 41, 2, 0, 41, 0), (66, none, .invokevirtual 108, 3, 1, 139, 0), (69, none, .return_, 1, 0, 0, 0)] := fq_of2 cd_43 ow_43 cl_43 rfl (pc := 47) (by decide +kernel)
            j_ivuv (pc := 47) (dd := 138) (a := [(4, 129)]) (rest := []) H.2.1 D rfl rfl rfl rfl rfl (fun m20 h17 e1 D =>
              have T := fj_run_ok _ _ _ _ _ _ H.1 e1
              have ht352 := fin_st H.1 T.2 hk (by decide) (by decide +kernel) ht352 (by decide)
              have hk := cls_st H.1 T.2 hk (by decide)
              have H := shp_st H T
              j_aldn (pc := 50) D rfl rfl rfl fun D =>
              j_gf (pc := 51) (a := x0.toNat) D rfl rfl (nz_cls H.2.1 hk (by decide)) rfl hk rfl fun D =>
              j_ivuv (pc := 54) (dd := 145) (a := []) (rest := []) H.2.1 D rfl rfl rfl rfl rfl (fun m24 h21 e1 D =>
                have T := fj_run_ok _ _ _ _ _ _ H.1 e1
                have ht352 := fin_st H.1 T.2 hk (by decide) (by decide +kernel) ht352 (by decide)
                have hk := cls_st H.1 T.2 hk (by decide)
                have H := shp_st H T
                j_aldn (pc := 57) D rfl rfl rfl fun D =>
                j_gfc (pc := 58) (a := x0.toNat) D rfl rfl (nz_cls H.2.1 hk (by decide)) rfl hk rfl ht352 fun D =>
                j_gf (pc := 61) (a := 303) D rfl rfl (by decide) rfl (s0_303 H) rfl fun D =>
                j_bp (pc := 64) D rfl fun D =>
                j_ivuv (pc := 66) (dd := 139) (a := [(0, 41)]) (rest := []) H.2.1 D rfl rfl rfl rfl rfl (fun m28 h25 e1 D =>
                  have T := fj_run_ok _ _ _ _ _ _ H.1 e1
                  have ht352 := fin_st H.1 T.2 hk (by decide) (by decide +kernel) ht352 (by decide)
                  have hk := cls_st H.1 T.2 hk (by decide)
                  have H := shp_st H T
                  j_vret D rt_43) (fun m28 q27 h25 e1 =>
                  j_tx (hx_43 _))) (fun m24 q23 h21 e1 =>
                j_tx (hx_43 _))) (fun m20 q19 h17 e1 =>
              j_tx (hx_43 _))) (fun m16 q15 h13 e1 =>
            j_tx (hx_43 _))) (fun m12 q11 h9 e1 =>
          j_tx (hx_43 _))) (fun m8 q7 h5 e1 =>
        j_tx (hx_43 _))) (fun m4 q3 h1 e1 =>
      j_tx (hx_43 _))
/-! 44 StatuteHouse$One.write()V -/
theorem cd_44 : fi_code 44 = prog_49_method_4_code := rfl
theorem hx_44 : ∀ pc, fi_hat 44 pc = none := fun pc => by unfold fi_hat; rw [show fi_hh 44 = [] from rfl]; rfl
theorem rt_44 : fi_ret 44 = none := rfl
theorem nl_44 : fi_nl 44 = 1 := rfl
theorem ow_44 : fi_ow 44 = 12 := rfl
theorem cl_44 : fj_cutT.getD 44 [] = [(24, [0])] := rfl
theorem cut_44_24 : fj_cut 44 24 = some [0] := by decide +kernel
noncomputable def c_44_24 (d : Nat) (x0 s0 s1 : Int) (h : fi_H) : fk_R := gG (fj_run d) 44 24 [(0, (4, x0))] [(4, s1), (4, s0)] h
theorem e_44_24 (d : Nat) (x0 s0 s1 : Int) {h : fi_H} (H : Shp h) (hk : h 0 x0.toNat 0 = 112) (ht371 : h 371 x0.toNat 0 = 303) : c_44_24 d x0 s0 s1 h =
  dv_ (fi_vt 138 (h 0 s0.toNat 0)) fun m4 => cv_ (fj_run d m4 h [(4, s0), (4, s1)])
    (fun h1 =>
    dv_ (fi_vt 145 (h1 0 (h1 370 x0.toNat 0).toNat 0)) fun m8 => cv_ (fj_run d m8 h1 [(4, h1 370 x0.toNat 0)])
      (fun h5 =>
      dv_ (fi_vt 139 (h5 0 (h5 270 303 0).toNat 0)) fun m12 => cv_ (fj_run d m12 h5 [(4, h5 270 303 0), (0, 41)])
        (fun h9 =>
        some (.inl none, h9))
        (fun q11 h9 => tx_ q11 h9))
      (fun q7 h5 => tx_ q7 h5))
    (fun q3 h1 => tx_ q3 h1) := by
  unfold c_44_24
  exact
    have D : fk_D 44 [(24, some [0], .invokevirtual 93, 3, 1, 138, 0), (27, none, .aload_n 0, 1, 0, 0, 0), (28, none, .getfield 21, 3, 370, 112, 12), (31, none, .invokevirtual 99, 3, 0, 145, 0), (34, none, .aload_n 0, 1, 0, 0, 0), (35, none, .getfield 1, 3, 371, 112, 12), (38, none, .getfield 82, 3, 270, 100, 12), (41, none, .bipush 41, 2, 0, 41, 0), (43, none, .invokevirtual 102, 3, 1, 139, 0), (46, none, .return_, 1, 0, 0, 0)] := fq_of2 cd_44 ow_44 cl_44 rfl (pc := 24) (by decide +kernel)
    j_ivuv (pc := 24) (dd := 138) (a := [(4, s1)]) (rest := []) H.2.1 D rfl rfl rfl rfl rfl (fun m4 h1 e1 D =>
      have T := fj_run_ok _ _ _ _ _ _ H.1 e1
      have ht371 := fin_st H.1 T.2 hk (by decide) (by decide +kernel) ht371 (by decide)
      have hk := cls_st H.1 T.2 hk (by decide)
      have H := shp_st H T
      j_aldn (pc := 27) D rfl rfl rfl fun D =>
      j_gf (pc := 28) (a := x0.toNat) D rfl rfl (nz_cls H.2.1 hk (by decide)) rfl hk rfl fun D =>
      j_ivuv (pc := 31) (dd := 145) (a := []) (rest := []) H.2.1 D rfl rfl rfl rfl rfl (fun m8 h5 e1 D =>
        have T := fj_run_ok _ _ _ _ _ _ H.1 e1
        have ht371 := fin_st H.1 T.2 hk (by decide) (by decide +kernel) ht371 (by decide)
        have hk := cls_st H.1 T.2 hk (by decide)
        have H := shp_st H T
        j_aldn (pc := 34) D rfl rfl rfl fun D =>
        j_gfc (pc := 35) (a := x0.toNat) D rfl rfl (nz_cls H.2.1 hk (by decide)) rfl hk rfl ht371 fun D =>
        j_gf (pc := 38) (a := 303) D rfl rfl (by decide) rfl (s0_303 H) rfl fun D =>
        j_bp (pc := 41) D rfl fun D =>
        j_ivuv (pc := 43) (dd := 139) (a := [(0, 41)]) (rest := []) H.2.1 D rfl rfl rfl rfl rfl (fun m12 h9 e1 D =>
          have T := fj_run_ok _ _ _ _ _ _ H.1 e1
          have ht371 := fin_st H.1 T.2 hk (by decide) (by decide +kernel) ht371 (by decide)
          have hk := cls_st H.1 T.2 hk (by decide)
          have H := shp_st H T
          j_vret D rt_44) (fun m12 q11 h9 e1 =>
          j_tx (hx_44 _))) (fun m8 q7 h5 e1 =>
        j_tx (hx_44 _))) (fun m4 q3 h1 e1 =>
      j_tx (hx_44 _))
theorem m_44 (d : Nat) (x0 : Int) {h : fi_H} (H : Shp h) (hk : h 0 x0.toNat 0 = 112) (ht371 : h 371 x0.toNat 0 = 303) : fj_run (d + 1) 44 h [(4, x0)] =
  if h 340 x0.toNat 0 = 2 then
    c_44_24 d x0 (h 270 303 0) 143 h
  else
    c_44_24 d x0 (h 270 303 0) 145 h := by
  rw [fj_run_eq d (by decide) h [(4, x0)] (Nat.le_of_ble_eq_true (by rw [nl_44]; rfl))]
  show gG (fj_run d) 44 0 [(0, (4, x0))] [] h = _
  exact
    have D : fk_D 44 [(0, none, .aload_n 0, 1, 0, 0, 0), (1, none, .getfield 1, 3, 371, 112, 12), (4, none, .getfield 82, 3, 270, 100, 12), (7, none, .aload_n 0, 1, 0, 0, 0), (8, none, .getfield 35, 3, 340, 112, 12), (11, none, .getstatic 86, 3, 4, 2, 0), (14, none, .if_acmp .ne 8, 3, 22, 0, 0), (17, none, .ldc 89, 2, 4, 143, 0), (19, none, .goto 5, 3, 24, 0, 0)] := fq_of2 cd_44 ow_44 cl_44 rfl (pc := 0) (by decide +kernel)
    j_aldn (pc := 0) D rfl rfl rfl fun D =>
    j_gfc (pc := 1) (a := x0.toNat) D rfl rfl (nz_cls H.2.1 hk (by decide)) rfl hk rfl ht371 fun D =>
    j_gf (pc := 4) (a := 303) D rfl rfl (by decide) rfl (s0_303 H) rfl fun D =>
    j_aldn (pc := 7) D rfl rfl rfl fun D =>
    j_gf (pc := 8) (a := x0.toNat) D rfl rfl (nz_cls H.2.1 hk (by decide)) rfl hk rfl fun D =>
    j_gs (pc := 11) D rfl fun D =>
    j_ane (pc := 14) D rfl (fun q D =>
      j_ldc (pc := 17) D rfl fun D =>
      j_goto (pc := 19) D rfl <|
      fk_jump cut_44_24 rfl rfl) (fun q =>
      have D : fk_D 44 [(22, none, .ldc 91, 2, 4, 145, 0)] := fq_of2 cd_44 ow_44 cl_44 rfl (pc := 22) (by decide +kernel)
      j_ldc (pc := 22) D rfl fun D =>
      fk_jump cut_44_24 rfl rfl)
/-! 45 StatuteHouse$Plain.write()V -/
theorem cd_45 : fi_code 45 = prog_52_method_4_code := rfl
theorem hx_45 : ∀ pc, fi_hat 45 pc = none := fun pc => by unfold fi_hat; rw [show fi_hh 45 = [] from rfl]; rfl
theorem rt_45 : fi_ret 45 = none := rfl
theorem nl_45 : fi_nl 45 = 1 := rfl
theorem ow_45 : fi_ow 45 = 14 := rfl
theorem cl_45 : fj_cutT.getD 45 [] = [] := rfl
theorem m_45 (d : Nat) (x0 : Int) {h : fi_H} (H : Shp h) (hk : h 0 x0.toNat 0 = 114) (ht345 : h 345 x0.toNat 0 = 303) : fj_run (d + 1) 45 h [(4, x0)] =
  dv_ (fi_vt 138 (h 0 (h 270 303 0).toNat 0)) fun m4 => cv_ (fj_run d m4 h [(4, h 270 303 0), (4, h 344 x0.toNat 0)])
    (fun h1 =>
    some (.inl none, h1))
    (fun q3 h1 => tx_ q3 h1) := by
  rw [fj_run_eq d (by decide) h [(4, x0)] (Nat.le_of_ble_eq_true (by rw [nl_45]; rfl))]
  show gG (fj_run d) 45 0 [(0, (4, x0))] [] h = _
  exact
    have D : fk_D 45 [(0, none, .aload_n 0, 1, 0, 0, 0), (1, none, .getfield 1, 3, 345, 114, 12), (4, none, .getfield 64, 3, 270, 100, 12), (7, none, .aload_n 0, 1, 0, 0, 0), (8, none, .getfield 30, 3, 344, 114, 12), (11, none, .invokevirtual 68, 3, 1, 138, 0), (14, none, .return_, 1, 0, 0, 0)] := fq_of2 cd_45 ow_45 cl_45 rfl (pc := 0) (by decide +kernel)
    j_aldn (pc := 0) D rfl rfl rfl fun D =>
    j_gfc (pc := 1) (a := x0.toNat) D rfl rfl (nz_cls H.2.1 hk (by decide)) rfl hk rfl ht345 fun D =>
    j_gf (pc := 4) (a := 303) D rfl rfl (by decide) rfl (s0_303 H) rfl fun D =>
    j_aldn (pc := 7) D rfl rfl rfl fun D =>
    j_gf (pc := 8) (a := x0.toNat) D rfl rfl (nz_cls H.2.1 hk (by decide)) rfl hk rfl fun D =>
    j_ivuv (pc := 11) (dd := 138) (a := [(4, h 344 x0.toNat 0)]) (rest := []) H.2.1 D rfl rfl rfl rfl rfl (fun m4 h1 e1 D =>
      have T := fj_run_ok _ _ _ _ _ _ H.1 e1
      have ht345 := fin_st H.1 T.2 hk (by decide) (by decide +kernel) ht345 (by decide)
      have hk := cls_st H.1 T.2 hk (by decide)
      have H := shp_st H T
      j_vret D rt_45) (fun m4 q3 h1 e1 =>
      j_tx (hx_45 _))
/-! 46 StatuteHouse$SetPart.write()V -/
theorem cd_46 : fi_code 46 = prog_56_method_6_code := rfl
theorem hx_46 : ∀ pc, fi_hat 46 pc = none := fun pc => by unfold fi_hat; rw [show fi_hh 46 = [] from rfl]; rfl
theorem rt_46 : fi_ret 46 = none := rfl
theorem nl_46 : fi_nl 46 = 1 := rfl
theorem ow_46 : fi_ow 46 = 18 := rfl
theorem cl_46 : fj_cutT.getD 46 [] = [(80, [0])] := rfl
theorem cut_46_80 : fj_cut 46 80 = some [0] := by decide +kernel
noncomputable def c_46_80 (d : Nat) (x0 s0 s1 : Int) (h : fi_H) : fk_R := gG (fj_run d) 46 80 [(0, (4, x0))] [(4, s1), (4, s0)] h
theorem e_46_80 (d : Nat) (x0 s0 s1 : Int) {h : fi_H} (H : Shp h) (hk : h 0 x0.toNat 0 = 118) (ht356 : h 356 x0.toNat 0 = 303) : c_46_80 d x0 s0 s1 h =
  dv_ (fi_vt 138 (h 0 s0.toNat 0)) fun m4 => cv_ (fj_run d m4 h [(4, s0), (4, s1)])
    (fun h1 =>
    dv_ (fi_vt 139 (h1 0 (h1 270 303 0).toNat 0)) fun m8 => cv_ (fj_run d m8 h1 [(4, h1 270 303 0), (0, 41)])
      (fun h5 =>
      some (.inl none, h5))
      (fun q7 h5 => tx_ q7 h5))
    (fun q3 h1 => tx_ q3 h1) := by
  unfold c_46_80
  exact
    have D : fk_D 46 [(80, some [0], .invokevirtual 146, 3, 1, 138, 0), (83, none, .aload_n 0, 1, 0, 0, 0), (84, none, .getfield 3, 3, 356, 118, 12), (87, none, .getfield 138, 3, 270, 100, 12), (90, none, .bipush 41, 2, 0, 41, 0), (92, none, .invokevirtual 151, 3, 1, 139, 0), (95, none, .return_, 1, 0, 0, 0)] := fq_of2 cd_46 ow_46 cl_46 rfl (pc := 80) (by decide +kernel)
    j_ivuv (pc := 80) (dd := 138) (a := [(4, s1)]) (rest := []) H.2.1 D rfl rfl rfl rfl rfl (fun m4 h1 e1 D =>
      have T := fj_run_ok _ _ _ _ _ _ H.1 e1
      have ht356 := fin_st H.1 T.2 hk (by decide) (by decide +kernel) ht356 (by decide)
      have hk := cls_st H.1 T.2 hk (by decide)
      have H := shp_st H T
      j_aldn (pc := 83) D rfl rfl rfl fun D =>
      j_gfc (pc := 84) (a := x0.toNat) D rfl rfl (nz_cls H.2.1 hk (by decide)) rfl hk rfl ht356 fun D =>
      j_gf (pc := 87) (a := 303) D rfl rfl (by decide) rfl (s0_303 H) rfl fun D =>
      j_bp (pc := 90) D rfl fun D =>
      j_ivuv (pc := 92) (dd := 139) (a := [(0, 41)]) (rest := []) H.2.1 D rfl rfl rfl rfl rfl (fun m8 h5 e1 D =>
        have T := fj_run_ok _ _ _ _ _ _ H.1 e1
        have ht356 := fin_st H.1 T.2 hk (by decide) (by decide +kernel) ht356 (by decide)
        have hk := cls_st H.1 T.2 hk (by decide)
        have H := shp_st H T
        j_vret D rt_46) (fun m8 q7 h5 e1 =>
        j_tx (hx_46 _))) (fun m4 q3 h1 e1 =>
      j_tx (hx_46 _))
theorem m_46 (d : Nat) (x0 : Int) {h : fi_H} (H : Shp h) (hk : h 0 x0.toNat 0 = 118) (ht356 : h 356 x0.toNat 0 = 303) : fj_run (d + 1) 46 h [(4, x0)] =
  ca_ (fj_run d 47 h [(4, x0)]) 4
    (fun v2 h1 =>
    dv_ (fi_vt 138 (h1 0 (h 270 303 0).toNat 0)) fun m7 => cv_ (fj_run d m7 h1 [(4, h 270 303 0), (4, v2)])
      (fun h4 =>
      dv_ (fi_vt 139 (h4 0 (h4 270 303 0).toNat 0)) fun m11 => cv_ (fj_run d m11 h4 [(4, h4 270 303 0), (0, 40)])
        (fun h8 =>
        dv_ (fi_vt 145 (h8 0 (h8 354 x0.toNat 0).toNat 0)) fun m15 => cv_ (fj_run d m15 h8 [(4, h8 354 x0.toNat 0)])
          (fun h12 =>
          dv_ (fi_vt 138 (h12 0 (h12 270 303 0).toNat 0)) fun m19 => cv_ (fj_run d m19 h12 [(4, h12 270 303 0), (4, 129)])
            (fun h16 =>
            if h16 355 x0.toNat 0 = (-1) then
              c_46_80 d x0 (h16 270 303 0) 159 h16
            else
              if 0 ≤ h16 355 x0.toNat 0 ∧ h16 355 x0.toNat 0 < 40 then
              if h16 0 (h16 12 320 (h16 355 x0.toNat 0).toNat).toNat 0 = 124 then
              c_46_80 d x0 (h16 270 303 0) (h16 321 (h16 12 320 (h16 355 x0.toNat 0).toNat).toNat 0) h16
              else none
              else none)
            (fun q18 h16 => tx_ q18 h16))
          (fun q14 h12 => tx_ q14 h12))
        (fun q10 h8 => tx_ q10 h8))
      (fun q6 h4 => tx_ q6 h4))
    (fun q3 h1 => tx_ q3 h1) := by
  rw [fj_run_eq d (by decide) h [(4, x0)] (Nat.le_of_ble_eq_true (by rw [nl_46]; rfl))]
  show gG (fj_run d) 46 0 [(0, (4, x0))] [] h = _
  exact
    have D : fk_D 46 [(0, none, .aload_n 0, 1, 0, 0, 0), (1, none, .getfield 3, 3, 356, 118, 12), (4, none, .getfield 138, 3, 270, 100, 12), (7, none, .aload_n 0, 1, 0, 0, 0), (8, none, .invokevirtual 142, 3, 0, 227, 5), (11, none, .invokevirtual 146, 3, 1, 138, 0), (14, none, .aload_n 0, 1, 0, 0, 0), (15, none, .getfield 3, 3, 356, 118, 12), (18, none, .getfield 138, 3, 270, 100, 12), (21, none, .bipush 40, 2, 0, 40, 0), (23, none, .invokevirtual 151, 3, 1, 139, 0), (26, none, .aload_n 0, 1, 0, 0, 0), (27, none, .getfield 23, 3, 354, 118, 12), (30, none, .invokevirtual 154, 3, 0, 145, 0), (33, none, .aload_n 0, 1, 0, 0, 0), (34, none, .getfield 3, 3, 356, 118, 12), (37, none, .getfield 138, 3, 270, 100, 12), (40, none, .ldc 157, 2, 4, 129, 0), (42, none, .invokevirtual 146, 3, 1, 138, 0), (45, none, .aload_n 0, 1, 0, 0, 0)] := fq_of2 cd_46 ow_46 cl_46 rfl (pc := 0) (by decide +kernel)
    j_aldn (pc := 0) D rfl rfl rfl fun D =>
    j_gfc (pc := 1) (a := x0.toNat) D rfl rfl (nz_cls H.2.1 hk (by decide)) rfl hk rfl ht356 fun D =>
    j_gf (pc := 4) (a := 303) D rfl rfl (by decide) rfl (s0_303 H) rfl fun D =>
    j_aldn (pc := 7) D rfl rfl rfl fun D =>
    j_iv (pc := 8) (m := 47) (dd := 227) (a := []) (rest := [(4, h 270 303 0)]) D rfl rfl rfl rfl rfl (nz_cls H.2.1 hk (by decide)) hk (by decide +kernel) (fun v2 h1 e1 D =>
      have T := fj_run_ok _ _ _ _ _ _ H.1 e1
      have ht356 := fin_st H.1 T.2 hk (by decide) (by decide +kernel) ht356 (by decide)
      have hk := cls_st H.1 T.2 hk (by decide)
      have H := shp_st H T
      j_ivuv (pc := 11) (dd := 138) (a := [(4, v2)]) (rest := []) H.2.1 D rfl rfl rfl rfl rfl (fun m7 h4 e1 D =>
        have T := fj_run_ok _ _ _ _ _ _ H.1 e1
        have ht356 := fin_st H.1 T.2 hk (by decide) (by decide +kernel) ht356 (by decide)
        have hk := cls_st H.1 T.2 hk (by decide)
        have H := shp_st H T
        j_aldn (pc := 14) D rfl rfl rfl fun D =>
        j_gfc (pc := 15) (a := x0.toNat) D rfl rfl (nz_cls H.2.1 hk (by decide)) rfl hk rfl ht356 fun D =>
        j_gf (pc := 18) (a := 303) D rfl rfl (by decide) rfl (s0_303 H) rfl fun D =>
        j_bp (pc := 21) D rfl fun D =>
        j_ivuv (pc := 23) (dd := 139) (a := [(0, 40)]) (rest := []) H.2.1 D rfl rfl rfl rfl rfl (fun m11 h8 e1 D =>
          have T := fj_run_ok _ _ _ _ _ _ H.1 e1
          have ht356 := fin_st H.1 T.2 hk (by decide) (by decide +kernel) ht356 (by decide)
          have hk := cls_st H.1 T.2 hk (by decide)
          have H := shp_st H T
          j_aldn (pc := 26) D rfl rfl rfl fun D =>
          j_gf (pc := 27) (a := x0.toNat) D rfl rfl (nz_cls H.2.1 hk (by decide)) rfl hk rfl fun D =>
          j_ivuv (pc := 30) (dd := 145) (a := []) (rest := []) H.2.1 D rfl rfl rfl rfl rfl (fun m15 h12 e1 D =>
            have T := fj_run_ok _ _ _ _ _ _ H.1 e1
            have ht356 := fin_st H.1 T.2 hk (by decide) (by decide +kernel) ht356 (by decide)
            have hk := cls_st H.1 T.2 hk (by decide)
            have H := shp_st H T
            j_aldn (pc := 33) D rfl rfl rfl fun D =>
            j_gfc (pc := 34) (a := x0.toNat) D rfl rfl (nz_cls H.2.1 hk (by decide)) rfl hk rfl ht356 fun D =>
            j_gf (pc := 37) (a := 303) D rfl rfl (by decide) rfl (s0_303 H) rfl fun D =>
            j_ldc (pc := 40) D rfl fun D =>
            j_ivuv (pc := 42) (dd := 138) (a := [(4, 129)]) (rest := []) H.2.1 D rfl rfl rfl rfl rfl (fun m19 h16 e1 D =>
              have T := fj_run_ok _ _ _ _ _ _ H.1 e1
              have ht356 := fin_st H.1 T.2 hk (by decide) (by decide +kernel) ht356 (by decide)
              have hk := cls_st H.1 T.2 hk (by decide)
              have H := shp_st H T
              j_aldn (pc := 45) D rfl rfl rfl fun D =>
              have D : fk_D 46 [(46, none, .getfield 3, 3, 356, 118, 12), (49, none, .getfield 138, 3, 270, 100, 12), (52, none, .aload_n 0, 1, 0, 0, 0), (53, none, .getfield 27, 3, 355, 118, 10), (56, none, .iconst (-1), 1, 0, (-1), 0), (57, none, .if_icmp .ne 8, 3, 65, 0, 0), (60, none, .ldc 159, 2, 4, 159, 0), (62, none, .goto 18, 3, 80, 0, 0)] := fq_of2 cd_46 ow_46 cl_46 rfl (pc := 46) (by decide +kernel)
              j_gfc (pc := 46) (a := x0.toNat) D rfl rfl (nz_cls H.2.1 hk (by decide)) rfl hk rfl ht356 fun D =>
              j_gf (pc := 49) (a := 303) D rfl rfl (by decide) rfl (s0_303 H) rfl fun D =>
              j_aldn (pc := 52) D rfl rfl rfl fun D =>
              j_gf (pc := 53) (a := x0.toNat) D rfl rfl (nz_cls H.2.1 hk (by decide)) rfl hk rfl fun D =>
              j_ic (pc := 56) D rfl fun D =>
              j_ine (pc := 57) D rfl (fun q D =>
                j_ldc (pc := 60) D rfl fun D =>
                j_goto (pc := 62) D rfl <|
                fk_jump cut_46_80 rfl rfl) (fun q =>
                have D : fk_D 46 [(65, none, .aload_n 0, 1, 0, 0, 0), (66, none, .getfield 3, 3, 356, 118, 12), (69, none, .getfield 160, 3, 214, 100, 12), (72, none, .aload_n 0, 1, 0, 0, 0), (73, none, .getfield 27, 3, 355, 118, 10), (76, none, .aaload, 1, 0, 0, 0), (77, none, .getfield 164, 3, 321, (-124), 12)] := fq_of2 cd_46 ow_46 cl_46 rfl (pc := 65) (by decide +kernel)
                j_aldn (pc := 65) D rfl rfl rfl fun D =>
                j_gfc (pc := 66) (a := x0.toNat) D rfl rfl (nz_cls H.2.1 hk (by decide)) rfl hk rfl ht356 fun D =>
                j_gfc (pc := 69) (a := 303) D rfl rfl (by decide) rfl (s0_303 H) rfl (sf_214_303 H) fun D =>
                j_aldn (pc := 72) D rfl rfl rfl fun D =>
                j_gf (pc := 73) (a := x0.toNat) D rfl rfl (nz_cls H.2.1 hk (by decide)) rfl hk rfl fun D =>
                j_al (pc := 76) (a := 320) (e := 12) D rfl rfl rfl (by decide) (s0_320 H) (s1_320 H) ⟨rfl, rfl, rfl⟩ rfl gn fun qb20 D =>
                j_gfo (pc := 77) H.2.1 D rfl rfl rfl rfl fun kc21 D =>
                fk_jump cut_46_80 rfl rfl)) (fun m19 q18 h16 e1 =>
              j_tx (hx_46 _))) (fun m15 q14 h12 e1 =>
            j_tx (hx_46 _))) (fun m11 q10 h8 e1 =>
          j_tx (hx_46 _))) (fun m7 q6 h4 e1 =>
        j_tx (hx_46 _))) (fun q3 h1 e1 =>
      j_tx (hx_46 _))
/-! 47 StatuteHouse$SetPart.word()Ljava/lang/String; -/
theorem cd_47 : fi_code 47 = prog_56_method_4_code := rfl
theorem hx_47 : ∀ pc, fi_hat 47 pc = none := fun pc => by unfold fi_hat; rw [show fi_hh 47 = [] from rfl]; rfl
theorem rt_47 : fj_ft (fi_ret 47) = 5 := rfl
theorem nl_47 : fi_nl 47 = 1 := rfl
theorem ow_47 : fi_ow 47 = 18 := rfl
theorem cl_47 : fj_cutT.getD 47 [] = [] := rfl
theorem m_47 (d : Nat) (x0 : Int) {h : fi_H} (H : Shp h) (hk : h 0 x0.toNat 0 = 118) (ht356 : h 356 x0.toNat 0 = 303) : fj_run (d + 1) 47 h [(4, x0)] =
  dv_ (fi_vt 225 (h 0 (h 353 x0.toNat 0).toNat 0)) fun m4 => ca_ (fj_run d m4 h [(4, h 353 x0.toNat 0)]) 0
    (fun v2 h1 =>
    if v2 = 0 then
      some (.inl (some (4, 147)), h1)
    else if v2 = 1 then
      some (.inl (some (4, 149)), h1)
    else if v2 = 2 then
      some (.inl (some (4, 151)), h1)
    else if v2 = 3 then
      some (.inl (some (4, 153)), h1)
    else if v2 = 4 then
      some (.inl (some (4, 155)), h1)
    else 
      some (.inl (some (4, 157)), h1))
    (fun q3 h1 => tx_ q3 h1) := by
  rw [fj_run_eq d (by decide) h [(4, x0)] (Nat.le_of_ble_eq_true (by rw [nl_47]; rfl))]
  show gG (fj_run d) 47 0 [(0, (4, x0))] [] h = _
  exact
    have D : fk_D 47 [(0, none, .aload_n 0, 1, 0, 0, 0), (1, none, .getfield 19, 3, 353, 118, 12), (4, none, .invokevirtual 100, 3, 0, 225, 1), (7, none, .tableswitch 48 0 4 #[33, 36, 39, 42, 45], 33, 0, 0, 0)] := fq_of3 cd_47 ow_47 cl_47 rfl (pc := 0) (by decide +kernel)
    j_aldn (pc := 0) D rfl rfl rfl fun D =>
    j_gf (pc := 1) (a := x0.toNat) D rfl rfl (nz_cls H.2.1 hk (by decide)) rfl hk rfl fun D =>
    j_ivu (pc := 4) (dd := 225) (a := []) (rest := []) H.2.1 D rfl rfl rfl rfl rfl (fun m4 v2 h1 e1 D =>
      have T := fj_run_ok _ _ _ _ _ _ H.1 e1
      have ht356 := fin_st H.1 T.2 hk (by decide) (by decide +kernel) ht356 (by decide)
      have hk := cls_st H.1 T.2 hk (by decide)
      have H := shp_st H T
      have N : fk_ni (v2) [] := trivial
      j_tc (pc := 7) 0 (t := 40) D N rfl (by decide +kernel) (fun q =>
        have D : fk_D 47 [(40, none, .ldc 123, 2, 4, 147, 0), (42, none, .areturn, 1, 0, 0, 0)] := fq_of2 cd_47 ow_47 cl_47 rfl (pc := 40) (by decide +kernel)
        j_ldc (pc := 40) D rfl fun D =>
        j_aret D rt_47) (fun N =>
        j_tc 1 (t := 43) D N rfl (by decide +kernel) (fun q =>
          have D : fk_D 47 [(43, none, .ldc 125, 2, 4, 149, 0), (45, none, .areturn, 1, 0, 0, 0)] := fq_of2 cd_47 ow_47 cl_47 rfl (pc := 43) (by decide +kernel)
          j_ldc (pc := 43) D rfl fun D =>
          j_aret D rt_47) (fun N =>
          j_tc 2 (t := 46) D N rfl (by decide +kernel) (fun q =>
            have D : fk_D 47 [(46, none, .ldc 126, 2, 4, 151, 0), (48, none, .areturn, 1, 0, 0, 0)] := fq_of2 cd_47 ow_47 cl_47 rfl (pc := 46) (by decide +kernel)
            j_ldc (pc := 46) D rfl fun D =>
            j_aret D rt_47) (fun N =>
            j_tc 3 (t := 49) D N rfl (by decide +kernel) (fun q =>
              have D : fk_D 47 [(49, none, .ldc 128, 2, 4, 153, 0), (51, none, .areturn, 1, 0, 0, 0)] := fq_of2 cd_47 ow_47 cl_47 rfl (pc := 49) (by decide +kernel)
              j_ldc (pc := 49) D rfl fun D =>
              j_aret D rt_47) (fun N =>
              j_tc 4 (t := 52) D N rfl (by decide +kernel) (fun q =>
                have D : fk_D 47 [(52, none, .ldc 130, 2, 4, 155, 0), (54, none, .areturn, 1, 0, 0, 0)] := fq_of2 cd_47 ow_47 cl_47 rfl (pc := 52) (by decide +kernel)
                j_ldc (pc := 52) D rfl fun D =>
                j_aret D rt_47) (fun N =>
                j_td (t := 55) D N rfl (by decide +kernel) (by decide +kernel) <|
                have D : fk_D 47 [(55, none, .ldc 132, 2, 4, 157, 0), (57, none, .areturn, 1, 0, 0, 0)] := fq_of2 cd_47 ow_47 cl_47 rfl (pc := 55) (by decide +kernel)
                j_ldc (pc := 55) D rfl fun D =>
                j_aret D rt_47)))))) (fun m4 q3 h1 e1 =>
      j_tx (hx_47 _))
/-! 48 StatuteHouse$TablePart.write()V -/
theorem cd_48 : fi_code 48 = prog_61_method_8_code := rfl
theorem hx_48 : ∀ pc, fi_hat 48 pc = none := fun pc => by unfold fi_hat; rw [show fi_hh 48 = [] from rfl]; rfl
theorem rt_48 : fi_ret 48 = none := rfl
theorem nl_48 : fi_nl 48 = 1 := rfl
theorem ow_48 : fi_ow 48 = 22 := rfl
theorem cl_48 : fj_cutT.getD 48 [] = [(82, [])] := rfl
theorem cut_48_82 : fj_cut 48 82 = some [] := by decide +kernel
noncomputable def c_48_82 (d : Nat) (h : fi_H) : fk_R := gG (fj_run d) 48 82 [] [] h
theorem e_48_82 (d : Nat) {h : fi_H} (H : Shp h) : c_48_82 d h =
  some (.inl none, h) := by
  unfold c_48_82
  exact
    have D : fk_D 48 [(82, some [], .return_, 1, 0, 0, 0)] := fq_of2 cd_48 ow_48 cl_48 rfl (pc := 82) (by decide +kernel)
    j_vret D rt_48
theorem m_48 (d : Nat) (x0 : Int) {h : fi_H} (H : Shp h) (hk : h 0 x0.toNat 0 = 122) (ht360 : h 360 x0.toNat 0 = 303) : fj_run (d + 1) 48 h [(4, x0)] =
  dv_ (fi_vt 138 (h 0 (h 270 303 0).toNat 0)) fun m4 => cv_ (fj_run d m4 h [(4, h 270 303 0), (4, h 357 x0.toNat 0)])
    (fun h1 =>
    dv_ (fi_vt 139 (h1 0 (h1 270 303 0).toNat 0)) fun m8 => cv_ (fj_run d m8 h1 [(4, h1 270 303 0), (0, 40)])
      (fun h5 =>
      if 0 ≤ h5 358 x0.toNat 0 ∧ h5 358 x0.toNat 0 < 40 then
      if h5 0 (h5 12 320 (h5 358 x0.toNat 0).toNat).toNat 0 = 124 then
      dv_ (fi_vt 138 (h5 0 (h5 270 303 0).toNat 0)) fun m14 => cv_ (fj_run d m14 h5 [(4, h5 270 303 0), (4, h5 321 (h5 12 320 (h5 358 x0.toNat 0).toNat).toNat 0)])
        (fun h11 =>
        dv_ (fi_vt 138 (h11 0 (h11 270 303 0).toNat 0)) fun m18 => cv_ (fj_run d m18 h11 [(4, h11 270 303 0), (4, 129)])
          (fun h15 =>
          dv_ (fi_vt 145 (h15 0 (h15 359 x0.toNat 0).toNat 0)) fun m22 => cv_ (fj_run d m22 h15 [(4, h15 359 x0.toNat 0)])
            (fun h19 =>
            dv_ (fi_vt 139 (h19 0 (h19 270 303 0).toNat 0)) fun m26 => cv_ (fj_run d m26 h19 [(4, h19 270 303 0), (0, 41)])
              (fun h23 =>
              c_48_82 d h23)
              (fun q25 h23 => tx_ q25 h23))
            (fun q21 h19 => tx_ q21 h19))
          (fun q17 h15 => tx_ q17 h15))
        (fun q13 h11 => tx_ q13 h11)
      else none
      else none)
      (fun q7 h5 => tx_ q7 h5))
    (fun q3 h1 => tx_ q3 h1) := by
  rw [fj_run_eq d (by decide) h [(4, x0)] (Nat.le_of_ble_eq_true (by rw [nl_48]; rfl))]
  show gG (fj_run d) 48 0 [(0, (4, x0))] [] h = _
  exact
    have D : fk_D 48 [(0, none, .aload_n 0, 1, 0, 0, 0), (1, none, .getfield 3, 3, 360, 122, 12), (4, none, .getfield 123, 3, 270, 100, 12), (7, none, .aload_n 0, 1, 0, 0, 0), (8, none, .getfield 19, 3, 357, 122, 12), (11, none, .invokevirtual 127, 3, 1, 138, 0), (14, none, .aload_n 0, 1, 0, 0, 0), (15, none, .getfield 3, 3, 360, 122, 12), (18, none, .getfield 123, 3, 270, 100, 12), (21, none, .bipush 40, 2, 0, 40, 0), (23, none, .invokevirtual 132, 3, 1, 139, 0), (26, none, .aload_n 0, 1, 0, 0, 0), (27, none, .getfield 3, 3, 360, 122, 12), (30, none, .getfield 123, 3, 270, 100, 12), (33, none, .aload_n 0, 1, 0, 0, 0), (34, none, .getfield 3, 3, 360, 122, 12), (37, none, .getfield 135, 3, 214, 100, 12), (40, none, .aload_n 0, 1, 0, 0, 0), (41, none, .getfield 23, 3, 358, 122, 10), (44, none, .aaload, 1, 0, 0, 0)] := fq_of2 cd_48 ow_48 cl_48 rfl (pc := 0) (by decide +kernel)
    j_aldn (pc := 0) D rfl rfl rfl fun D =>
    j_gfc (pc := 1) (a := x0.toNat) D rfl rfl (nz_cls H.2.1 hk (by decide)) rfl hk rfl ht360 fun D =>
    j_gf (pc := 4) (a := 303) D rfl rfl (by decide) rfl (s0_303 H) rfl fun D =>
    j_aldn (pc := 7) D rfl rfl rfl fun D =>
    j_gf (pc := 8) (a := x0.toNat) D rfl rfl (nz_cls H.2.1 hk (by decide)) rfl hk rfl fun D =>
    j_ivuv (pc := 11) (dd := 138) (a := [(4, h 357 x0.toNat 0)]) (rest := []) H.2.1 D rfl rfl rfl rfl rfl (fun m4 h1 e1 D =>
      have T := fj_run_ok _ _ _ _ _ _ H.1 e1
      have ht360 := fin_st H.1 T.2 hk (by decide) (by decide +kernel) ht360 (by decide)
      have hk := cls_st H.1 T.2 hk (by decide)
      have H := shp_st H T
      j_aldn (pc := 14) D rfl rfl rfl fun D =>
      j_gfc (pc := 15) (a := x0.toNat) D rfl rfl (nz_cls H.2.1 hk (by decide)) rfl hk rfl ht360 fun D =>
      j_gf (pc := 18) (a := 303) D rfl rfl (by decide) rfl (s0_303 H) rfl fun D =>
      j_bp (pc := 21) D rfl fun D =>
      j_ivuv (pc := 23) (dd := 139) (a := [(0, 40)]) (rest := []) H.2.1 D rfl rfl rfl rfl rfl (fun m8 h5 e1 D =>
        have T := fj_run_ok _ _ _ _ _ _ H.1 e1
        have ht360 := fin_st H.1 T.2 hk (by decide) (by decide +kernel) ht360 (by decide)
        have hk := cls_st H.1 T.2 hk (by decide)
        have H := shp_st H T
        j_aldn (pc := 26) D rfl rfl rfl fun D =>
        j_gfc (pc := 27) (a := x0.toNat) D rfl rfl (nz_cls H.2.1 hk (by decide)) rfl hk rfl ht360 fun D =>
        j_gf (pc := 30) (a := 303) D rfl rfl (by decide) rfl (s0_303 H) rfl fun D =>
        j_aldn (pc := 33) D rfl rfl rfl fun D =>
        j_gfc (pc := 34) (a := x0.toNat) D rfl rfl (nz_cls H.2.1 hk (by decide)) rfl hk rfl ht360 fun D =>
        j_gfc (pc := 37) (a := 303) D rfl rfl (by decide) rfl (s0_303 H) rfl (sf_214_303 H) fun D =>
        j_aldn (pc := 40) D rfl rfl rfl fun D =>
        j_gf (pc := 41) (a := x0.toNat) D rfl rfl (nz_cls H.2.1 hk (by decide)) rfl hk rfl fun D =>
        j_al (pc := 44) (a := 320) (e := 12) D rfl rfl rfl (by decide) (s0_320 H) (s1_320 H) ⟨rfl, rfl, rfl⟩ rfl gn fun qb9 D =>
        have D : fk_D 48 [(45, none, .getfield 139, 3, 321, (-124), 12), (48, none, .invokevirtual 127, 3, 1, 138, 0), (51, none, .aload_n 0, 1, 0, 0, 0), (52, none, .getfield 3, 3, 360, 122, 12), (55, none, .getfield 123, 3, 270, 100, 12), (58, none, .ldc 142, 2, 4, 129, 0), (60, none, .invokevirtual 127, 3, 1, 138, 0), (63, none, .aload_n 0, 1, 0, 0, 0), (64, none, .getfield 26, 3, 359, 122, 12), (67, none, .invokevirtual 144, 3, 0, 145, 0), (70, none, .aload_n 0, 1, 0, 0, 0), (71, none, .getfield 3, 3, 360, 122, 12), (74, none, .getfield 123, 3, 270, 100, 12), (77, none, .bipush 41, 2, 0, 41, 0), (79, none, .invokevirtual 132, 3, 1, 139, 0)] := fq_of2 cd_48 ow_48 cl_48 rfl (pc := 45) (by decide +kernel)
        j_gfo (pc := 45) H.2.1 D rfl rfl rfl rfl fun kc10 D =>
        j_ivuv (pc := 48) (dd := 138) (a := [(4, h5 321 (h5 12 320 (h5 358 x0.toNat 0).toNat).toNat 0)]) (rest := []) H.2.1 D rfl rfl rfl rfl rfl (fun m14 h11 e1 D =>
          have T := fj_run_ok _ _ _ _ _ _ H.1 e1
          have ht360 := fin_st H.1 T.2 hk (by decide) (by decide +kernel) ht360 (by decide)
          have hk := cls_st H.1 T.2 hk (by decide)
          have H := shp_st H T
          j_aldn (pc := 51) D rfl rfl rfl fun D =>
          j_gfc (pc := 52) (a := x0.toNat) D rfl rfl (nz_cls H.2.1 hk (by decide)) rfl hk rfl ht360 fun D =>
          j_gf (pc := 55) (a := 303) D rfl rfl (by decide) rfl (s0_303 H) rfl fun D =>
          j_ldc (pc := 58) D rfl fun D =>
          j_ivuv (pc := 60) (dd := 138) (a := [(4, 129)]) (rest := []) H.2.1 D rfl rfl rfl rfl rfl (fun m18 h15 e1 D =>
            have T := fj_run_ok _ _ _ _ _ _ H.1 e1
            have ht360 := fin_st H.1 T.2 hk (by decide) (by decide +kernel) ht360 (by decide)
            have hk := cls_st H.1 T.2 hk (by decide)
            have H := shp_st H T
            j_aldn (pc := 63) D rfl rfl rfl fun D =>
            j_gf (pc := 64) (a := x0.toNat) D rfl rfl (nz_cls H.2.1 hk (by decide)) rfl hk rfl fun D =>
            j_ivuv (pc := 67) (dd := 145) (a := []) (rest := []) H.2.1 D rfl rfl rfl rfl rfl (fun m22 h19 e1 D =>
              have T := fj_run_ok _ _ _ _ _ _ H.1 e1
              have ht360 := fin_st H.1 T.2 hk (by decide) (by decide +kernel) ht360 (by decide)
              have hk := cls_st H.1 T.2 hk (by decide)
              have H := shp_st H T
              j_aldn (pc := 70) D rfl rfl rfl fun D =>
              j_gfc (pc := 71) (a := x0.toNat) D rfl rfl (nz_cls H.2.1 hk (by decide)) rfl hk rfl ht360 fun D =>
              j_gf (pc := 74) (a := 303) D rfl rfl (by decide) rfl (s0_303 H) rfl fun D =>
              j_bp (pc := 77) D rfl fun D =>
              j_ivuv (pc := 79) (dd := 139) (a := [(0, 41)]) (rest := []) H.2.1 D rfl rfl rfl rfl rfl (fun m26 h23 e1 D =>
                have T := fj_run_ok _ _ _ _ _ _ H.1 e1
                have ht360 := fin_st H.1 T.2 hk (by decide) (by decide +kernel) ht360 (by decide)
                have hk := cls_st H.1 T.2 hk (by decide)
                have H := shp_st H T
                fk_jump cut_48_82 rfl rfl) (fun m26 q25 h23 e1 =>
                j_tx (hx_48 _))) (fun m22 q21 h19 e1 =>
              j_tx (hx_48 _))) (fun m18 q17 h15 e1 =>
            j_tx (hx_48 _))) (fun m14 q13 h11 e1 =>
          j_tx (hx_48 _))) (fun m8 q7 h5 e1 =>
        j_tx (hx_48 _))) (fun m4 q3 h1 e1 =>
      j_tx (hx_48 _))
/-! 49 StatuteHouse$Two.write()V -/
theorem cd_49 : fi_code 49 = prog_64_method_6_code := rfl
theorem hx_49 : ∀ pc, fi_hat 49 pc = none := fun pc => by unfold fi_hat; rw [show fi_hh 49 = [] from rfl]; rfl
theorem rt_49 : fi_ret 49 = none := rfl
theorem nl_49 : fi_nl 49 = 1 := rfl
theorem ow_49 : fi_ow 49 = 25 := rfl
theorem cl_49 : fj_cutT.getD 49 [] = [(79, [])] := rfl
theorem cut_49_79 : fj_cut 49 79 = some [] := by decide +kernel
noncomputable def c_49_79 (d : Nat) (h : fi_H) : fk_R := gG (fj_run d) 49 79 [] [] h
theorem e_49_79 (d : Nat) {h : fi_H} (H : Shp h) : c_49_79 d h =
  some (.inl none, h) := by
  unfold c_49_79
  exact
    have D : fk_D 49 [(79, some [], .return_, 1, 0, 0, 0)] := fq_of2 cd_49 ow_49 cl_49 rfl (pc := 79) (by decide +kernel)
    j_vret D rt_49
theorem m_49 (d : Nat) (x0 : Int) {h : fi_H} (H : Shp h) (hk : h 0 x0.toNat 0 = 125) (ht369 : h 369 x0.toNat 0 = 303) : fj_run (d + 1) 49 h [(4, x0)] =
  dv_ (fi_vt 139 (h 0 (h 270 303 0).toNat 0)) fun m4 => cv_ (fj_run d m4 h [(4, h 270 303 0), (0, 40)])
    (fun h1 =>
    dv_ (fi_vt 145 (h1 0 (h1 367 x0.toNat 0).toNat 0)) fun m8 => cv_ (fj_run d m8 h1 [(4, h1 367 x0.toNat 0)])
      (fun h5 =>
      dv_ (fi_vt 139 (h5 0 (h5 270 303 0).toNat 0)) fun m12 => cv_ (fj_run d m12 h5 [(4, h5 270 303 0), (0, 32)])
        (fun h9 =>
        if h9 0 (h9 366 x0.toNat 0).toNat 0 = 167 then
        dv_ (fi_vt 138 (h9 0 (h9 270 303 0).toNat 0)) fun m17 => cv_ (fj_run d m17 h9 [(4, h9 270 303 0), (4, h9 573 (h9 366 x0.toNat 0).toNat 0)])
          (fun h14 =>
          dv_ (fi_vt 139 (h14 0 (h14 270 303 0).toNat 0)) fun m21 => cv_ (fj_run d m21 h14 [(4, h14 270 303 0), (0, 32)])
            (fun h18 =>
            dv_ (fi_vt 145 (h18 0 (h18 368 x0.toNat 0).toNat 0)) fun m25 => cv_ (fj_run d m25 h18 [(4, h18 368 x0.toNat 0)])
              (fun h22 =>
              dv_ (fi_vt 139 (h22 0 (h22 270 303 0).toNat 0)) fun m29 => cv_ (fj_run d m29 h22 [(4, h22 270 303 0), (0, 41)])
                (fun h26 =>
                c_49_79 d h26)
                (fun q28 h26 => tx_ q28 h26))
              (fun q24 h22 => tx_ q24 h22))
            (fun q20 h18 => tx_ q20 h18))
          (fun q16 h14 => tx_ q16 h14)
        else none)
        (fun q11 h9 => tx_ q11 h9))
      (fun q7 h5 => tx_ q7 h5))
    (fun q3 h1 => tx_ q3 h1) := by
  rw [fj_run_eq d (by decide) h [(4, x0)] (Nat.le_of_ble_eq_true (by rw [nl_49]; rfl))]
  show gG (fj_run d) 49 0 [(0, (4, x0))] [] h = _
  exact
    have D : fk_D 49 [(0, none, .aload_n 0, 1, 0, 0, 0), (1, none, .getfield 1, 3, 369, 125, 12), (4, none, .getfield 122, 3, 270, 100, 12), (7, none, .bipush 40, 2, 0, 40, 0), (9, none, .invokevirtual 126, 3, 1, 139, 0), (12, none, .aload_n 0, 1, 0, 0, 0), (13, none, .getfield 37, 3, 367, 125, 12), (16, none, .invokevirtual 130, 3, 0, 145, 0), (19, none, .aload_n 0, 1, 0, 0, 0), (20, none, .getfield 1, 3, 369, 125, 12), (23, none, .getfield 122, 3, 270, 100, 12), (26, none, .bipush 32, 2, 0, 32, 0), (28, none, .invokevirtual 126, 3, 1, 139, 0), (31, none, .aload_n 0, 1, 0, 0, 0), (32, none, .getfield 1, 3, 369, 125, 12), (35, none, .getfield 122, 3, 270, 100, 12), (38, none, .aload_n 0, 1, 0, 0, 0), (39, none, .getfield 33, 3, 366, 125, 12), (42, none, .getfield 133, 3, 573, (-167), 12), (45, none, .invokevirtual 137, 3, 1, 138, 0)] := fq_of2 cd_49 ow_49 cl_49 rfl (pc := 0) (by decide +kernel)
    j_aldn (pc := 0) D rfl rfl rfl fun D =>
    j_gfc (pc := 1) (a := x0.toNat) D rfl rfl (nz_cls H.2.1 hk (by decide)) rfl hk rfl ht369 fun D =>
    j_gf (pc := 4) (a := 303) D rfl rfl (by decide) rfl (s0_303 H) rfl fun D =>
    j_bp (pc := 7) D rfl fun D =>
    j_ivuv (pc := 9) (dd := 139) (a := [(0, 40)]) (rest := []) H.2.1 D rfl rfl rfl rfl rfl (fun m4 h1 e1 D =>
      have T := fj_run_ok _ _ _ _ _ _ H.1 e1
      have ht369 := fin_st H.1 T.2 hk (by decide) (by decide +kernel) ht369 (by decide)
      have hk := cls_st H.1 T.2 hk (by decide)
      have H := shp_st H T
      j_aldn (pc := 12) D rfl rfl rfl fun D =>
      j_gf (pc := 13) (a := x0.toNat) D rfl rfl (nz_cls H.2.1 hk (by decide)) rfl hk rfl fun D =>
      j_ivuv (pc := 16) (dd := 145) (a := []) (rest := []) H.2.1 D rfl rfl rfl rfl rfl (fun m8 h5 e1 D =>
        have T := fj_run_ok _ _ _ _ _ _ H.1 e1
        have ht369 := fin_st H.1 T.2 hk (by decide) (by decide +kernel) ht369 (by decide)
        have hk := cls_st H.1 T.2 hk (by decide)
        have H := shp_st H T
        j_aldn (pc := 19) D rfl rfl rfl fun D =>
        j_gfc (pc := 20) (a := x0.toNat) D rfl rfl (nz_cls H.2.1 hk (by decide)) rfl hk rfl ht369 fun D =>
        j_gf (pc := 23) (a := 303) D rfl rfl (by decide) rfl (s0_303 H) rfl fun D =>
        j_bp (pc := 26) D rfl fun D =>
        j_ivuv (pc := 28) (dd := 139) (a := [(0, 32)]) (rest := []) H.2.1 D rfl rfl rfl rfl rfl (fun m12 h9 e1 D =>
          have T := fj_run_ok _ _ _ _ _ _ H.1 e1
          have ht369 := fin_st H.1 T.2 hk (by decide) (by decide +kernel) ht369 (by decide)
          have hk := cls_st H.1 T.2 hk (by decide)
          have H := shp_st H T
          j_aldn (pc := 31) D rfl rfl rfl fun D =>
          j_gfc (pc := 32) (a := x0.toNat) D rfl rfl (nz_cls H.2.1 hk (by decide)) rfl hk rfl ht369 fun D =>
          j_gf (pc := 35) (a := 303) D rfl rfl (by decide) rfl (s0_303 H) rfl fun D =>
          j_aldn (pc := 38) D rfl rfl rfl fun D =>
          j_gf (pc := 39) (a := x0.toNat) D rfl rfl (nz_cls H.2.1 hk (by decide)) rfl hk rfl fun D =>
          j_gfo (pc := 42) H.2.1 D rfl rfl rfl rfl fun kc13 D =>
          j_ivuv (pc := 45) (dd := 138) (a := [(4, h9 573 (h9 366 x0.toNat 0).toNat 0)]) (rest := []) H.2.1 D rfl rfl rfl rfl rfl (fun m17 h14 e1 D =>
            have T := fj_run_ok _ _ _ _ _ _ H.1 e1
            have ht369 := fin_st H.1 T.2 hk (by decide) (by decide +kernel) ht369 (by decide)
            have hk := cls_st H.1 T.2 hk (by decide)
            have H := shp_st H T
            have D : fk_D 49 [(48, none, .aload_n 0, 1, 0, 0, 0), (49, none, .getfield 1, 3, 369, 125, 12), (52, none, .getfield 122, 3, 270, 100, 12), (55, none, .bipush 32, 2, 0, 32, 0), (57, none, .invokevirtual 126, 3, 1, 139, 0), (60, none, .aload_n 0, 1, 0, 0, 0), (61, none, .getfield 41, 3, 368, 125, 12), (64, none, .invokevirtual 130, 3, 0, 145, 0), (67, none, .aload_n 0, 1, 0, 0, 0), (68, none, .getfield 1, 3, 369, 125, 12), (71, none, .getfield 122, 3, 270, 100, 12), (74, none, .bipush 41, 2, 0, 41, 0), (76, none, .invokevirtual 126, 3, 1, 139, 0)] := fq_of2 cd_49 ow_49 cl_49 rfl (pc := 48) (by decide +kernel)
            j_aldn (pc := 48) D rfl rfl rfl fun D =>
            j_gfc (pc := 49) (a := x0.toNat) D rfl rfl (nz_cls H.2.1 hk (by decide)) rfl hk rfl ht369 fun D =>
            j_gf (pc := 52) (a := 303) D rfl rfl (by decide) rfl (s0_303 H) rfl fun D =>
            j_bp (pc := 55) D rfl fun D =>
            j_ivuv (pc := 57) (dd := 139) (a := [(0, 32)]) (rest := []) H.2.1 D rfl rfl rfl rfl rfl (fun m21 h18 e1 D =>
              have T := fj_run_ok _ _ _ _ _ _ H.1 e1
              have ht369 := fin_st H.1 T.2 hk (by decide) (by decide +kernel) ht369 (by decide)
              have hk := cls_st H.1 T.2 hk (by decide)
              have H := shp_st H T
              j_aldn (pc := 60) D rfl rfl rfl fun D =>
              j_gf (pc := 61) (a := x0.toNat) D rfl rfl (nz_cls H.2.1 hk (by decide)) rfl hk rfl fun D =>
              j_ivuv (pc := 64) (dd := 145) (a := []) (rest := []) H.2.1 D rfl rfl rfl rfl rfl (fun m25 h22 e1 D =>
                have T := fj_run_ok _ _ _ _ _ _ H.1 e1
                have ht369 := fin_st H.1 T.2 hk (by decide) (by decide +kernel) ht369 (by decide)
                have hk := cls_st H.1 T.2 hk (by decide)
                have H := shp_st H T
                j_aldn (pc := 67) D rfl rfl rfl fun D =>
                j_gfc (pc := 68) (a := x0.toNat) D rfl rfl (nz_cls H.2.1 hk (by decide)) rfl hk rfl ht369 fun D =>
                j_gf (pc := 71) (a := 303) D rfl rfl (by decide) rfl (s0_303 H) rfl fun D =>
                j_bp (pc := 74) D rfl fun D =>
                j_ivuv (pc := 76) (dd := 139) (a := [(0, 41)]) (rest := []) H.2.1 D rfl rfl rfl rfl rfl (fun m29 h26 e1 D =>
                  have T := fj_run_ok _ _ _ _ _ _ H.1 e1
                  have ht369 := fin_st H.1 T.2 hk (by decide) (by decide +kernel) ht369 (by decide)
                  have hk := cls_st H.1 T.2 hk (by decide)
                  have H := shp_st H T
                  fk_jump cut_49_79 rfl rfl) (fun m29 q28 h26 e1 =>
                  j_tx (hx_49 _))) (fun m25 q24 h22 e1 =>
                j_tx (hx_49 _))) (fun m21 q20 h18 e1 =>
              j_tx (hx_49 _))) (fun m17 q16 h14 e1 =>
            j_tx (hx_49 _))) (fun m12 q11 h9 e1 =>
          j_tx (hx_49 _))) (fun m8 q7 h5 e1 =>
        j_tx (hx_49 _))) (fun m4 q3 h1 e1 =>
      j_tx (hx_49 _))
/-! 50 StatuteHouse.shows()I -/
theorem cd_50 : fi_code 50 = prog_1_method_87_code := rfl
theorem hx_50 : ∀ pc, fi_hat 50 pc = none := fun pc => by unfold fi_hat; rw [show fi_hh 50 = [] from rfl]; rfl
theorem rt_50 : fi_ret 50 = some .int := rfl
theorem nl_50 : fi_nl 50 = 2 := rfl
theorem ow_50 : fi_ow 50 = 0 := rfl
theorem cl_50 : fj_cutT.getD 50 [] = [] := rfl
theorem m_50 (d : Nat) {h : fi_H} (H : Shp h) : fj_run (d + 1) 50 h [(4, 303)] =
  if h 0 (h 270 303 0).toNat 0 = 113 then
  if h 186 (h 270 303 0).toNat 0 = 0 then
    lt_ (fi_upd h 271 303 0 (h 270 303 0)) fun h2 =>
    lt_ (fi_upd h2 270 303 0 (h 271 303 0)) fun h3 =>
    if h3 0 (h3 271 303 0).toNat 0 = 113 then
    some (.inl (some (0, h3 185 (h3 271 303 0).toNat 0)), h3)
    else none
  else
    some (.inl (some (0, (-4))), h)
  else none := by
  rw [fj_run_eq d (by decide) h [(4, 303)] (Nat.le_of_ble_eq_true (by rw [nl_50]; rfl))]
  show gG (fj_run d) 50 0 [(0, (4, 303))] [] h = _
  exact
    have D : fk_D 50 [(0, none, .aload_n 0, 1, 0, 0, 0), (1, none, .getfield 457, 3, 270, 100, 12), (4, none, .getfield 563, 3, 186, (-113), 4), (7, none, .ifCond .eq 6, 3, 13, 0, 0), (10, none, .bipush (-4), 2, 0, (-4), 0), (12, none, .ireturn, 1, 0, 0, 0)] := fq_of2 cd_50 ow_50 cl_50 rfl (pc := 0) (by decide +kernel)
    j_aldn (pc := 0) D rfl rfl rfl fun D =>
    j_gf (pc := 1) (a := 303) D rfl rfl (by decide) rfl (s0_303 H) rfl fun D =>
    j_gfo (pc := 4) H.2.1 D rfl rfl rfl rfl fun kc1 D =>
    j_ifeq (pc := 7) D rfl (fun q =>
      have D : fk_D 50 [(13, none, .aload_n 0, 1, 0, 0, 0), (14, none, .getfield 569, 3, 271, 100, 12), (17, none, .astore_n 1, 1, 0, 0, 0), (18, none, .aload_n 0, 1, 0, 0, 0), (19, none, .aload_n 0, 1, 0, 0, 0), (20, none, .getfield 457, 3, 270, 100, 12), (23, none, .putfield 569, 3, 271, 100, 12), (26, none, .aload_n 0, 1, 0, 0, 0), (27, none, .aload_n 1, 1, 0, 0, 0), (28, none, .putfield 457, 3, 270, 100, 12), (31, none, .aload_n 0, 1, 0, 0, 0), (32, none, .getfield 569, 3, 271, 100, 12), (35, none, .getfield 572, 3, 185, (-113), 10), (38, none, .ireturn, 1, 0, 0, 0)] := fq_of2 cd_50 ow_50 cl_50 rfl (pc := 13) (by decide +kernel)
      j_aldn (pc := 13) D rfl rfl rfl fun D =>
      j_gf (pc := 14) (a := 303) D rfl rfl (by decide) rfl (s0_303 H) rfl fun D =>
      j_astn (pc := 17) (L' := [(1, (4, h 271 303 0)), (0, (4, 303))]) D rfl nl_50 rfl rfl fun D =>
      j_aldn (pc := 18) D rfl rfl rfl fun D =>
      j_aldn (pc := 19) D rfl rfl rfl fun D =>
      j_gf (pc := 20) (a := 303) D rfl rfl (by decide) rfl (s0_303 H) rfl fun D =>
      j_pf (pc := 23) (a := 303) D rfl rfl rfl (s0_303 H) rfl rfl (gy (by decide)) (gy rfl) fun h2 eh2 S D =>
      have T := fj_hs_ok H.1 S
      have H := shp_st H T
      j_aldn (pc := 26) D rfl rfl rfl fun D =>
      j_aldn (pc := 27) D rfl rfl rfl fun D =>
      j_pf (pc := 28) (a := 303) D rfl rfl rfl (s0_303 H) rfl rfl (gy (by decide)) (gy rfl) fun h3 eh3 S D =>
      have T := fj_hs_ok H.1 S
      have H := shp_st H T
      j_aldn (pc := 31) D rfl rfl rfl fun D =>
      j_gf (pc := 32) (a := 303) D rfl rfl (by decide) rfl (s0_303 H) rfl fun D =>
      j_gfo (pc := 35) H.2.1 D rfl rfl rfl rfl fun kc4 D =>
      j_iret D rt_50) (fun q D =>
      j_bp (pc := 10) D rfl fun D =>
      j_iret D rt_50)
/-! 51 StatuteHouse.out(I)I -/
theorem cd_51 : fi_code 51 = prog_1_method_46_code := rfl
theorem hx_51 : ∀ pc, fi_hat 51 pc = none := fun pc => by unfold fi_hat; rw [show fi_hh 51 = [] from rfl]; rfl
theorem rt_51 : fi_ret 51 = some .int := rfl
theorem nl_51 : fi_nl 51 = 2 := rfl
theorem ow_51 : fi_ow 51 = 0 := rfl
theorem cl_51 : fj_cutT.getD 51 [] = [] := rfl
theorem m_51 (d : Nat) (x1 : Int) {h : fi_H} (H : Shp h) : fj_run (d + 1) 51 h [(4, 303), (0, x1)] =
  if x1 < 0 then
    some (.inl (some (0, (-1))), h)
  else
    if h 0 (h 271 303 0).toNat 0 = 113 then
    if x1 < h 185 (h 271 303 0).toNat 0 then
      if fi_et 1 (h 0 (h 183 (h 271 303 0).toNat 0).toNat 0) ≠ 0 ∧ 0 ≤ x1 ∧ x1 < h 1 (h 183 (h 271 303 0).toNat 0).toNat 0 then
      some (.inl (some (0, h (fi_et 1 (h 0 (h 183 (h 271 303 0).toNat 0).toNat 0)) (h 183 (h 271 303 0).toNat 0).toNat x1.toNat)), h)
      else none
    else
      some (.inl (some (0, (-1))), h)
    else none := by
  rw [fj_run_eq d (by decide) h [(4, 303), (0, x1)] (Nat.le_of_ble_eq_true (by rw [nl_51]; rfl))]
  show gG (fj_run d) 51 0 [(0, (4, 303)), (1, (0, x1))] [] h = _
  exact
    have D : fk_D 51 [(0, none, .iload_n 1, 1, 0, 0, 0), (1, none, .ifCond .lt 26, 3, 27, 0, 0), (4, none, .iload_n 1, 1, 0, 0, 0), (5, none, .aload_n 0, 1, 0, 0, 0), (6, none, .getfield 569, 3, 271, 100, 12), (9, none, .getfield 572, 3, 185, (-113), 10), (12, none, .if_icmp .ge 15, 3, 27, 0, 0), (15, none, .aload_n 0, 1, 0, 0, 0), (16, none, .getfield 569, 3, 271, 100, 12), (19, none, .getfield 575, 3, 183, 113, 12), (22, none, .iload_n 1, 1, 0, 0, 0), (23, none, .baload, 1, 0, 0, 0), (24, none, .goto 4, 3, 28, 0, 0)] := fq_of2 cd_51 ow_51 cl_51 rfl (pc := 0) (by decide +kernel)
    j_ildn (pc := 0) D rfl rfl rfl fun D =>
    j_iflt (pc := 1) D rfl (fun q =>
      have D : fk_D 51 [(27, none, .iconst (-1), 1, 0, (-1), 0), (28, none, .ireturn, 1, 0, 0, 0)] := fq_of2 cd_51 ow_51 cl_51 rfl (pc := 27) (by decide +kernel)
      j_ic (pc := 27) D rfl fun D =>
      j_iret D rt_51) (fun q D =>
      j_ildn (pc := 4) D rfl rfl rfl fun D =>
      j_aldn (pc := 5) D rfl rfl rfl fun D =>
      j_gf (pc := 6) (a := 303) D rfl rfl (by decide) rfl (s0_303 H) rfl fun D =>
      j_gfo (pc := 9) H.2.1 D rfl rfl rfl rfl fun kc1 D =>
      j_ige (pc := 12) D rfl (fun q D =>
        j_aldn (pc := 15) D rfl rfl rfl fun D =>
        j_gf (pc := 16) (a := 303) D rfl rfl (by decide) rfl (s0_303 H) rfl fun D =>
        j_gf (pc := 19) (a := (h 271 303 0).toNat) D rfl rfl (nz_cls H.2.1 kc1 (by decide)) rfl kc1 rfl fun D =>
        j_ildn (pc := 22) D rfl rfl rfl fun D =>
        j_alb (pc := 23) H.2.1 D rfl rfl fun q q2 D =>
        j_goto (pc := 24) D rfl <|
        have D : fk_D 51 [(28, none, .ireturn, 1, 0, 0, 0)] := fq_of2 cd_51 ow_51 cl_51 rfl (pc := 28) (by decide +kernel)
        j_iret D rt_51) (fun q =>
        have D : fk_D 51 [(27, none, .iconst (-1), 1, 0, (-1), 0), (28, none, .ireturn, 1, 0, 0, 0)] := fq_of2 cd_51 ow_51 cl_51 rfl (pc := 27) (by decide +kernel)
        j_ic (pc := 27) D rfl fun D =>
        j_iret D rt_51))
/-! 52 StatuteHouse.differ(IIIIII)I -/
theorem cd_52 : fi_code 52 = prog_1_method_48_code := rfl
theorem hx_52 : ∀ pc, fi_hat 52 pc = none := fun pc => by unfold fi_hat; rw [show fi_hh 52 = [] from rfl]; rfl
theorem rt_52 : fi_ret 52 = some .int := rfl
theorem nl_52 : fi_nl 52 = 15 := rfl
theorem ow_52 : fi_ow 52 = 0 := rfl
theorem cl_52 : fj_cutT.getD 52 [] = [(107, [0, 7, 8, 9]), (110, [0, 7, 8, 9, 10]), (130, [0, 7, 8, 9, 10]), (175, [0, 7, 8, 9, 10]), (179, [0, 7, 8, 9, 10]), (180, [0, 7, 8, 9, 10]), (227, [0, 7, 8, 9, 10, 11]), (231, [0, 7, 8, 9, 10, 11]), (232, [0, 7, 8, 9, 10, 11]), (264, [0, 7, 8, 9, 10, 11, 12]), (351, [0, 7, 8, 9, 10, 11, 12, 13]), (379, [0, 7, 8, 9, 10, 11, 12]), (391, [0, 7, 8, 10, 11]), (406, [0, 7, 8, 9])] := rfl
theorem cut_52_107 : fj_cut 52 107 = some [0, 7, 8, 9] := by decide +kernel
noncomputable def c_52_107 (d : Nat) (x7 x8 x9 : Int) (h : fi_H) : fk_R := gG (fj_run d) 52 107 [(0, (4, 303)), (7, (4, x7)), (8, (4, x8)), (9, (0, x9))] [] h
theorem cut_52_110 : fj_cut 52 110 = some [0, 7, 8, 9, 10] := by decide +kernel
noncomputable def c_52_110 (d : Nat) (x7 x8 x9 x10 : Int) (h : fi_H) : fk_R := gG (fj_run d) 52 110 [(0, (4, 303)), (7, (4, x7)), (8, (4, x8)), (9, (0, x9)), (10, (0, x10))] [] h
theorem cut_52_130 : fj_cut 52 130 = some [0, 7, 8, 9, 10] := by decide +kernel
noncomputable def c_52_130 (d : Nat) (x7 x8 x9 x10 : Int) (h : fi_H) : fk_R := gG (fj_run d) 52 130 [(0, (4, 303)), (7, (4, x7)), (8, (4, x8)), (9, (0, x9)), (10, (0, x10))] [] h
theorem cut_52_175 : fj_cut 52 175 = some [0, 7, 8, 9, 10] := by decide +kernel
noncomputable def c_52_175 (d : Nat) (x7 x8 x9 x10 : Int) (h : fi_H) : fk_R := gG (fj_run d) 52 175 [(0, (4, 303)), (7, (4, x7)), (8, (4, x8)), (9, (0, x9)), (10, (0, x10))] [] h
theorem cut_52_179 : fj_cut 52 179 = some [0, 7, 8, 9, 10] := by decide +kernel
noncomputable def c_52_179 (d : Nat) (x7 x8 x9 x10 : Int) (h : fi_H) : fk_R := gG (fj_run d) 52 179 [(0, (4, 303)), (7, (4, x7)), (8, (4, x8)), (9, (0, x9)), (10, (0, x10))] [] h
theorem cut_52_180 : fj_cut 52 180 = some [0, 7, 8, 9, 10] := by decide +kernel
noncomputable def c_52_180 (d : Nat) (x7 x8 x9 x10 s0 : Int) (h : fi_H) : fk_R := gG (fj_run d) 52 180 [(0, (4, 303)), (7, (4, x7)), (8, (4, x8)), (9, (0, x9)), (10, (0, x10))] [(0, s0)] h
theorem cut_52_227 : fj_cut 52 227 = some [0, 7, 8, 9, 10, 11] := by decide +kernel
noncomputable def c_52_227 (d : Nat) (x7 x8 x9 x10 x11 : Int) (h : fi_H) : fk_R := gG (fj_run d) 52 227 [(0, (4, 303)), (7, (4, x7)), (8, (4, x8)), (9, (0, x9)), (10, (0, x10)), (11, (0, x11))] [] h
theorem cut_52_231 : fj_cut 52 231 = some [0, 7, 8, 9, 10, 11] := by decide +kernel
noncomputable def c_52_231 (d : Nat) (x7 x8 x9 x10 x11 : Int) (h : fi_H) : fk_R := gG (fj_run d) 52 231 [(0, (4, 303)), (7, (4, x7)), (8, (4, x8)), (9, (0, x9)), (10, (0, x10)), (11, (0, x11))] [] h
theorem cut_52_232 : fj_cut 52 232 = some [0, 7, 8, 9, 10, 11] := by decide +kernel
noncomputable def c_52_232 (d : Nat) (x7 x8 x9 x10 x11 s0 : Int) (h : fi_H) : fk_R := gG (fj_run d) 52 232 [(0, (4, 303)), (7, (4, x7)), (8, (4, x8)), (9, (0, x9)), (10, (0, x10)), (11, (0, x11))] [(0, s0)] h
theorem cut_52_264 : fj_cut 52 264 = some [0, 7, 8, 9, 10, 11, 12] := by decide +kernel
noncomputable def c_52_264 (d : Nat) (x7 x8 x9 x10 x11 x12 s0 : Int) (h : fi_H) : fk_R := gG (fj_run d) 52 264 [(0, (4, 303)), (7, (4, x7)), (8, (4, x8)), (9, (0, x9)), (10, (0, x10)), (11, (0, x11)), (12, (0, x12))] [(0, s0)] h
theorem cut_52_351 : fj_cut 52 351 = some [0, 7, 8, 9, 10, 11, 12, 13] := by decide +kernel
noncomputable def c_52_351 (d : Nat) (x7 x8 x9 x10 x11 x12 x13 s0 : Int) (h : fi_H) : fk_R := gG (fj_run d) 52 351 [(0, (4, 303)), (7, (4, x7)), (8, (4, x8)), (9, (0, x9)), (10, (0, x10)), (11, (0, x11)), (12, (0, x12)), (13, (0, x13))] [(0, s0)] h
theorem cut_52_379 : fj_cut 52 379 = some [0, 7, 8, 9, 10, 11, 12] := by decide +kernel
noncomputable def c_52_379 (d : Nat) (x7 x8 x9 x10 x11 x12 : Int) (h : fi_H) : fk_R := gG (fj_run d) 52 379 [(0, (4, 303)), (7, (4, x7)), (8, (4, x8)), (9, (0, x9)), (10, (0, x10)), (11, (0, x11)), (12, (0, x12))] [] h
theorem cut_52_391 : fj_cut 52 391 = some [0, 7, 8, 10, 11] := by decide +kernel
noncomputable def c_52_391 (d : Nat) (x7 x8 x10 x11 s0 s1 : Int) (h : fi_H) : fk_R := gG (fj_run d) 52 391 [(0, (4, 303)), (7, (4, x7)), (8, (4, x8)), (10, (0, x10)), (11, (0, x11))] [(0, s1), (0, s0)] h
theorem cut_52_406 : fj_cut 52 406 = some [0, 7, 8, 9] := by decide +kernel
noncomputable def c_52_406 (d : Nat) (x7 x8 x9 s0 s1 : Int) (h : fi_H) : fk_R := gG (fj_run d) 52 406 [(0, (4, 303)), (7, (4, x7)), (8, (4, x8)), (9, (0, x9))] [(0, s1), (0, s0)] h
theorem e_52_107 (d : Nat) (x7 x8 x9 : Int) {h : fi_H} (H : Shp h) : c_52_107 d x7 x8 x9 h =
  c_52_110 d x7 x8 x9 0 h := by
  unfold c_52_107
  exact
    have D : fk_D 52 [(107, some [0, 7, 8, 9], .iconst 0, 1, 0, 0, 0), (108, none, .istore 10, 2, 0, 0, 0)] := fq_of2 cd_52 ow_52 cl_52 rfl (pc := 107) (by decide +kernel)
    j_ic (pc := 107) D rfl fun D =>
    j_ist (pc := 108) (L' := [(10, (0, 0)), (0, (4, 303)), (7, (4, x7)), (8, (4, x8)), (9, (0, x9))]) D rfl nl_52 rfl rfl fun D =>
    fk_jump cut_52_110 rfl rfl
theorem e_52_110 (d : Nat) (x7 x8 x9 x10 : Int) {h : fi_H} (H : Shp h) : c_52_110 d x7 x8 x9 x10 h =
  if h 0 x7.toNat 0 = 120 then
  if x9 < h 198 x7.toNat 0 then
    c_52_130 d x7 x8 x9 x10 h
  else
    if h 0 x8.toNat 0 = 120 then
    if x10 < h 198 x8.toNat 0 then
      c_52_130 d x7 x8 x9 x10 h
    else
      some (.inl (some (0, h 273 303 0)), h)
    else none
  else none := by
  unfold c_52_110
  exact
    have D : fk_D 52 [(110, some [0, 7, 8, 9, 10], .iload 9, 2, 0, 0, 0), (112, none, .aload 7, 2, 0, 0, 0), (114, none, .getfield 584, 3, 198, (-120), 10), (117, none, .if_icmp .lt 13, 3, 130, 0, 0), (120, none, .iload 10, 2, 0, 0, 0), (122, none, .aload 8, 2, 0, 0, 0), (124, none, .getfield 584, 3, 198, (-120), 10), (127, none, .if_icmp .ge 285, 3, 412, 0, 0)] := fq_of2 cd_52 ow_52 cl_52 rfl (pc := 110) (by decide +kernel)
    j_ild (pc := 110) D rfl rfl rfl fun D =>
    j_ald (pc := 112) D rfl rfl rfl fun D =>
    j_gfo (pc := 114) H.2.1 D rfl rfl rfl rfl fun kc1 D =>
    j_ilt (pc := 117) D rfl (fun q =>
      fk_jump cut_52_130 rfl rfl) (fun q D =>
      j_ild (pc := 120) D rfl rfl rfl fun D =>
      j_ald (pc := 122) D rfl rfl rfl fun D =>
      j_gfo (pc := 124) H.2.1 D rfl rfl rfl rfl fun kc2 D =>
      j_ige (pc := 127) D rfl (fun q D =>
        fk_jump cut_52_130 rfl rfl) (fun q =>
        have D : fk_D 52 [(412, none, .aload_n 0, 1, 0, 0, 0), (413, none, .getfield 581, 3, 273, 100, 10), (416, none, .ireturn, 1, 0, 0, 0)] := fq_of2 cd_52 ow_52 cl_52 rfl (pc := 412) (by decide +kernel)
        j_aldn (pc := 412) D rfl rfl rfl fun D =>
        j_gf (pc := 413) (a := 303) D rfl rfl (by decide) rfl (s0_303 H) rfl fun D =>
        j_iret D rt_52))
theorem e_52_130 (d : Nat) (x7 x8 x9 x10 : Int) {h : fi_H} (H : Shp h) : c_52_130 d x7 x8 x9 x10 h =
  if h 0 x8.toNat 0 = 120 then
  if x10 = h 198 x8.toNat 0 then
    c_52_175 d x7 x8 x9 x10 h
  else
    if h 0 x7.toNat 0 = 120 then
    if x9 < h 198 x7.toNat 0 then
      if (20 ≤ h 0 (h 199 x7.toNat 0).toNat 0 ∧ h 0 (h 199 x7.toNat 0).toNat 0 < 30) ∧ 0 ≤ x9 ∧ x9 < h 1 (h 199 x7.toNat 0).toNat 0 then
      if h 0 (h 12 (h 199 x7.toNat 0).toNat x9.toNat).toNat 0 = 126 then
      if (20 ≤ h 0 (h 199 x8.toNat 0).toNat 0 ∧ h 0 (h 199 x8.toNat 0).toNat 0 < 30) ∧ 0 ≤ x10 ∧ x10 < h 1 (h 199 x8.toNat 0).toNat 0 then
      if h 0 (h 12 (h 199 x8.toNat 0).toNat x10.toNat).toNat 0 = 126 then
      if h 372 (h 12 (h 199 x7.toNat 0).toNat x9.toNat).toNat 0 < h 372 (h 12 (h 199 x8.toNat 0).toNat x10.toNat).toNat 0 then
        c_52_175 d x7 x8 x9 x10 h
      else
        c_52_179 d x7 x8 x9 x10 h
      else none
      else none
      else none
      else none
    else
      c_52_179 d x7 x8 x9 x10 h
    else none
  else none := by
  unfold c_52_130
  exact
    have D : fk_D 52 [(130, some [0, 7, 8, 9, 10], .iload 10, 2, 0, 0, 0), (132, none, .aload 8, 2, 0, 0, 0), (134, none, .getfield 584, 3, 198, (-120), 10), (137, none, .if_icmp .eq 38, 3, 175, 0, 0), (140, none, .iload 9, 2, 0, 0, 0), (142, none, .aload 7, 2, 0, 0, 0), (144, none, .getfield 584, 3, 198, (-120), 10), (147, none, .if_icmp .ge 32, 3, 179, 0, 0), (150, none, .aload 7, 2, 0, 0, 0), (152, none, .getfield 587, 3, 199, 120, 12), (155, none, .iload 9, 2, 0, 0, 0), (157, none, .aaload, 1, 0, 0, 0), (158, none, .getfield 554, 3, 372, (-126), 10), (161, none, .aload 8, 2, 0, 0, 0), (163, none, .getfield 587, 3, 199, 120, 12), (166, none, .iload 10, 2, 0, 0, 0), (168, none, .aaload, 1, 0, 0, 0), (169, none, .getfield 554, 3, 372, (-126), 10), (172, none, .if_icmp .ge 7, 3, 179, 0, 0)] := fq_of2 cd_52 ow_52 cl_52 rfl (pc := 130) (by decide +kernel)
    j_ild (pc := 130) D rfl rfl rfl fun D =>
    j_ald (pc := 132) D rfl rfl rfl fun D =>
    j_gfo (pc := 134) H.2.1 D rfl rfl rfl rfl fun kc1 D =>
    j_ieq (pc := 137) D rfl (fun q =>
      fk_jump cut_52_175 rfl rfl) (fun q D =>
      j_ild (pc := 140) D rfl rfl rfl fun D =>
      j_ald (pc := 142) D rfl rfl rfl fun D =>
      j_gfo (pc := 144) H.2.1 D rfl rfl rfl rfl fun kc2 D =>
      j_ige (pc := 147) D rfl (fun q D =>
        j_ald (pc := 150) D rfl rfl rfl fun D =>
        j_gf (pc := 152) (a := x7.toNat) D rfl rfl (nz_cls H.2.1 kc2 (by decide)) rfl kc2 rfl fun D =>
        j_ild (pc := 155) D rfl rfl rfl fun D =>
        j_alr (pc := 157) H.2.1 D rfl rfl fun q q2 D =>
        j_gfo (pc := 158) H.2.1 D rfl rfl rfl rfl fun kc3 D =>
        j_ald (pc := 161) D rfl rfl rfl fun D =>
        j_gf (pc := 163) (a := x8.toNat) D rfl rfl (nz_cls H.2.1 kc1 (by decide)) rfl kc1 rfl fun D =>
        j_ild (pc := 166) D rfl rfl rfl fun D =>
        j_alr (pc := 168) H.2.1 D rfl rfl fun q q2 D =>
        j_gfo (pc := 169) H.2.1 D rfl rfl rfl rfl fun kc4 D =>
        j_ige (pc := 172) D rfl (fun q D =>
          fk_jump cut_52_175 rfl rfl) (fun q =>
          fk_jump cut_52_179 rfl rfl)) (fun q =>
        fk_jump cut_52_179 rfl rfl))
theorem e_52_175 (d : Nat) (x7 x8 x9 x10 : Int) {h : fi_H} (H : Shp h) : c_52_175 d x7 x8 x9 x10 h =
  c_52_180 d x7 x8 x9 x10 1 h := by
  unfold c_52_175
  exact
    have D : fk_D 52 [(175, some [0, 7, 8, 9, 10], .iconst 1, 1, 0, 1, 0), (176, none, .goto 4, 3, 180, 0, 0)] := fq_of2 cd_52 ow_52 cl_52 rfl (pc := 175) (by decide +kernel)
    j_ic (pc := 175) D rfl fun D =>
    j_goto (pc := 176) D rfl <|
    fk_jump cut_52_180 rfl rfl
theorem e_52_179 (d : Nat) (x7 x8 x9 x10 : Int) {h : fi_H} (H : Shp h) : c_52_179 d x7 x8 x9 x10 h =
  c_52_180 d x7 x8 x9 x10 0 h := by
  unfold c_52_179
  exact
    have D : fk_D 52 [(179, some [0, 7, 8, 9, 10], .iconst 0, 1, 0, 0, 0)] := fq_of2 cd_52 ow_52 cl_52 rfl (pc := 179) (by decide +kernel)
    j_ic (pc := 179) D rfl fun D =>
    fk_jump cut_52_180 rfl rfl
theorem e_52_180 (d : Nat) (x7 x8 x9 x10 s0 : Int) {h : fi_H} (H : Shp h) : c_52_180 d x7 x8 x9 x10 s0 h =
  if h 0 x7.toNat 0 = 120 then
  if x9 = h 198 x7.toNat 0 then
    c_52_227 d x7 x8 x9 x10 s0 h
  else
    if h 0 x8.toNat 0 = 120 then
    if x10 < h 198 x8.toNat 0 then
      if (20 ≤ h 0 (h 199 x8.toNat 0).toNat 0 ∧ h 0 (h 199 x8.toNat 0).toNat 0 < 30) ∧ 0 ≤ x10 ∧ x10 < h 1 (h 199 x8.toNat 0).toNat 0 then
      if h 0 (h 12 (h 199 x8.toNat 0).toNat x10.toNat).toNat 0 = 126 then
      if (20 ≤ h 0 (h 199 x7.toNat 0).toNat 0 ∧ h 0 (h 199 x7.toNat 0).toNat 0 < 30) ∧ 0 ≤ x9 ∧ x9 < h 1 (h 199 x7.toNat 0).toNat 0 then
      if h 0 (h 12 (h 199 x7.toNat 0).toNat x9.toNat).toNat 0 = 126 then
      if h 372 (h 12 (h 199 x8.toNat 0).toNat x10.toNat).toNat 0 < h 372 (h 12 (h 199 x7.toNat 0).toNat x9.toNat).toNat 0 then
        c_52_227 d x7 x8 x9 x10 s0 h
      else
        c_52_231 d x7 x8 x9 x10 s0 h
      else none
      else none
      else none
      else none
    else
      c_52_231 d x7 x8 x9 x10 s0 h
    else none
  else none := by
  unfold c_52_180
  exact
    have D : fk_D 52 [(180, some [0, 7, 8, 9, 10], .istore 11, 2, 0, 0, 0), (182, none, .iload 9, 2, 0, 0, 0), (184, none, .aload 7, 2, 0, 0, 0), (186, none, .getfield 584, 3, 198, (-120), 10), (189, none, .if_icmp .eq 38, 3, 227, 0, 0), (192, none, .iload 10, 2, 0, 0, 0), (194, none, .aload 8, 2, 0, 0, 0), (196, none, .getfield 584, 3, 198, (-120), 10), (199, none, .if_icmp .ge 32, 3, 231, 0, 0), (202, none, .aload 8, 2, 0, 0, 0), (204, none, .getfield 587, 3, 199, 120, 12), (207, none, .iload 10, 2, 0, 0, 0), (209, none, .aaload, 1, 0, 0, 0), (210, none, .getfield 554, 3, 372, (-126), 10), (213, none, .aload 7, 2, 0, 0, 0), (215, none, .getfield 587, 3, 199, 120, 12), (218, none, .iload 9, 2, 0, 0, 0), (220, none, .aaload, 1, 0, 0, 0), (221, none, .getfield 554, 3, 372, (-126), 10), (224, none, .if_icmp .ge 7, 3, 231, 0, 0)] := fq_of2 cd_52 ow_52 cl_52 rfl (pc := 180) (by decide +kernel)
    j_ist (pc := 180) (L' := [(11, (0, s0)), (0, (4, 303)), (7, (4, x7)), (8, (4, x8)), (9, (0, x9)), (10, (0, x10))]) D rfl nl_52 rfl rfl fun D =>
    j_ild (pc := 182) D rfl rfl rfl fun D =>
    j_ald (pc := 184) D rfl rfl rfl fun D =>
    j_gfo (pc := 186) H.2.1 D rfl rfl rfl rfl fun kc1 D =>
    j_ieq (pc := 189) D rfl (fun q =>
      fk_jump cut_52_227 rfl rfl) (fun q D =>
      j_ild (pc := 192) D rfl rfl rfl fun D =>
      j_ald (pc := 194) D rfl rfl rfl fun D =>
      j_gfo (pc := 196) H.2.1 D rfl rfl rfl rfl fun kc2 D =>
      j_ige (pc := 199) D rfl (fun q D =>
        j_ald (pc := 202) D rfl rfl rfl fun D =>
        j_gf (pc := 204) (a := x8.toNat) D rfl rfl (nz_cls H.2.1 kc2 (by decide)) rfl kc2 rfl fun D =>
        j_ild (pc := 207) D rfl rfl rfl fun D =>
        j_alr (pc := 209) H.2.1 D rfl rfl fun q q2 D =>
        j_gfo (pc := 210) H.2.1 D rfl rfl rfl rfl fun kc3 D =>
        j_ald (pc := 213) D rfl rfl rfl fun D =>
        j_gf (pc := 215) (a := x7.toNat) D rfl rfl (nz_cls H.2.1 kc1 (by decide)) rfl kc1 rfl fun D =>
        j_ild (pc := 218) D rfl rfl rfl fun D =>
        j_alr (pc := 220) H.2.1 D rfl rfl fun q q2 D =>
        j_gfo (pc := 221) H.2.1 D rfl rfl rfl rfl fun kc4 D =>
        j_ige (pc := 224) D rfl (fun q D =>
          fk_jump cut_52_227 rfl rfl) (fun q =>
          fk_jump cut_52_231 rfl rfl)) (fun q =>
        fk_jump cut_52_231 rfl rfl))
theorem e_52_227 (d : Nat) (x7 x8 x9 x10 x11 : Int) {h : fi_H} (H : Shp h) : c_52_227 d x7 x8 x9 x10 x11 h =
  c_52_232 d x7 x8 x9 x10 x11 1 h := by
  unfold c_52_227
  exact
    have D : fk_D 52 [(227, some [0, 7, 8, 9, 10, 11], .iconst 1, 1, 0, 1, 0), (228, none, .goto 4, 3, 232, 0, 0)] := fq_of2 cd_52 ow_52 cl_52 rfl (pc := 227) (by decide +kernel)
    j_ic (pc := 227) D rfl fun D =>
    j_goto (pc := 228) D rfl <|
    fk_jump cut_52_232 rfl rfl
theorem e_52_231 (d : Nat) (x7 x8 x9 x10 x11 : Int) {h : fi_H} (H : Shp h) : c_52_231 d x7 x8 x9 x10 x11 h =
  c_52_232 d x7 x8 x9 x10 x11 0 h := by
  unfold c_52_231
  exact
    have D : fk_D 52 [(231, some [0, 7, 8, 9, 10, 11], .iconst 0, 1, 0, 0, 0)] := fq_of2 cd_52 ow_52 cl_52 rfl (pc := 231) (by decide +kernel)
    j_ic (pc := 231) D rfl fun D =>
    fk_jump cut_52_232 rfl rfl
theorem e_52_232 (d : Nat) (x7 x8 x9 x10 x11 s0 : Int) {h : fi_H} (H : Shp h) : c_52_232 d x7 x8 x9 x10 x11 s0 h =
  if s0 = 0 then
    if h 0 x7.toNat 0 = 120 then
    if (20 ≤ h 0 (h 199 x7.toNat 0).toNat 0 ∧ h 0 (h 199 x7.toNat 0).toNat 0 < 30) ∧ 0 ≤ x9 ∧ x9 < h 1 (h 199 x7.toNat 0).toNat 0 then
    if h 0 (h 12 (h 199 x7.toNat 0).toNat x9.toNat).toNat 0 = 126 then
    c_52_264 d x7 x8 x9 x10 x11 s0 (h 372 (h 12 (h 199 x7.toNat 0).toNat x9.toNat).toNat 0) h
    else none
    else none
    else none
  else
    if h 0 x8.toNat 0 = 120 then
    if (20 ≤ h 0 (h 199 x8.toNat 0).toNat 0 ∧ h 0 (h 199 x8.toNat 0).toNat 0 < 30) ∧ 0 ≤ x10 ∧ x10 < h 1 (h 199 x8.toNat 0).toNat 0 then
    if h 0 (h 12 (h 199 x8.toNat 0).toNat x10.toNat).toNat 0 = 126 then
    c_52_264 d x7 x8 x9 x10 x11 s0 (h 372 (h 12 (h 199 x8.toNat 0).toNat x10.toNat).toNat 0) h
    else none
    else none
    else none := by
  unfold c_52_232
  exact
    have D : fk_D 52 [(232, some [0, 7, 8, 9, 10, 11], .istore 12, 2, 0, 0, 0), (234, none, .iload 12, 2, 0, 0, 0), (236, none, .ifCond .eq 17, 3, 253, 0, 0), (239, none, .aload 8, 2, 0, 0, 0), (241, none, .getfield 587, 3, 199, (-120), 12), (244, none, .iload 10, 2, 0, 0, 0), (246, none, .aaload, 1, 0, 0, 0), (247, none, .getfield 554, 3, 372, (-126), 10), (250, none, .goto 14, 3, 264, 0, 0)] := fq_of2 cd_52 ow_52 cl_52 rfl (pc := 232) (by decide +kernel)
    j_ist (pc := 232) (L' := [(12, (0, s0)), (0, (4, 303)), (7, (4, x7)), (8, (4, x8)), (9, (0, x9)), (10, (0, x10)), (11, (0, x11))]) D rfl nl_52 rfl rfl fun D =>
    j_ild (pc := 234) D rfl rfl rfl fun D =>
    j_ifeq (pc := 236) D rfl (fun q =>
      have D : fk_D 52 [(253, none, .aload 7, 2, 0, 0, 0), (255, none, .getfield 587, 3, 199, (-120), 12), (258, none, .iload 9, 2, 0, 0, 0), (260, none, .aaload, 1, 0, 0, 0), (261, none, .getfield 554, 3, 372, (-126), 10)] := fq_of2 cd_52 ow_52 cl_52 rfl (pc := 253) (by decide +kernel)
      j_ald (pc := 253) D rfl rfl rfl fun D =>
      j_gfo (pc := 255) H.2.1 D rfl rfl rfl rfl fun kc1 D =>
      j_ild (pc := 258) D rfl rfl rfl fun D =>
      j_alr (pc := 260) H.2.1 D rfl rfl fun q q2 D =>
      j_gfo (pc := 261) H.2.1 D rfl rfl rfl rfl fun kc2 D =>
      fk_jump cut_52_264 rfl rfl) (fun q D =>
      j_ald (pc := 239) D rfl rfl rfl fun D =>
      j_gfo (pc := 241) H.2.1 D rfl rfl rfl rfl fun kc3 D =>
      j_ild (pc := 244) D rfl rfl rfl fun D =>
      j_alr (pc := 246) H.2.1 D rfl rfl fun q q2 D =>
      j_gfo (pc := 247) H.2.1 D rfl rfl rfl rfl fun kc4 D =>
      j_goto (pc := 250) D rfl <|
      fk_jump cut_52_264 rfl rfl)
theorem e_52_264 (d : Nat) (x7 x8 x9 x10 x11 x12 s0 : Int) {h : fi_H} (H : Shp h) : c_52_264 d x7 x8 x9 x10 x11 x12 s0 h =
  if x11 = 0 then
    if x12 = 0 then
      if h 0 x7.toNat 0 = 120 then
      if (20 ≤ h 0 (h 199 x7.toNat 0).toNat 0 ∧ h 0 (h 199 x7.toNat 0).toNat 0 < 30) ∧ 0 ≤ x9 ∧ x9 < h 1 (h 199 x7.toNat 0).toNat 0 then
      if h 0 (h 12 (h 199 x7.toNat 0).toNat x9.toNat).toNat 0 = 126 then
      if h 0 x8.toNat 0 = 120 then
      if (20 ≤ h 0 (h 199 x8.toNat 0).toNat 0 ∧ h 0 (h 199 x8.toNat 0).toNat 0 < 30) ∧ 0 ≤ x10 ∧ x10 < h 1 (h 199 x8.toNat 0).toNat 0 then
      if h 0 (h 12 (h 199 x8.toNat 0).toNat x10.toNat).toNat 0 = 126 then
      ca_ (fj_run d 53 h [(4, x7), (4, h 374 (h 12 (h 199 x7.toNat 0).toNat x9.toNat).toNat 0), (4, x8), (4, h 374 (h 12 (h 199 x8.toNat 0).toNat x10.toNat).toNat 0)]) 0
        (fun v6 h5 =>
        c_52_351 d x7 x8 x9 x10 x11 x12 s0 v6 h5)
        (fun q7 h5 => tx_ q7 h5)
      else none
      else none
      else none
      else none
      else none
      else none
    else
      if h 0 x8.toNat 0 = 120 then
      if (20 ≤ h 0 (h 199 x8.toNat 0).toNat 0 ∧ h 0 (h 199 x8.toNat 0).toNat 0 < 30) ∧ 0 ≤ x10 ∧ x10 < h 1 (h 199 x8.toNat 0).toNat 0 then
      if h 0 (h 12 (h 199 x8.toNat 0).toNat x10.toNat).toNat 0 = 126 then
      if fk_isA (h 0 (h 374 (h 12 (h 199 x8.toNat 0).toNat x10.toNat).toNat 0).toNat 0) = true then
      if h 1 (h 374 (h 12 (h 199 x8.toNat 0).toNat x10.toNat).toNat 0).toNat 0 = 0 then
        c_52_351 d x7 x8 x9 x10 x11 x12 s0 1 h
      else
        c_52_351 d x7 x8 x9 x10 x11 x12 s0 0 h
      else none
      else none
      else none
      else none
  else
    if h 0 x7.toNat 0 = 120 then
    if (20 ≤ h 0 (h 199 x7.toNat 0).toNat 0 ∧ h 0 (h 199 x7.toNat 0).toNat 0 < 30) ∧ 0 ≤ x9 ∧ x9 < h 1 (h 199 x7.toNat 0).toNat 0 then
    if h 0 (h 12 (h 199 x7.toNat 0).toNat x9.toNat).toNat 0 = 126 then
    if fk_isA (h 0 (h 374 (h 12 (h 199 x7.toNat 0).toNat x9.toNat).toNat 0).toNat 0) = true then
    if h 1 (h 374 (h 12 (h 199 x7.toNat 0).toNat x9.toNat).toNat 0).toNat 0 = 0 then
      c_52_351 d x7 x8 x9 x10 x11 x12 s0 1 h
    else
      c_52_351 d x7 x8 x9 x10 x11 x12 s0 0 h
    else none
    else none
    else none
    else none := by
  unfold c_52_264
  exact
    have D : fk_D 52 [(264, some [0, 7, 8, 9, 10, 11, 12], .istore 13, 2, 0, 0, 0), (266, none, .iload 11, 2, 0, 0, 0), (268, none, .ifCond .eq 26, 3, 294, 0, 0), (271, none, .aload 7, 2, 0, 0, 0), (273, none, .getfield 587, 3, 199, (-120), 12), (276, none, .iload 9, 2, 0, 0, 0), (278, none, .aaload, 1, 0, 0, 0), (279, none, .getfield 551, 3, 374, (-126), 12), (282, none, .arraylength, 1, 0, 0, 0), (283, none, .ifCond .ne 7, 3, 290, 0, 0), (286, none, .iconst 1, 1, 0, 1, 0), (287, none, .goto 64, 3, 351, 0, 0)] := fq_of2 cd_52 ow_52 cl_52 rfl (pc := 264) (by decide +kernel)
    j_ist (pc := 264) (L' := [(13, (0, s0)), (0, (4, 303)), (7, (4, x7)), (8, (4, x8)), (9, (0, x9)), (10, (0, x10)), (11, (0, x11)), (12, (0, x12))]) D rfl nl_52 rfl rfl fun D =>
    j_ild (pc := 266) D rfl rfl rfl fun D =>
    j_ifeq (pc := 268) D rfl (fun q =>
      have D : fk_D 52 [(294, none, .iload 12, 2, 0, 0, 0), (296, none, .ifCond .eq 26, 3, 322, 0, 0), (299, none, .aload 8, 2, 0, 0, 0), (301, none, .getfield 587, 3, 199, (-120), 12), (304, none, .iload 10, 2, 0, 0, 0), (306, none, .aaload, 1, 0, 0, 0), (307, none, .getfield 551, 3, 374, (-126), 12), (310, none, .arraylength, 1, 0, 0, 0), (311, none, .ifCond .ne 7, 3, 318, 0, 0), (314, none, .iconst 1, 1, 0, 1, 0), (315, none, .goto 36, 3, 351, 0, 0)] := fq_of2 cd_52 ow_52 cl_52 rfl (pc := 294) (by decide +kernel)
      j_ild (pc := 294) D rfl rfl rfl fun D =>
      j_ifeq (pc := 296) D rfl (fun q =>
        have D : fk_D 52 [(322, none, .aload 7, 2, 0, 0, 0), (324, none, .aload 7, 2, 0, 0, 0), (326, none, .getfield 587, 3, 199, (-120), 12), (329, none, .iload 9, 2, 0, 0, 0), (331, none, .aaload, 1, 0, 0, 0), (332, none, .getfield 551, 3, 374, (-126), 12), (335, none, .aload 8, 2, 0, 0, 0), (337, none, .aload 8, 2, 0, 0, 0), (339, none, .getfield 587, 3, 199, (-120), 12), (342, none, .iload 10, 2, 0, 0, 0), (344, none, .aaload, 1, 0, 0, 0), (345, none, .getfield 551, 3, 374, (-126), 12), (348, none, .invokestatic 591, 3, 4, 53, 1)] := fq_of2 cd_52 ow_52 cl_52 rfl (pc := 322) (by decide +kernel)
        j_ald (pc := 322) D rfl rfl rfl fun D =>
        j_ald (pc := 324) D rfl rfl rfl fun D =>
        j_gfo (pc := 326) H.2.1 D rfl rfl rfl rfl fun kc1 D =>
        j_ild (pc := 329) D rfl rfl rfl fun D =>
        j_alr (pc := 331) H.2.1 D rfl rfl fun q q2 D =>
        j_gfo (pc := 332) H.2.1 D rfl rfl rfl rfl fun kc2 D =>
        j_ald (pc := 335) D rfl rfl rfl fun D =>
        j_ald (pc := 337) D rfl rfl rfl fun D =>
        j_gfo (pc := 339) H.2.1 D rfl rfl rfl rfl fun kc3 D =>
        j_ild (pc := 342) D rfl rfl rfl fun D =>
        j_alr (pc := 344) H.2.1 D rfl rfl fun q q2 D =>
        j_gfo (pc := 345) H.2.1 D rfl rfl rfl rfl fun kc4 D =>
        j_is (pc := 348) (m := 53) (a := [(4, x7), (4, h 374 (h 12 (h 199 x7.toNat 0).toNat x9.toNat).toNat 0), (4, x8), (4, h 374 (h 12 (h 199 x8.toNat 0).toNat x10.toNat).toNat 0)]) (rest := []) D rfl rfl rfl rfl (fun v6 h5 e1 D =>
          have T := fj_run_ok _ _ _ _ _ _ H.1 e1
          have kc1 := cls_st H.1 T.2 kc1 (by decide)
          have kc3 := cls_st H.1 T.2 kc3 (by decide)
          have H := shp_st H T
          fk_jump cut_52_351 rfl rfl) (fun q7 h5 e1 =>
          j_tx (hx_52 _))) (fun q D =>
        j_ald (pc := 299) D rfl rfl rfl fun D =>
        j_gfo (pc := 301) H.2.1 D rfl rfl rfl rfl fun kc8 D =>
        j_ild (pc := 304) D rfl rfl rfl fun D =>
        j_alr (pc := 306) H.2.1 D rfl rfl fun q q2 D =>
        j_gfo (pc := 307) H.2.1 D rfl rfl rfl rfl fun kc9 D =>
        j_lenu (pc := 310) H.2.1 D rfl fun q D =>
        j_ifne (pc := 311) D rfl (fun q D =>
          j_ic (pc := 314) D rfl fun D =>
          j_goto (pc := 315) D rfl <|
          fk_jump cut_52_351 rfl rfl) (fun q =>
          have D : fk_D 52 [(318, none, .iconst 0, 1, 0, 0, 0), (319, none, .goto 32, 3, 351, 0, 0)] := fq_of2 cd_52 ow_52 cl_52 rfl (pc := 318) (by decide +kernel)
          j_ic (pc := 318) D rfl fun D =>
          j_goto (pc := 319) D rfl <|
          fk_jump cut_52_351 rfl rfl))) (fun q D =>
      j_ald (pc := 271) D rfl rfl rfl fun D =>
      j_gfo (pc := 273) H.2.1 D rfl rfl rfl rfl fun kc10 D =>
      j_ild (pc := 276) D rfl rfl rfl fun D =>
      j_alr (pc := 278) H.2.1 D rfl rfl fun q q2 D =>
      j_gfo (pc := 279) H.2.1 D rfl rfl rfl rfl fun kc11 D =>
      j_lenu (pc := 282) H.2.1 D rfl fun q D =>
      j_ifne (pc := 283) D rfl (fun q D =>
        j_ic (pc := 286) D rfl fun D =>
        j_goto (pc := 287) D rfl <|
        fk_jump cut_52_351 rfl rfl) (fun q =>
        have D : fk_D 52 [(290, none, .iconst 0, 1, 0, 0, 0), (291, none, .goto 60, 3, 351, 0, 0)] := fq_of2 cd_52 ow_52 cl_52 rfl (pc := 290) (by decide +kernel)
        j_ic (pc := 290) D rfl fun D =>
        j_goto (pc := 291) D rfl <|
        fk_jump cut_52_351 rfl rfl))
theorem e_52_351 (d : Nat) (x7 x8 x9 x10 x11 x12 x13 s0 : Int) {h : fi_H} (H : Shp h) : c_52_351 d x7 x8 x9 x10 x11 x12 x13 s0 h =
  if s0 = 0 then
    if 0 ≤ h 273 303 0 ∧ h 273 303 0 < 400 then
    lt_ (fi_upd h 10 405 (h 273 303 0).toNat x13) fun h1 =>
    lt_ (fi_upd h1 273 303 0 (wI ((h1 273 303 0) + 1))) fun h3 =>
    c_52_379 d x7 x8 x9 x10 x11 x12 h3
    else none
  else
    c_52_379 d x7 x8 x9 x10 x11 x12 h := by
  unfold c_52_351
  exact
    have D : fk_D 52 [(351, some [0, 7, 8, 9, 10, 11, 12, 13], .istore 14, 2, 0, 0, 0), (353, none, .iload 14, 2, 0, 0, 0), (355, none, .ifCond .ne 24, 3, 379, 0, 0), (358, none, .aload_n 0, 1, 0, 0, 0), (359, none, .getfield 595, 3, 272, 100, 12), (362, none, .aload_n 0, 1, 0, 0, 0), (363, none, .getfield 581, 3, 273, 100, 10), (366, none, .iload 13, 2, 0, 0, 0), (368, none, .iastore, 1, 0, 0, 0), (369, none, .aload_n 0, 1, 0, 0, 0), (370, none, .dup, 1, 0, 0, 0), (371, none, .getfield 581, 3, 273, 100, 10), (374, none, .iconst 1, 1, 0, 1, 0), (375, none, .iadd, 1, 0, 0, 0), (376, none, .putfield 581, 3, 273, 100, 10)] := fq_of2 cd_52 ow_52 cl_52 rfl (pc := 351) (by decide +kernel)
    j_ist (pc := 351) (L' := [(14, (0, s0)), (0, (4, 303)), (7, (4, x7)), (8, (4, x8)), (9, (0, x9)), (10, (0, x10)), (11, (0, x11)), (12, (0, x12)), (13, (0, x13))]) D rfl nl_52 rfl rfl fun D =>
    j_ild (pc := 353) D rfl rfl rfl fun D =>
    j_ifne (pc := 355) D rfl (fun q D =>
      j_aldn (pc := 358) D rfl rfl rfl fun D =>
      j_gfc (pc := 359) (a := 303) D rfl rfl (by decide) rfl (s0_303 H) rfl (sf_272_303 H) fun D =>
      j_aldn (pc := 362) D rfl rfl rfl fun D =>
      j_gf (pc := 363) (a := 303) D rfl rfl (by decide) rfl (s0_303 H) rfl fun D =>
      j_ild (pc := 366) D rfl rfl rfl fun D =>
      j_as (pc := 368) (a := 405) (e := 10) D rfl ⟨rfl, rfl⟩ rfl (by decide) (s0_405 H) (s1_405 H) ⟨rfl, rfl, rfl⟩ rfl gn (gy rfl) fun h1 eh1 S qb2 D =>
      have T := fj_hs_ok H.1 S
      have H := shp_st H T
      j_aldn (pc := 369) D rfl rfl rfl fun D =>
      j_sh (pc := 370) D rfl rfl rfl fun D =>
      j_gf (pc := 371) (a := 303) D rfl rfl (by decide) rfl (s0_303 H) rfl fun D =>
      j_ic (pc := 374) D rfl fun D =>
      j_iadd (pc := 375) D rfl fun D =>
      j_pf (pc := 376) (a := 303) D rfl rfl rfl (s0_303 H) rfl rfl (gy (by decide)) (gy rfl) fun h3 eh3 S D =>
      have T := fj_hs_ok H.1 S
      have H := shp_st H T
      fk_jump cut_52_379 rfl rfl) (fun q =>
      fk_jump cut_52_379 rfl rfl)
theorem e_52_379 (d : Nat) (x7 x8 x9 x10 x11 x12 : Int) {h : fi_H} (H : Shp h) : c_52_379 d x7 x8 x9 x10 x11 x12 h =
  if x12 = 0 then
    c_52_391 d x7 x8 x10 x11 x9 1 h
  else
    c_52_391 d x7 x8 x10 x11 x9 0 h := by
  unfold c_52_379
  exact
    have D : fk_D 52 [(379, some [0, 7, 8, 9, 10, 11, 12], .iload 9, 2, 0, 0, 0), (381, none, .iload 12, 2, 0, 0, 0), (383, none, .ifCond .eq 7, 3, 390, 0, 0), (386, none, .iconst 0, 1, 0, 0, 0), (387, none, .goto 4, 3, 391, 0, 0)] := fq_of2 cd_52 ow_52 cl_52 rfl (pc := 379) (by decide +kernel)
    j_ild (pc := 379) D rfl rfl rfl fun D =>
    j_ild (pc := 381) D rfl rfl rfl fun D =>
    j_ifeq (pc := 383) D rfl (fun q =>
      have D : fk_D 52 [(390, none, .iconst 1, 1, 0, 1, 0)] := fq_of2 cd_52 ow_52 cl_52 rfl (pc := 390) (by decide +kernel)
      j_ic (pc := 390) D rfl fun D =>
      fk_jump cut_52_391 rfl rfl) (fun q D =>
      j_ic (pc := 386) D rfl fun D =>
      j_goto (pc := 387) D rfl <|
      fk_jump cut_52_391 rfl rfl)
theorem e_52_391 (d : Nat) (x7 x8 x10 x11 s0 s1 : Int) {h : fi_H} (H : Shp h) : c_52_391 d x7 x8 x10 x11 s0 s1 h =
  if x11 = 0 then
    c_52_406 d x7 x8 (wI (s0 + s1)) x10 1 h
  else
    c_52_406 d x7 x8 (wI (s0 + s1)) x10 0 h := by
  unfold c_52_391
  exact
    have D : fk_D 52 [(391, some [0, 7, 8, 10, 11], .iadd, 1, 0, 0, 0), (392, none, .istore 9, 2, 0, 0, 0), (394, none, .iload 10, 2, 0, 0, 0), (396, none, .iload 11, 2, 0, 0, 0), (398, none, .ifCond .eq 7, 3, 405, 0, 0), (401, none, .iconst 0, 1, 0, 0, 0), (402, none, .goto 4, 3, 406, 0, 0)] := fq_of2 cd_52 ow_52 cl_52 rfl (pc := 391) (by decide +kernel)
    j_iadd (pc := 391) D rfl fun D =>
    j_ist (pc := 392) (L' := [(9, (0, wI (s0 + s1))), (0, (4, 303)), (7, (4, x7)), (8, (4, x8)), (10, (0, x10)), (11, (0, x11))]) D rfl nl_52 rfl rfl fun D =>
    j_ild (pc := 394) D rfl rfl rfl fun D =>
    j_ild (pc := 396) D rfl rfl rfl fun D =>
    j_ifeq (pc := 398) D rfl (fun q =>
      have D : fk_D 52 [(405, none, .iconst 1, 1, 0, 1, 0)] := fq_of2 cd_52 ow_52 cl_52 rfl (pc := 405) (by decide +kernel)
      j_ic (pc := 405) D rfl fun D =>
      fk_jump cut_52_406 rfl rfl) (fun q D =>
      j_ic (pc := 401) D rfl fun D =>
      j_goto (pc := 402) D rfl <|
      fk_jump cut_52_406 rfl rfl)
theorem e_52_406 (d : Nat) (x7 x8 x9 s0 s1 : Int) {h : fi_H} (H : Shp h) : c_52_406 d x7 x8 x9 s0 s1 h =
  c_52_110 d x7 x8 x9 (wI (s0 + s1)) h := by
  unfold c_52_406
  exact
    have D : fk_D 52 [(406, some [0, 7, 8, 9], .iadd, 1, 0, 0, 0), (407, none, .istore 10, 2, 0, 0, 0), (409, none, .goto (-299), 3, 110, 0, 0)] := fq_of2 cd_52 ow_52 cl_52 rfl (pc := 406) (by decide +kernel)
    j_iadd (pc := 406) D rfl fun D =>
    j_ist (pc := 407) (L' := [(10, (0, wI (s0 + s1))), (0, (4, 303)), (7, (4, x7)), (8, (4, x8)), (9, (0, x9))]) D rfl nl_52 rfl rfl fun D =>
    j_goto (pc := 409) D rfl <|
    fk_jump cut_52_110 rfl rfl
theorem m_52 (d : Nat) (x1 x2 x3 x4 x5 x6 : Int) {h : fi_H} (H : Shp h) : fj_run (d + 1) 52 h [(4, 303), (0, x1), (0, x2), (0, x3), (0, x4), (0, x5), (0, x6)] =
  ca_ (fj_run d 1 h [(0, x1)]) 0
    (fun v2 h1 =>
    if v2 = 0 then
      some (.inl (some (0, (-2))), h1)
    else
      ca_ (fj_run d 1 h1 [(0, x4)]) 0
        (fun v5 h4 =>
        if v5 = 0 then
          some (.inl (some (0, (-2))), h4)
        else
          ca_ (fj_run d 2 h4 [(4, 303), (0, x2)]) 0
            (fun v8 h7 =>
            if v8 = 0 then
              some (.inl (some (0, (-2))), h7)
            else
              ca_ (fj_run d 2 h7 [(4, 303), (0, x3)]) 0
                (fun v11 h10 =>
                if v11 = 0 then
                  some (.inl (some (0, (-2))), h10)
                else
                  ca_ (fj_run d 2 h10 [(4, 303), (0, x5)]) 0
                    (fun v14 h13 =>
                    if v14 = 0 then
                      some (.inl (some (0, (-2))), h13)
                    else
                      ca_ (fj_run d 2 h13 [(4, 303), (0, x6)]) 0
                        (fun v17 h16 =>
                        if v17 = 0 then
                          some (.inl (some (0, (-2))), h16)
                        else
                          if 0 ≤ x1 ∧ x1 < 4 then
                          dv_ (fi_vt 133 (h16 0 (h16 12 363 12).toNat 0)) fun m23 => cv_ (fj_run d m23 h16 [(4, h16 12 363 12), (4, h16 12 354 x1.toNat), (0, x3), (0, x2)])
                            (fun h20 =>
                            if 0 ≤ x4 ∧ x4 < 4 then
                            dv_ (fi_vt 133 (h20 0 (h16 12 363 13).toNat 0)) fun m28 => cv_ (fj_run d m28 h20 [(4, h16 12 363 13), (4, h20 12 354 x4.toNat), (0, x6), (0, x5)])
                              (fun h25 =>
                              lt_ (fi_upd h25 273 303 0 0) fun h29 =>
                              c_52_107 d (h16 12 363 12) (h16 12 363 13) 0 h29)
                              (fun q27 h25 => tx_ q27 h25)
                            else none)
                            (fun q22 h20 => tx_ q22 h20)
                          else none)
                        (fun q18 h16 => tx_ q18 h16))
                    (fun q15 h13 => tx_ q15 h13))
                (fun q12 h10 => tx_ q12 h10))
            (fun q9 h7 => tx_ q9 h7))
        (fun q6 h4 => tx_ q6 h4))
    (fun q3 h1 => tx_ q3 h1) := by
  rw [fj_run_eq d (by decide) h [(4, 303), (0, x1), (0, x2), (0, x3), (0, x4), (0, x5), (0, x6)] (Nat.le_of_ble_eq_true (by rw [nl_52]; rfl))]
  show gG (fj_run d) 52 0 [(0, (4, 303)), (1, (0, x1)), (2, (0, x2)), (3, (0, x3)), (4, (0, x4)), (5, (0, x5)), (6, (0, x6))] [] h = _
  exact
    have D : fk_D 52 [(0, none, .iload_n 1, 1, 0, 0, 0), (1, none, .invokestatic 526, 3, 1, 1, 1), (4, none, .ifCond .eq 45, 3, 49, 0, 0), (7, none, .iload 4, 2, 0, 0, 0), (9, none, .invokestatic 526, 3, 1, 1, 1), (12, none, .ifCond .eq 37, 3, 49, 0, 0), (15, none, .aload_n 0, 1, 0, 0, 0), (16, none, .iload_n 2, 1, 0, 0, 0), (17, none, .invokevirtual 121, 3, 1, 113, 1), (20, none, .ifCond .eq 29, 3, 49, 0, 0), (23, none, .aload_n 0, 1, 0, 0, 0), (24, none, .iload_n 3, 1, 0, 0, 0), (25, none, .invokevirtual 121, 3, 1, 113, 1), (28, none, .ifCond .eq 21, 3, 49, 0, 0), (31, none, .aload_n 0, 1, 0, 0, 0), (32, none, .iload 5, 2, 0, 0, 0), (34, none, .invokevirtual 121, 3, 1, 113, 1), (37, none, .ifCond .eq 12, 3, 49, 0, 0), (40, none, .aload_n 0, 1, 0, 0, 0), (41, none, .iload 6, 2, 0, 0, 0)] := fq_of2 cd_52 ow_52 cl_52 rfl (pc := 0) (by decide +kernel)
    j_ildn (pc := 0) D rfl rfl rfl fun D =>
    j_is (pc := 1) (m := 1) (a := [(0, x1)]) (rest := []) D rfl rfl rfl rfl (fun v2 h1 e1 D =>
      have T := fj_run_ok _ _ _ _ _ _ H.1 e1
      have H := shp_st H T
      j_ifeq (pc := 4) D rfl (fun q =>
        have D : fk_D 52 [(49, none, .bipush (-2), 2, 0, (-2), 0), (51, none, .ireturn, 1, 0, 0, 0)] := fq_of2 cd_52 ow_52 cl_52 rfl (pc := 49) (by decide +kernel)
        j_bp (pc := 49) D rfl fun D =>
        j_iret D rt_52) (fun q D =>
        j_ild (pc := 7) D rfl rfl rfl fun D =>
        j_is (pc := 9) (m := 1) (a := [(0, x4)]) (rest := []) D rfl rfl rfl rfl (fun v5 h4 e1 D =>
          have T := fj_run_ok _ _ _ _ _ _ H.1 e1
          have H := shp_st H T
          j_ifeq (pc := 12) D rfl (fun q =>
            have D : fk_D 52 [(49, none, .bipush (-2), 2, 0, (-2), 0), (51, none, .ireturn, 1, 0, 0, 0)] := fq_of2 cd_52 ow_52 cl_52 rfl (pc := 49) (by decide +kernel)
            j_bp (pc := 49) D rfl fun D =>
            j_iret D rt_52) (fun q D =>
            j_aldn (pc := 15) D rfl rfl rfl fun D =>
            j_ildn (pc := 16) D rfl rfl rfl fun D =>
            j_iv (pc := 17) (m := 2) (dd := 113) (a := [(0, x2)]) (rest := []) D rfl rfl rfl rfl rfl (by decide) (s0_303 H) (by decide +kernel) (fun v8 h7 e1 D =>
              have T := fj_run_ok _ _ _ _ _ _ H.1 e1
              have H := shp_st H T
              j_ifeq (pc := 20) D rfl (fun q =>
                have D : fk_D 52 [(49, none, .bipush (-2), 2, 0, (-2), 0), (51, none, .ireturn, 1, 0, 0, 0)] := fq_of2 cd_52 ow_52 cl_52 rfl (pc := 49) (by decide +kernel)
                j_bp (pc := 49) D rfl fun D =>
                j_iret D rt_52) (fun q D =>
                j_aldn (pc := 23) D rfl rfl rfl fun D =>
                j_ildn (pc := 24) D rfl rfl rfl fun D =>
                j_iv (pc := 25) (m := 2) (dd := 113) (a := [(0, x3)]) (rest := []) D rfl rfl rfl rfl rfl (by decide) (s0_303 H) (by decide +kernel) (fun v11 h10 e1 D =>
                  have T := fj_run_ok _ _ _ _ _ _ H.1 e1
                  have H := shp_st H T
                  j_ifeq (pc := 28) D rfl (fun q =>
                    have D : fk_D 52 [(49, none, .bipush (-2), 2, 0, (-2), 0), (51, none, .ireturn, 1, 0, 0, 0)] := fq_of2 cd_52 ow_52 cl_52 rfl (pc := 49) (by decide +kernel)
                    j_bp (pc := 49) D rfl fun D =>
                    j_iret D rt_52) (fun q D =>
                    j_aldn (pc := 31) D rfl rfl rfl fun D =>
                    j_ild (pc := 32) D rfl rfl rfl fun D =>
                    j_iv (pc := 34) (m := 2) (dd := 113) (a := [(0, x5)]) (rest := []) D rfl rfl rfl rfl rfl (by decide) (s0_303 H) (by decide +kernel) (fun v14 h13 e1 D =>
                      have T := fj_run_ok _ _ _ _ _ _ H.1 e1
                      have H := shp_st H T
                      j_ifeq (pc := 37) D rfl (fun q =>
                        have D : fk_D 52 [(49, none, .bipush (-2), 2, 0, (-2), 0), (51, none, .ireturn, 1, 0, 0, 0)] := fq_of2 cd_52 ow_52 cl_52 rfl (pc := 49) (by decide +kernel)
                        j_bp (pc := 49) D rfl fun D =>
                        j_iret D rt_52) (fun q D =>
                        j_aldn (pc := 40) D rfl rfl rfl fun D =>
                        j_ild (pc := 41) D rfl rfl rfl fun D =>
                        have D : fk_D 52 [(43, none, .invokevirtual 121, 3, 1, 113, 1), (46, none, .ifCond .ne 6, 3, 52, 0, 0), (49, none, .bipush (-2), 2, 0, (-2), 0), (51, none, .ireturn, 1, 0, 0, 0)] := fq_of2 cd_52 ow_52 cl_52 rfl (pc := 43) (by decide +kernel)
                        j_iv (pc := 43) (m := 2) (dd := 113) (a := [(0, x6)]) (rest := []) D rfl rfl rfl rfl rfl (by decide) (s0_303 H) (by decide +kernel) (fun v17 h16 e1 D =>
                          have T := fj_run_ok _ _ _ _ _ _ H.1 e1
                          have H := shp_st H T
                          j_ifne (pc := 46) D rfl (fun q D =>
                            j_bp (pc := 49) D rfl fun D =>
                            j_iret D rt_52) (fun q =>
                            have D : fk_D 52 [(52, none, .aload_n 0, 1, 0, 0, 0), (53, none, .getfield 348, 3, 248, 100, 12), (56, none, .bipush 12, 2, 0, 12, 0), (58, none, .aaload, 1, 0, 0, 0), (59, none, .astore 7, 2, 0, 0, 0), (61, none, .aload_n 0, 1, 0, 0, 0), (62, none, .getfield 348, 3, 248, 100, 12), (65, none, .bipush 13, 2, 0, 13, 0), (67, none, .aaload, 1, 0, 0, 0), (68, none, .astore 8, 2, 0, 0, 0), (70, none, .aload 7, 2, 0, 0, 0), (72, none, .aload_n 0, 1, 0, 0, 0), (73, none, .getfield 529, 3, 227, 100, 12), (76, none, .iload_n 1, 1, 0, 0, 0), (77, none, .aaload, 1, 0, 0, 0), (78, none, .iload_n 3, 1, 0, 0, 0), (79, none, .iload_n 2, 1, 0, 0, 0), (80, none, .invokevirtual 352, 3, 3, 133, 0), (83, none, .aload 8, 2, 0, 0, 0), (85, none, .aload_n 0, 1, 0, 0, 0)] := fq_of2 cd_52 ow_52 cl_52 rfl (pc := 52) (by decide +kernel)
                            j_aldn (pc := 52) D rfl rfl rfl fun D =>
                            j_gfc (pc := 53) (a := 303) D rfl rfl (by decide) rfl (s0_303 H) rfl (sf_248_303 H) fun D =>
                            j_bp (pc := 56) D rfl fun D =>
                            j_al (pc := 58) (a := 363) (e := 12) D rfl rfl rfl (by decide) (s0_363 H) (s1_363 H) ⟨rfl, rfl, rfl⟩ rfl (gy (by decide)) fun q D =>
                            j_ast (pc := 59) (L' := [(7, (4, h16 12 363 12)), (0, (4, 303)), (1, (0, x1)), (2, (0, x2)), (3, (0, x3)), (4, (0, x4)), (5, (0, x5)), (6, (0, x6))]) D rfl nl_52 rfl rfl fun D =>
                            j_aldn (pc := 61) D rfl rfl rfl fun D =>
                            j_gfc (pc := 62) (a := 303) D rfl rfl (by decide) rfl (s0_303 H) rfl (sf_248_303 H) fun D =>
                            j_bp (pc := 65) D rfl fun D =>
                            j_al (pc := 67) (a := 363) (e := 12) D rfl rfl rfl (by decide) (s0_363 H) (s1_363 H) ⟨rfl, rfl, rfl⟩ rfl (gy (by decide)) fun q D =>
                            j_ast (pc := 68) (L' := [(8, (4, h16 12 363 13)), (7, (4, h16 12 363 12)), (0, (4, 303)), (1, (0, x1)), (2, (0, x2)), (3, (0, x3)), (4, (0, x4)), (5, (0, x5)), (6, (0, x6))]) D rfl nl_52 rfl rfl fun D =>
                            j_ald (pc := 70) D rfl rfl rfl fun D =>
                            j_aldn (pc := 72) D rfl rfl rfl fun D =>
                            j_gfc (pc := 73) (a := 303) D rfl rfl (by decide) rfl (s0_303 H) rfl (sf_227_303 H) fun D =>
                            j_ildn (pc := 76) D rfl rfl rfl fun D =>
                            j_al (pc := 77) (a := 354) (e := 12) D rfl rfl rfl (by decide) (s0_354 H) (s1_354 H) ⟨rfl, rfl, rfl⟩ rfl gn fun qb19 D =>
                            j_ildn (pc := 78) D rfl rfl rfl fun D =>
                            j_ildn (pc := 79) D rfl rfl rfl fun D =>
                            j_ivuv (pc := 80) (dd := 133) (a := [(4, h16 12 354 x1.toNat), (0, x3), (0, x2)]) (rest := []) H.2.1 D rfl rfl rfl rfl rfl (fun m23 h20 e1 D =>
                              have T := fj_run_ok _ _ _ _ _ _ H.1 e1
                              have H := shp_st H T
                              j_ald (pc := 83) D rfl rfl rfl fun D =>
                              j_aldn (pc := 85) D rfl rfl rfl fun D =>
                              have D : fk_D 52 [(86, none, .getfield 529, 3, 227, 100, 12), (89, none, .iload 4, 2, 0, 0, 0), (91, none, .aaload, 1, 0, 0, 0), (92, none, .iload 6, 2, 0, 0, 0), (94, none, .iload 5, 2, 0, 0, 0), (96, none, .invokevirtual 352, 3, 3, 133, 0), (99, none, .aload_n 0, 1, 0, 0, 0), (100, none, .iconst 0, 1, 0, 0, 0), (101, none, .putfield 581, 3, 273, 100, 10), (104, none, .iconst 0, 1, 0, 0, 0), (105, none, .istore 9, 2, 0, 0, 0)] := fq_of2 cd_52 ow_52 cl_52 rfl (pc := 86) (by decide +kernel)
                              j_gfc (pc := 86) (a := 303) D rfl rfl (by decide) rfl (s0_303 H) rfl (sf_227_303 H) fun D =>
                              j_ild (pc := 89) D rfl rfl rfl fun D =>
                              j_al (pc := 91) (a := 354) (e := 12) D rfl rfl rfl (by decide) (s0_354 H) (s1_354 H) ⟨rfl, rfl, rfl⟩ rfl gn fun qb24 D =>
                              j_ild (pc := 92) D rfl rfl rfl fun D =>
                              j_ild (pc := 94) D rfl rfl rfl fun D =>
                              j_ivuv (pc := 96) (dd := 133) (a := [(4, h20 12 354 x4.toNat), (0, x6), (0, x5)]) (rest := []) H.2.1 D rfl rfl rfl rfl rfl (fun m28 h25 e1 D =>
                                have T := fj_run_ok _ _ _ _ _ _ H.1 e1
                                have H := shp_st H T
                                j_aldn (pc := 99) D rfl rfl rfl fun D =>
                                j_ic (pc := 100) D rfl fun D =>
                                j_pf (pc := 101) (a := 303) D rfl rfl rfl (s0_303 H) rfl rfl (gy (by decide)) (gy rfl) fun h29 eh29 S D =>
                                have T := fj_hs_ok H.1 S
                                have H := shp_st H T
                                j_ic (pc := 104) D rfl fun D =>
                                j_ist (pc := 105) (L' := [(9, (0, 0)), (8, (4, h16 12 363 13)), (7, (4, h16 12 363 12)), (0, (4, 303)), (1, (0, x1)), (2, (0, x2)), (3, (0, x3)), (4, (0, x4)), (5, (0, x5)), (6, (0, x6))]) D rfl nl_52 rfl rfl fun D =>
                                fk_jump cut_52_107 rfl rfl) (fun m28 q27 h25 e1 =>
                                j_tx (hx_52 _))) (fun m23 q22 h20 e1 =>
                              j_tx (hx_52 _)))) (fun q18 h16 e1 =>
                          j_tx (hx_52 _)))) (fun q15 h13 e1 =>
                      j_tx (hx_52 _)))) (fun q12 h10 e1 =>
                  j_tx (hx_52 _)))) (fun q9 h7 e1 =>
              j_tx (hx_52 _)))) (fun q6 h4 e1 =>
          j_tx (hx_52 _)))) (fun q3 h1 e1 =>
      j_tx (hx_52 _))
/-! 53 StatuteHouse.areLike(LStatuteHouse$Sight;[LStatuteHouse$Rule;LStatuteHouse$Sight;[LStatuteHouse$Rule;)Z -/
theorem cd_53 : fi_code 53 = prog_1_method_47_code := rfl
theorem hx_53 : ∀ pc, fi_hat 53 pc = none := fun pc => by unfold fi_hat; rw [show fi_hh 53 = [] from rfl]; rfl
theorem rt_53 : fi_ret 53 = some .boolean := rfl
theorem nl_53 : fi_nl 53 = 6 := rfl
theorem ow_53 : fi_ow 53 = 0 := rfl
theorem cl_53 : fj_cutT.getD 53 [] = [(12, [0, 1, 2, 3]), (17, [0, 1, 2, 3, 4, 5]), (51, [0, 1, 2, 3, 5]), (77, [0, 1, 2, 3, 5]), (92, [0, 1, 2, 3, 5])] := rfl
theorem cut_53_12 : fj_cut 53 12 = some [0, 1, 2, 3] := by decide +kernel
noncomputable def c_53_12 (d : Nat) (x0 x1 x2 x3 s0 : Int) (h : fi_H) : fk_R := gG (fj_run d) 53 12 [(0, (4, x0)), (1, (4, x1)), (2, (4, x2)), (3, (4, x3))] [(0, s0)] h
theorem cut_53_17 : fj_cut 53 17 = some [0, 1, 2, 3, 4, 5] := by decide +kernel
noncomputable def c_53_17 (d : Nat) (x0 x1 x2 x3 x4 x5 : Int) (h : fi_H) : fk_R := gG (fj_run d) 53 17 [(0, (4, x0)), (1, (4, x1)), (2, (4, x2)), (3, (4, x3)), (4, (0, x4)), (5, (0, x5))] [] h
theorem cut_53_51 : fj_cut 53 51 = some [0, 1, 2, 3, 5] := by decide +kernel
noncomputable def c_53_51 (d : Nat) (x0 x1 x2 x3 x5 : Int) (h : fi_H) : fk_R := gG (fj_run d) 53 51 [(0, (4, x0)), (1, (4, x1)), (2, (4, x2)), (3, (4, x3)), (5, (0, x5))] [] h
theorem cut_53_77 : fj_cut 53 77 = some [0, 1, 2, 3, 5] := by decide +kernel
noncomputable def c_53_77 (d : Nat) (x0 x1 x2 x3 x5 : Int) (h : fi_H) : fk_R := gG (fj_run d) 53 77 [(0, (4, x0)), (1, (4, x1)), (2, (4, x2)), (3, (4, x3)), (5, (0, x5))] [] h
theorem cut_53_92 : fj_cut 53 92 = some [0, 1, 2, 3, 5] := by decide +kernel
noncomputable def c_53_92 (d : Nat) (x0 x1 x2 x3 x5 s0 : Int) (h : fi_H) : fk_R := gG (fj_run d) 53 92 [(0, (4, x0)), (1, (4, x1)), (2, (4, x2)), (3, (4, x3)), (5, (0, x5))] [(0, s0)] h
theorem e_53_12 (d : Nat) (x0 x1 x2 x3 s0 : Int) {h : fi_H} (H : Shp h) : c_53_12 d x0 x1 x2 x3 s0 h =
  c_53_17 d x0 x1 x2 x3 s0 0 h := by
  unfold c_53_12
  exact
    have D : fk_D 53 [(12, some [0, 1, 2, 3], .istore 4, 2, 0, 0, 0), (14, none, .iconst 0, 1, 0, 0, 0), (15, none, .istore 5, 2, 0, 0, 0)] := fq_of2 cd_53 ow_53 cl_53 rfl (pc := 12) (by decide +kernel)
    j_ist (pc := 12) (L' := [(4, (0, s0)), (0, (4, x0)), (1, (4, x1)), (2, (4, x2)), (3, (4, x3))]) D rfl nl_53 rfl rfl fun D =>
    j_ic (pc := 14) D rfl fun D =>
    j_ist (pc := 15) (L' := [(5, (0, 0)), (4, (0, s0)), (0, (4, x0)), (1, (4, x1)), (2, (4, x2)), (3, (4, x3))]) D rfl nl_53 rfl rfl fun D =>
    fk_jump cut_53_17 rfl rfl
theorem e_53_17 (d : Nat) (x0 x1 x2 x3 x4 x5 : Int) {h : fi_H} (H : Shp h) : c_53_17 d x0 x1 x2 x3 x4 x5 h =
  if fk_isA (h 0 x1.toNat 0) = true then
  if x5 < h 1 x1.toNat 0 then
    if x4 = 0 then
      if x4 = 0 ∨ x4 = 1 then some (.inl (some (0, x4)), h) else none
    else
      if (20 ≤ h 0 x1.toNat 0 ∧ h 0 x1.toNat 0 < 30) ∧ 0 ≤ x5 ∧ x5 < h 1 x1.toNat 0 then
      dv_ (fi_vt 142 (h 0 x0.toNat 0)) fun m4 => ca_ (fj_run d m4 h [(4, x0), (4, h 12 x1.toNat x5.toNat)]) 0
        (fun v2 h1 =>
        if v2 = 0 then
          if (20 ≤ h1 0 x3.toNat 0 ∧ h1 0 x3.toNat 0 < 30) ∧ 0 ≤ x5 ∧ x5 < h1 1 x3.toNat 0 then
          dv_ (fi_vt 142 (h1 0 x2.toNat 0)) fun m8 => ca_ (fj_run d m8 h1 [(4, x2), (4, h1 12 x3.toNat x5.toNat)]) 0
            (fun v6 h5 =>
            if v6 = 0 then
              if (20 ≤ h5 0 x1.toNat 0 ∧ h5 0 x1.toNat 0 < 30) ∧ 0 ≤ x5 ∧ x5 < h5 1 x1.toNat 0 then
              if (20 ≤ h5 0 x3.toNat 0 ∧ h5 0 x3.toNat 0 < 30) ∧ 0 ≤ x5 ∧ x5 < h5 1 x3.toNat 0 then
              dv_ (fi_vt 152 (h5 0 (h5 12 x1.toNat x5.toNat).toNat 0)) fun m12 => ca_ (fj_run d m12 h5 [(4, h5 12 x1.toNat x5.toNat), (4, h5 12 x3.toNat x5.toNat)]) 0
                (fun v10 h9 =>
                c_53_92 d x0 x1 x2 x3 x5 v10 h9)
                (fun q11 h9 => tx_ q11 h9)
              else none
              else none
            else
              c_53_51 d x0 x1 x2 x3 x5 h5)
            (fun q7 h5 => tx_ q7 h5)
          else none
        else
          c_53_51 d x0 x1 x2 x3 x5 h1)
        (fun q3 h1 => tx_ q3 h1)
      else none
  else
    if x4 = 0 ∨ x4 = 1 then some (.inl (some (0, x4)), h) else none
  else none := by
  unfold c_53_17
  exact
    have D : fk_D 53 [(17, some [0, 1, 2, 3, 4, 5], .iload 5, 2, 0, 0, 0), (19, none, .aload_n 1, 1, 0, 0, 0), (20, none, .arraylength, 1, 0, 0, 0), (21, none, .if_icmp .ge 79, 3, 100, 0, 0), (24, none, .iload 4, 2, 0, 0, 0), (26, none, .ifCond .eq 74, 3, 100, 0, 0), (29, none, .aload_n 0, 1, 0, 0, 0), (30, none, .aload_n 1, 1, 0, 0, 0), (31, none, .iload 5, 2, 0, 0, 0), (33, none, .aaload, 1, 0, 0, 0), (34, none, .invokevirtual 496, 3, 1, 142, 1), (37, none, .ifCond .ne 14, 3, 51, 0, 0), (40, none, .aload_n 2, 1, 0, 0, 0), (41, none, .aload_n 3, 1, 0, 0, 0), (42, none, .iload 5, 2, 0, 0, 0), (44, none, .aaload, 1, 0, 0, 0), (45, none, .invokevirtual 496, 3, 1, 142, 1), (48, none, .ifCond .eq 33, 3, 81, 0, 0)] := fq_of2 cd_53 ow_53 cl_53 rfl (pc := 17) (by decide +kernel)
    j_ild (pc := 17) D rfl rfl rfl fun D =>
    j_aldn (pc := 19) D rfl rfl rfl fun D =>
    j_lenu (pc := 20) H.2.1 D rfl fun q D =>
    j_ige (pc := 21) D rfl (fun q D =>
      j_ild (pc := 24) D rfl rfl rfl fun D =>
      j_ifeq (pc := 26) D rfl (fun q =>
        have D : fk_D 53 [(100, none, .iload 4, 2, 0, 0, 0), (102, none, .ireturn, 1, 0, 0, 0)] := fq_of2 cd_53 ow_53 cl_53 rfl (pc := 100) (by decide +kernel)
        j_ild (pc := 100) D rfl rfl rfl fun D =>
        j_zret D rt_53 gn) (fun q D =>
        j_aldn (pc := 29) D rfl rfl rfl fun D =>
        j_aldn (pc := 30) D rfl rfl rfl fun D =>
        j_ild (pc := 31) D rfl rfl rfl fun D =>
        j_alr (pc := 33) H.2.1 D rfl rfl fun q q2 D =>
        j_ivu (pc := 34) (dd := 142) (a := [(4, h 12 x1.toNat x5.toNat)]) (rest := []) H.2.1 D rfl rfl rfl rfl rfl (fun m4 v2 h1 e1 D =>
          have T := fj_run_ok _ _ _ _ _ _ H.1 e1
          have H := shp_st H T
          j_ifne (pc := 37) D rfl (fun q D =>
            j_aldn (pc := 40) D rfl rfl rfl fun D =>
            j_aldn (pc := 41) D rfl rfl rfl fun D =>
            j_ild (pc := 42) D rfl rfl rfl fun D =>
            j_alr (pc := 44) H.2.1 D rfl rfl fun q q2 D =>
            j_ivu (pc := 45) (dd := 142) (a := [(4, h1 12 x3.toNat x5.toNat)]) (rest := []) H.2.1 D rfl rfl rfl rfl rfl (fun m8 v6 h5 e1 D =>
              have T := fj_run_ok _ _ _ _ _ _ H.1 e1
              have H := shp_st H T
              j_ifeq (pc := 48) D rfl (fun q =>
                have D : fk_D 53 [(81, none, .aload_n 1, 1, 0, 0, 0), (82, none, .iload 5, 2, 0, 0, 0), (84, none, .aaload, 1, 0, 0, 0), (85, none, .aload_n 3, 1, 0, 0, 0), (86, none, .iload 5, 2, 0, 0, 0), (88, none, .aaload, 1, 0, 0, 0), (89, none, .invokevirtual 578, 3, 1, 152, 1)] := fq_of2 cd_53 ow_53 cl_53 rfl (pc := 81) (by decide +kernel)
                j_aldn (pc := 81) D rfl rfl rfl fun D =>
                j_ild (pc := 82) D rfl rfl rfl fun D =>
                j_alr (pc := 84) H.2.1 D rfl rfl fun q q2 D =>
                j_aldn (pc := 85) D rfl rfl rfl fun D =>
                j_ild (pc := 86) D rfl rfl rfl fun D =>
                j_alr (pc := 88) H.2.1 D rfl rfl fun q q2 D =>
                j_ivu (pc := 89) (dd := 152) (a := [(4, h5 12 x3.toNat x5.toNat)]) (rest := []) H.2.1 D rfl rfl rfl rfl rfl (fun m12 v10 h9 e1 D =>
                  have T := fj_run_ok _ _ _ _ _ _ H.1 e1
                  have H := shp_st H T
                  fk_jump cut_53_92 rfl rfl) (fun m12 q11 h9 e1 =>
                  j_tx (hx_53 _))) (fun q D =>
                fk_jump cut_53_51 rfl rfl)) (fun m8 q7 h5 e1 =>
              j_tx (hx_53 _))) (fun q =>
            fk_jump cut_53_51 rfl rfl)) (fun m4 q3 h1 e1 =>
          j_tx (hx_53 _)))) (fun q =>
      have D : fk_D 53 [(100, none, .iload 4, 2, 0, 0, 0), (102, none, .ireturn, 1, 0, 0, 0)] := fq_of2 cd_53 ow_53 cl_53 rfl (pc := 100) (by decide +kernel)
      j_ild (pc := 100) D rfl rfl rfl fun D =>
      j_zret D rt_53 gn)
theorem e_53_51 (d : Nat) (x0 x1 x2 x3 x5 : Int) {h : fi_H} (H : Shp h) : c_53_51 d x0 x1 x2 x3 x5 h =
  if (20 ≤ h 0 x1.toNat 0 ∧ h 0 x1.toNat 0 < 30) ∧ 0 ≤ x5 ∧ x5 < h 1 x1.toNat 0 then
  dv_ (fi_vt 142 (h 0 x0.toNat 0)) fun m4 => ca_ (fj_run d m4 h [(4, x0), (4, h 12 x1.toNat x5.toNat)]) 0
    (fun v2 h1 =>
    if v2 = 0 then
      c_53_77 d x0 x1 x2 x3 x5 h1
    else
      if (20 ≤ h1 0 x3.toNat 0 ∧ h1 0 x3.toNat 0 < 30) ∧ 0 ≤ x5 ∧ x5 < h1 1 x3.toNat 0 then
      dv_ (fi_vt 142 (h1 0 x2.toNat 0)) fun m8 => ca_ (fj_run d m8 h1 [(4, x2), (4, h1 12 x3.toNat x5.toNat)]) 0
        (fun v6 h5 =>
        if v6 = 0 then
          c_53_77 d x0 x1 x2 x3 x5 h5
        else
          c_53_92 d x0 x1 x2 x3 x5 1 h5)
        (fun q7 h5 => tx_ q7 h5)
      else none)
    (fun q3 h1 => tx_ q3 h1)
  else none := by
  unfold c_53_51
  exact
    have D : fk_D 53 [(51, some [0, 1, 2, 3, 5], .aload_n 0, 1, 0, 0, 0), (52, none, .aload_n 1, 1, 0, 0, 0), (53, none, .iload 5, 2, 0, 0, 0), (55, none, .aaload, 1, 0, 0, 0), (56, none, .invokevirtual 496, 3, 1, 142, 1), (59, none, .ifCond .eq 18, 3, 77, 0, 0), (62, none, .aload_n 2, 1, 0, 0, 0), (63, none, .aload_n 3, 1, 0, 0, 0), (64, none, .iload 5, 2, 0, 0, 0), (66, none, .aaload, 1, 0, 0, 0), (67, none, .invokevirtual 496, 3, 1, 142, 1), (70, none, .ifCond .eq 7, 3, 77, 0, 0), (73, none, .iconst 1, 1, 0, 1, 0), (74, none, .goto 18, 3, 92, 0, 0)] := fq_of2 cd_53 ow_53 cl_53 rfl (pc := 51) (by decide +kernel)
    j_aldn (pc := 51) D rfl rfl rfl fun D =>
    j_aldn (pc := 52) D rfl rfl rfl fun D =>
    j_ild (pc := 53) D rfl rfl rfl fun D =>
    j_alr (pc := 55) H.2.1 D rfl rfl fun q q2 D =>
    j_ivu (pc := 56) (dd := 142) (a := [(4, h 12 x1.toNat x5.toNat)]) (rest := []) H.2.1 D rfl rfl rfl rfl rfl (fun m4 v2 h1 e1 D =>
      have T := fj_run_ok _ _ _ _ _ _ H.1 e1
      have H := shp_st H T
      j_ifeq (pc := 59) D rfl (fun q =>
        fk_jump cut_53_77 rfl rfl) (fun q D =>
        j_aldn (pc := 62) D rfl rfl rfl fun D =>
        j_aldn (pc := 63) D rfl rfl rfl fun D =>
        j_ild (pc := 64) D rfl rfl rfl fun D =>
        j_alr (pc := 66) H.2.1 D rfl rfl fun q q2 D =>
        j_ivu (pc := 67) (dd := 142) (a := [(4, h1 12 x3.toNat x5.toNat)]) (rest := []) H.2.1 D rfl rfl rfl rfl rfl (fun m8 v6 h5 e1 D =>
          have T := fj_run_ok _ _ _ _ _ _ H.1 e1
          have H := shp_st H T
          j_ifeq (pc := 70) D rfl (fun q =>
            fk_jump cut_53_77 rfl rfl) (fun q D =>
            j_ic (pc := 73) D rfl fun D =>
            j_goto (pc := 74) D rfl <|
            fk_jump cut_53_92 rfl rfl)) (fun m8 q7 h5 e1 =>
          j_tx (hx_53 _)))) (fun m4 q3 h1 e1 =>
      j_tx (hx_53 _))
theorem e_53_77 (d : Nat) (x0 x1 x2 x3 x5 : Int) {h : fi_H} (H : Shp h) : c_53_77 d x0 x1 x2 x3 x5 h =
  c_53_92 d x0 x1 x2 x3 x5 0 h := by
  unfold c_53_77
  exact
    have D : fk_D 53 [(77, some [0, 1, 2, 3, 5], .iconst 0, 1, 0, 0, 0), (78, none, .goto 14, 3, 92, 0, 0)] := fq_of2 cd_53 ow_53 cl_53 rfl (pc := 77) (by decide +kernel)
    j_ic (pc := 77) D rfl fun D =>
    j_goto (pc := 78) D rfl <|
    fk_jump cut_53_92 rfl rfl
theorem e_53_92 (d : Nat) (x0 x1 x2 x3 x5 s0 : Int) {h : fi_H} (H : Shp h) : c_53_92 d x0 x1 x2 x3 x5 s0 h =
  c_53_17 d x0 x1 x2 x3 s0 (wI (x5 + 1)) h := by
  unfold c_53_92
  exact
    have D : fk_D 53 [(92, some [0, 1, 2, 3, 5], .istore 4, 2, 0, 0, 0), (94, none, .iinc 5 1, 3, 0, 1, 0), (97, none, .goto (-80), 3, 17, 0, 0)] := fq_of2 cd_53 ow_53 cl_53 rfl (pc := 92) (by decide +kernel)
    j_ist (pc := 92) (L' := [(4, (0, s0)), (0, (4, x0)), (1, (4, x1)), (2, (4, x2)), (3, (4, x3)), (5, (0, x5))]) D rfl nl_53 rfl rfl fun D =>
    j_inc (pc := 94) (L' := [(5, (0, wI (x5 + 1))), (4, (0, s0)), (0, (4, x0)), (1, (4, x1)), (2, (4, x2)), (3, (4, x3))]) D rfl rfl rfl (by decide +kernel) rfl fun D =>
    j_goto (pc := 97) D rfl <|
    fk_jump cut_53_17 rfl rfl
theorem m_53 (d : Nat) (x0 x1 x2 x3 : Int) {h : fi_H} (H : Shp h) : fj_run (d + 1) 53 h [(4, x0), (4, x1), (4, x2), (4, x3)] =
  if fk_isA (h 0 x1.toNat 0) = true then
  if fk_isA (h 0 x3.toNat 0) = true then
  if h 1 x1.toNat 0 = h 1 x3.toNat 0 then
    c_53_12 d x0 x1 x2 x3 1 h
  else
    c_53_12 d x0 x1 x2 x3 0 h
  else none
  else none := by
  rw [fj_run_eq d (by decide) h [(4, x0), (4, x1), (4, x2), (4, x3)] (Nat.le_of_ble_eq_true (by rw [nl_53]; rfl))]
  show gG (fj_run d) 53 0 [(0, (4, x0)), (1, (4, x1)), (2, (4, x2)), (3, (4, x3))] [] h = _
  exact
    have D : fk_D 53 [(0, none, .aload_n 1, 1, 0, 0, 0), (1, none, .arraylength, 1, 0, 0, 0), (2, none, .aload_n 3, 1, 0, 0, 0), (3, none, .arraylength, 1, 0, 0, 0), (4, none, .if_icmp .ne 7, 3, 11, 0, 0), (7, none, .iconst 1, 1, 0, 1, 0), (8, none, .goto 4, 3, 12, 0, 0)] := fq_of2 cd_53 ow_53 cl_53 rfl (pc := 0) (by decide +kernel)
    j_aldn (pc := 0) D rfl rfl rfl fun D =>
    j_lenu (pc := 1) H.2.1 D rfl fun q D =>
    j_aldn (pc := 2) D rfl rfl rfl fun D =>
    j_lenu (pc := 3) H.2.1 D rfl fun q D =>
    j_ine (pc := 4) D rfl (fun q D =>
      j_ic (pc := 7) D rfl fun D =>
      j_goto (pc := 8) D rfl <|
      fk_jump cut_53_12 rfl rfl) (fun q =>
      have D : fk_D 53 [(11, none, .iconst 0, 1, 0, 0, 0)] := fq_of2 cd_53 ow_53 cl_53 rfl (pc := 11) (by decide +kernel)
      j_ic (pc := 11) D rfl fun D =>
      fk_jump cut_53_12 rfl rfl)
/-! 54 StatuteHouse$Rule.isLike(LStatuteHouse$Rule;)Z -/
theorem cd_54 : fi_code 54 = prog_55_method_2_code := rfl
theorem hx_54 : ∀ pc, fi_hat 54 pc = none := fun pc => by unfold fi_hat; rw [show fi_hh 54 = [] from rfl]; rfl
theorem rt_54 : fi_ret 54 = some .boolean := rfl
theorem nl_54 : fi_nl 54 = 2 := rfl
theorem ow_54 : fi_ow 54 = 17 := rfl
theorem cl_54 : fj_cutT.getD 54 [] = [(16, [0, 1]), (47, [0, 1])] := rfl
theorem cut_54_16 : fj_cut 54 16 = some [0, 1] := by decide +kernel
noncomputable def c_54_16 (d : Nat) (x0 x1 : Int) (h : fi_H) : fk_R := gG (fj_run d) 54 16 [(0, (4, x0)), (1, (4, x1))] [] h
theorem cut_54_47 : fj_cut 54 47 = some [0, 1] := by decide +kernel
noncomputable def c_54_47 (d : Nat) (x0 x1 : Int) (h : fi_H) : fk_R := gG (fj_run d) 54 47 [(0, (4, x0)), (1, (4, x1))] [] h
theorem e_54_16 (d : Nat) (x0 x1 : Int) {h : fi_H} (H : Shp h) (hk : h 0 x0.toNat 0 = 117) : c_54_16 d x0 x1 h =
  if h 0 x1.toNat 0 = 117 then
  if h 137 x0.toNat 0 = h 137 x1.toNat 0 then
    some (.inl (some (0, 1)), h)
  else
    some (.inl (some (0, 0)), h)
  else none := by
  unfold c_54_16
  exact
    have D : fk_D 54 [(16, some [0, 1], .aload_n 0, 1, 0, 0, 0), (17, none, .getfield 21, 3, 137, 117, 10), (20, none, .aload_n 1, 1, 0, 0, 0), (21, none, .getfield 21, 3, 137, (-117), 10), (24, none, .if_icmp .ne 7, 3, 31, 0, 0), (27, none, .iconst 1, 1, 0, 1, 0), (28, none, .goto 4, 3, 32, 0, 0)] := fq_of2 cd_54 ow_54 cl_54 rfl (pc := 16) (by decide +kernel)
    j_aldn (pc := 16) D rfl rfl rfl fun D =>
    j_gf (pc := 17) (a := x0.toNat) D rfl rfl (nz_cls H.2.1 hk (by decide)) rfl hk rfl fun D =>
    j_aldn (pc := 20) D rfl rfl rfl fun D =>
    j_gfo (pc := 21) H.2.1 D rfl rfl rfl rfl fun kc1 D =>
    j_ine (pc := 24) D rfl (fun q D =>
      j_ic (pc := 27) D rfl fun D =>
      j_goto (pc := 28) D rfl <|
      have D : fk_D 54 [(32, none, .ireturn, 1, 0, 0, 0)] := fq_of2 cd_54 ow_54 cl_54 rfl (pc := 32) (by decide +kernel)
      j_zret D rt_54 (gy (by decide))) (fun q =>
      have D : fk_D 54 [(31, none, .iconst 0, 1, 0, 0, 0), (32, none, .ireturn, 1, 0, 0, 0)] := fq_of2 cd_54 ow_54 cl_54 rfl (pc := 31) (by decide +kernel)
      j_ic (pc := 31) D rfl fun D =>
      j_zret D rt_54 (gy (by decide)))
theorem e_54_47 (d : Nat) (x0 x1 : Int) {h : fi_H} (H : Shp h) (hk : h 0 x0.toNat 0 = 117) : c_54_47 d x0 x1 h =
  if h 0 x1.toNat 0 = 117 then
  if h 137 x0.toNat 0 = h 137 x1.toNat 0 then
    if h 142 x0.toNat 0 = 0 then
      some (.inl (some (0, 0)), h)
    else
      if h 142 x1.toNat 0 = 0 then
        some (.inl (some (0, 0)), h)
      else
        ca_ (fj_run d 55 h [(4, x0), (4, x1)]) 0
          (fun v3 h2 =>
          if v3 = 0 then
            some (.inl (some (0, 0)), h2)
          else
            some (.inl (some (0, 1)), h2))
          (fun q4 h2 => tx_ q4 h2)
  else
    some (.inl (some (0, 0)), h)
  else none := by
  unfold c_54_47
  exact
    have D : fk_D 54 [(47, some [0, 1], .aload_n 0, 1, 0, 0, 0), (48, none, .getfield 21, 3, 137, 117, 10), (51, none, .aload_n 1, 1, 0, 0, 0), (52, none, .getfield 21, 3, 137, (-117), 10), (55, none, .if_icmp .ne 29, 3, 84, 0, 0), (58, none, .aload_n 0, 1, 0, 0, 0), (59, none, .getfield 30, 3, 142, 117, 12), (62, none, .ifnull 22, 3, 84, 0, 0), (65, none, .aload_n 1, 1, 0, 0, 0), (66, none, .getfield 30, 3, 142, 117, 12), (69, none, .ifnull 15, 3, 84, 0, 0), (72, none, .aload_n 0, 1, 0, 0, 0), (73, none, .aload_n 1, 1, 0, 0, 0), (74, none, .invokevirtual 34, 3, 1, 242, 1), (77, none, .ifCond .eq 7, 3, 84, 0, 0), (80, none, .iconst 1, 1, 0, 1, 0), (81, none, .goto 4, 3, 85, 0, 0)] := fq_of2 cd_54 ow_54 cl_54 rfl (pc := 47) (by decide +kernel)
    j_aldn (pc := 47) D rfl rfl rfl fun D =>
    j_gf (pc := 48) (a := x0.toNat) D rfl rfl (nz_cls H.2.1 hk (by decide)) rfl hk rfl fun D =>
    j_aldn (pc := 51) D rfl rfl rfl fun D =>
    j_gfo (pc := 52) H.2.1 D rfl rfl rfl rfl fun kc1 D =>
    j_ine (pc := 55) D rfl (fun q D =>
      j_aldn (pc := 58) D rfl rfl rfl fun D =>
      j_gf (pc := 59) (a := x0.toNat) D rfl rfl (nz_cls H.2.1 hk (by decide)) rfl hk rfl fun D =>
      j_null (pc := 62) D rfl (fun q =>
        have D : fk_D 54 [(84, none, .iconst 0, 1, 0, 0, 0), (85, none, .ireturn, 1, 0, 0, 0)] := fq_of2 cd_54 ow_54 cl_54 rfl (pc := 84) (by decide +kernel)
        j_ic (pc := 84) D rfl fun D =>
        j_zret D rt_54 (gy (by decide))) (fun q D =>
        j_aldn (pc := 65) D rfl rfl rfl fun D =>
        j_gf (pc := 66) (a := x1.toNat) D rfl rfl (nz_cls H.2.1 kc1 (by decide)) rfl kc1 rfl fun D =>
        j_null (pc := 69) D rfl (fun q =>
          have D : fk_D 54 [(84, none, .iconst 0, 1, 0, 0, 0), (85, none, .ireturn, 1, 0, 0, 0)] := fq_of2 cd_54 ow_54 cl_54 rfl (pc := 84) (by decide +kernel)
          j_ic (pc := 84) D rfl fun D =>
          j_zret D rt_54 (gy (by decide))) (fun q D =>
          j_aldn (pc := 72) D rfl rfl rfl fun D =>
          j_aldn (pc := 73) D rfl rfl rfl fun D =>
          j_iv (pc := 74) (m := 55) (dd := 242) (a := [(4, x1)]) (rest := []) D rfl rfl rfl rfl rfl (nz_cls H.2.1 hk (by decide)) hk (by decide +kernel) (fun v3 h2 e1 D =>
            have T := fj_run_ok _ _ _ _ _ _ H.1 e1
            have hk := cls_st H.1 T.2 hk (by decide)
            have kc1 := cls_st H.1 T.2 kc1 (by decide)
            have H := shp_st H T
            j_ifeq (pc := 77) D rfl (fun q =>
              have D : fk_D 54 [(84, none, .iconst 0, 1, 0, 0, 0), (85, none, .ireturn, 1, 0, 0, 0)] := fq_of2 cd_54 ow_54 cl_54 rfl (pc := 84) (by decide +kernel)
              j_ic (pc := 84) D rfl fun D =>
              j_zret D rt_54 (gy (by decide))) (fun q D =>
              j_ic (pc := 80) D rfl fun D =>
              j_goto (pc := 81) D rfl <|
              have D : fk_D 54 [(85, none, .ireturn, 1, 0, 0, 0)] := fq_of2 cd_54 ow_54 cl_54 rfl (pc := 85) (by decide +kernel)
              j_zret D rt_54 (gy (by decide)))) (fun q4 h2 e1 =>
            j_tx (hx_54 _))))) (fun q =>
      have D : fk_D 54 [(84, none, .iconst 0, 1, 0, 0, 0), (85, none, .ireturn, 1, 0, 0, 0)] := fq_of2 cd_54 ow_54 cl_54 rfl (pc := 84) (by decide +kernel)
      j_ic (pc := 84) D rfl fun D =>
      j_zret D rt_54 (gy (by decide)))
theorem m_54 (d : Nat) (x0 x1 : Int) {h : fi_H} (H : Shp h) (hk : h 0 x0.toNat 0 = 117) : fj_run (d + 1) 54 h [(4, x0), (4, x1)] =
  if h 137 x0.toNat 0 = (-1) then
    c_54_16 d x0 x1 h
  else
    if h 0 x1.toNat 0 = 117 then
    if h 137 x1.toNat 0 = (-1) then
      c_54_16 d x0 x1 h
    else
      if h 142 x0.toNat 0 = 0 then
        if h 142 x1.toNat 0 = 0 then
          if h 137 x0.toNat 0 = h 137 x1.toNat 0 then
            if h 138 x0.toNat 0 = h 138 x1.toNat 0 then
              if h 139 x0.toNat 0 = h 139 x1.toNat 0 then
                dv_ (fi_vt 212 (h 0 (h 140 x0.toNat 0).toNat 0)) fun m5 => ca_ (fj_run d m5 h [(4, h 140 x0.toNat 0), (4, h 140 x1.toNat 0)]) 0
                  (fun v3 h2 =>
                  if v3 = 0 then
                    some (.inl (some (0, 0)), h2)
                  else
                    if h2 141 x0.toNat 0 = 0 then
                      if h2 141 x1.toNat 0 = 0 then
                        some (.inl (some (0, 1)), h2)
                      else
                        some (.inl (some (0, 0)), h2)
                    else
                      if h2 141 x1.toNat 0 = 0 then
                        some (.inl (some (0, 0)), h2)
                      else
                        dv_ (fi_vt 212 (h2 0 (h2 141 x0.toNat 0).toNat 0)) fun m9 => ca_ (fj_run d m9 h2 [(4, h2 141 x0.toNat 0), (4, h2 141 x1.toNat 0)]) 0
                          (fun v7 h6 =>
                          if v7 = 0 then
                            some (.inl (some (0, 0)), h6)
                          else
                            some (.inl (some (0, 1)), h6))
                          (fun q8 h6 => tx_ q8 h6))
                  (fun q4 h2 => tx_ q4 h2)
              else
                some (.inl (some (0, 0)), h)
            else
              some (.inl (some (0, 0)), h)
          else
            some (.inl (some (0, 0)), h)
        else
          c_54_47 d x0 x1 h
      else
        c_54_47 d x0 x1 h
    else none := by
  rw [fj_run_eq d (by decide) h [(4, x0), (4, x1)] (Nat.le_of_ble_eq_true (by rw [nl_54]; rfl))]
  show gG (fj_run d) 54 0 [(0, (4, x0)), (1, (4, x1))] [] h = _
  exact
    have D : fk_D 54 [(0, none, .aload_n 0, 1, 0, 0, 0), (1, none, .getfield 21, 3, 137, 117, 10), (4, none, .iconst (-1), 1, 0, (-1), 0), (5, none, .if_icmp .eq 11, 3, 16, 0, 0), (8, none, .aload_n 1, 1, 0, 0, 0), (9, none, .getfield 21, 3, 137, (-117), 10), (12, none, .iconst (-1), 1, 0, (-1), 0), (13, none, .if_icmp .ne 20, 3, 33, 0, 0)] := fq_of2 cd_54 ow_54 cl_54 rfl (pc := 0) (by decide +kernel)
    j_aldn (pc := 0) D rfl rfl rfl fun D =>
    j_gf (pc := 1) (a := x0.toNat) D rfl rfl (nz_cls H.2.1 hk (by decide)) rfl hk rfl fun D =>
    j_ic (pc := 4) D rfl fun D =>
    j_ieq (pc := 5) D rfl (fun q =>
      fk_jump cut_54_16 rfl rfl) (fun q D =>
      j_aldn (pc := 8) D rfl rfl rfl fun D =>
      j_gfo (pc := 9) H.2.1 D rfl rfl rfl rfl fun kc1 D =>
      j_ic (pc := 12) D rfl fun D =>
      j_ine (pc := 13) D rfl (fun q D =>
        fk_jump cut_54_16 rfl rfl) (fun q =>
        have D : fk_D 54 [(33, none, .aload_n 0, 1, 0, 0, 0), (34, none, .getfield 30, 3, 142, 117, 12), (37, none, .ifnonnull 10, 3, 47, 0, 0), (40, none, .aload_n 1, 1, 0, 0, 0), (41, none, .getfield 30, 3, 142, 117, 12), (44, none, .ifnull 42, 3, 86, 0, 0)] := fq_of2 cd_54 ow_54 cl_54 rfl (pc := 33) (by decide +kernel)
        j_aldn (pc := 33) D rfl rfl rfl fun D =>
        j_gf (pc := 34) (a := x0.toNat) D rfl rfl (nz_cls H.2.1 hk (by decide)) rfl hk rfl fun D =>
        j_nonnull (pc := 37) D rfl (fun q D =>
          j_aldn (pc := 40) D rfl rfl rfl fun D =>
          j_gf (pc := 41) (a := x1.toNat) D rfl rfl (nz_cls H.2.1 kc1 (by decide)) rfl kc1 rfl fun D =>
          j_null (pc := 44) D rfl (fun q =>
            have D : fk_D 54 [(86, none, .aload_n 0, 1, 0, 0, 0), (87, none, .getfield 21, 3, 137, 117, 10), (90, none, .aload_n 1, 1, 0, 0, 0), (91, none, .getfield 21, 3, 137, 117, 10), (94, none, .if_icmp .ne 39, 3, 133, 0, 0), (97, none, .aload_n 0, 1, 0, 0, 0), (98, none, .getfield 24, 3, 138, 117, 10), (101, none, .aload_n 1, 1, 0, 0, 0), (102, none, .getfield 24, 3, 138, 117, 10), (105, none, .if_icmp .ne 28, 3, 133, 0, 0), (108, none, .aload_n 0, 1, 0, 0, 0), (109, none, .getfield 27, 3, 139, 117, 10), (112, none, .aload_n 1, 1, 0, 0, 0), (113, none, .getfield 27, 3, 139, 117, 10), (116, none, .if_icmp .ne 17, 3, 133, 0, 0), (119, none, .aload_n 0, 1, 0, 0, 0), (120, none, .getfield 38, 3, 140, 117, 12), (123, none, .aload_n 1, 1, 0, 0, 0), (124, none, .getfield 38, 3, 140, 117, 12), (127, none, .invokevirtual 42, 3, 1, 212, 1)] := fq_of2 cd_54 ow_54 cl_54 rfl (pc := 86) (by decide +kernel)
            j_aldn (pc := 86) D rfl rfl rfl fun D =>
            j_gf (pc := 87) (a := x0.toNat) D rfl rfl (nz_cls H.2.1 hk (by decide)) rfl hk rfl fun D =>
            j_aldn (pc := 90) D rfl rfl rfl fun D =>
            j_gf (pc := 91) (a := x1.toNat) D rfl rfl (nz_cls H.2.1 kc1 (by decide)) rfl kc1 rfl fun D =>
            j_ine (pc := 94) D rfl (fun q D =>
              j_aldn (pc := 97) D rfl rfl rfl fun D =>
              j_gf (pc := 98) (a := x0.toNat) D rfl rfl (nz_cls H.2.1 hk (by decide)) rfl hk rfl fun D =>
              j_aldn (pc := 101) D rfl rfl rfl fun D =>
              j_gf (pc := 102) (a := x1.toNat) D rfl rfl (nz_cls H.2.1 kc1 (by decide)) rfl kc1 rfl fun D =>
              j_ine (pc := 105) D rfl (fun q D =>
                j_aldn (pc := 108) D rfl rfl rfl fun D =>
                j_gf (pc := 109) (a := x0.toNat) D rfl rfl (nz_cls H.2.1 hk (by decide)) rfl hk rfl fun D =>
                j_aldn (pc := 112) D rfl rfl rfl fun D =>
                j_gf (pc := 113) (a := x1.toNat) D rfl rfl (nz_cls H.2.1 kc1 (by decide)) rfl kc1 rfl fun D =>
                j_ine (pc := 116) D rfl (fun q D =>
                  j_aldn (pc := 119) D rfl rfl rfl fun D =>
                  j_gf (pc := 120) (a := x0.toNat) D rfl rfl (nz_cls H.2.1 hk (by decide)) rfl hk rfl fun D =>
                  j_aldn (pc := 123) D rfl rfl rfl fun D =>
                  j_gf (pc := 124) (a := x1.toNat) D rfl rfl (nz_cls H.2.1 kc1 (by decide)) rfl kc1 rfl fun D =>
                  j_ivu (pc := 127) (dd := 212) (a := [(4, h 140 x1.toNat 0)]) (rest := []) H.2.1 D rfl rfl rfl rfl rfl (fun m5 v3 h2 e1 D =>
                    have T := fj_run_ok _ _ _ _ _ _ H.1 e1
                    have hk := cls_st H.1 T.2 hk (by decide)
                    have kc1 := cls_st H.1 T.2 kc1 (by decide)
                    have H := shp_st H T
                    have D : fk_D 54 [(130, none, .ifCond .ne 5, 3, 135, 0, 0), (133, none, .iconst 0, 1, 0, 0, 0), (134, none, .ireturn, 1, 0, 0, 0)] := fq_of2 cd_54 ow_54 cl_54 rfl (pc := 130) (by decide +kernel)
                    j_ifne (pc := 130) D rfl (fun q D =>
                      j_ic (pc := 133) D rfl fun D =>
                      j_zret D rt_54 (gy (by decide))) (fun q =>
                      have D : fk_D 54 [(135, none, .aload_n 0, 1, 0, 0, 0), (136, none, .getfield 48, 3, 141, 117, 12), (139, none, .ifnonnull 18, 3, 157, 0, 0), (142, none, .aload_n 1, 1, 0, 0, 0), (143, none, .getfield 48, 3, 141, 117, 12), (146, none, .ifnonnull 7, 3, 153, 0, 0), (149, none, .iconst 1, 1, 0, 1, 0), (150, none, .goto 33, 3, 183, 0, 0)] := fq_of2 cd_54 ow_54 cl_54 rfl (pc := 135) (by decide +kernel)
                      j_aldn (pc := 135) D rfl rfl rfl fun D =>
                      j_gf (pc := 136) (a := x0.toNat) D rfl rfl (nz_cls H.2.1 hk (by decide)) rfl hk rfl fun D =>
                      j_nonnull (pc := 139) D rfl (fun q D =>
                        j_aldn (pc := 142) D rfl rfl rfl fun D =>
                        j_gf (pc := 143) (a := x1.toNat) D rfl rfl (nz_cls H.2.1 kc1 (by decide)) rfl kc1 rfl fun D =>
                        j_nonnull (pc := 146) D rfl (fun q D =>
                          j_ic (pc := 149) D rfl fun D =>
                          j_goto (pc := 150) D rfl <|
                          have D : fk_D 54 [(183, none, .ireturn, 1, 0, 0, 0)] := fq_of2 cd_54 ow_54 cl_54 rfl (pc := 183) (by decide +kernel)
                          j_zret D rt_54 (gy (by decide))) (fun q =>
                          have D : fk_D 54 [(153, none, .iconst 0, 1, 0, 0, 0), (154, none, .goto 29, 3, 183, 0, 0)] := fq_of2 cd_54 ow_54 cl_54 rfl (pc := 153) (by decide +kernel)
                          j_ic (pc := 153) D rfl fun D =>
                          j_goto (pc := 154) D rfl <|
                          have D : fk_D 54 [(183, none, .ireturn, 1, 0, 0, 0)] := fq_of2 cd_54 ow_54 cl_54 rfl (pc := 183) (by decide +kernel)
                          j_zret D rt_54 (gy (by decide)))) (fun q =>
                        have D : fk_D 54 [(157, none, .aload_n 1, 1, 0, 0, 0), (158, none, .getfield 48, 3, 141, 117, 12), (161, none, .ifnull 21, 3, 182, 0, 0), (164, none, .aload_n 0, 1, 0, 0, 0), (165, none, .getfield 48, 3, 141, 117, 12), (168, none, .aload_n 1, 1, 0, 0, 0), (169, none, .getfield 48, 3, 141, 117, 12), (172, none, .invokevirtual 42, 3, 1, 212, 1), (175, none, .ifCond .eq 7, 3, 182, 0, 0), (178, none, .iconst 1, 1, 0, 1, 0), (179, none, .goto 4, 3, 183, 0, 0)] := fq_of2 cd_54 ow_54 cl_54 rfl (pc := 157) (by decide +kernel)
                        j_aldn (pc := 157) D rfl rfl rfl fun D =>
                        j_gf (pc := 158) (a := x1.toNat) D rfl rfl (nz_cls H.2.1 kc1 (by decide)) rfl kc1 rfl fun D =>
                        j_null (pc := 161) D rfl (fun q =>
                          have D : fk_D 54 [(182, none, .iconst 0, 1, 0, 0, 0), (183, none, .ireturn, 1, 0, 0, 0)] := fq_of2 cd_54 ow_54 cl_54 rfl (pc := 182) (by decide +kernel)
                          j_ic (pc := 182) D rfl fun D =>
                          j_zret D rt_54 (gy (by decide))) (fun q D =>
                          j_aldn (pc := 164) D rfl rfl rfl fun D =>
                          j_gf (pc := 165) (a := x0.toNat) D rfl rfl (nz_cls H.2.1 hk (by decide)) rfl hk rfl fun D =>
                          j_aldn (pc := 168) D rfl rfl rfl fun D =>
                          j_gf (pc := 169) (a := x1.toNat) D rfl rfl (nz_cls H.2.1 kc1 (by decide)) rfl kc1 rfl fun D =>
                          j_ivu (pc := 172) (dd := 212) (a := [(4, h2 141 x1.toNat 0)]) (rest := []) H.2.1 D rfl rfl rfl rfl rfl (fun m9 v7 h6 e1 D =>
                            have T := fj_run_ok _ _ _ _ _ _ H.1 e1
                            have hk := cls_st H.1 T.2 hk (by decide)
                            have kc1 := cls_st H.1 T.2 kc1 (by decide)
                            have H := shp_st H T
                            j_ifeq (pc := 175) D rfl (fun q =>
                              have D : fk_D 54 [(182, none, .iconst 0, 1, 0, 0, 0), (183, none, .ireturn, 1, 0, 0, 0)] := fq_of2 cd_54 ow_54 cl_54 rfl (pc := 182) (by decide +kernel)
                              j_ic (pc := 182) D rfl fun D =>
                              j_zret D rt_54 (gy (by decide))) (fun q D =>
                              j_ic (pc := 178) D rfl fun D =>
                              j_goto (pc := 179) D rfl <|
                              have D : fk_D 54 [(183, none, .ireturn, 1, 0, 0, 0)] := fq_of2 cd_54 ow_54 cl_54 rfl (pc := 183) (by decide +kernel)
                              j_zret D rt_54 (gy (by decide)))) (fun m9 q8 h6 e1 =>
                            j_tx (hx_54 _)))))) (fun m5 q4 h2 e1 =>
                    j_tx (hx_54 _))) (fun q =>
                  have D : fk_D 54 [(133, none, .iconst 0, 1, 0, 0, 0), (134, none, .ireturn, 1, 0, 0, 0)] := fq_of2 cd_54 ow_54 cl_54 rfl (pc := 133) (by decide +kernel)
                  j_ic (pc := 133) D rfl fun D =>
                  j_zret D rt_54 (gy (by decide)))) (fun q =>
                have D : fk_D 54 [(133, none, .iconst 0, 1, 0, 0, 0), (134, none, .ireturn, 1, 0, 0, 0)] := fq_of2 cd_54 ow_54 cl_54 rfl (pc := 133) (by decide +kernel)
                j_ic (pc := 133) D rfl fun D =>
                j_zret D rt_54 (gy (by decide)))) (fun q =>
              have D : fk_D 54 [(133, none, .iconst 0, 1, 0, 0, 0), (134, none, .ireturn, 1, 0, 0, 0)] := fq_of2 cd_54 ow_54 cl_54 rfl (pc := 133) (by decide +kernel)
              j_ic (pc := 133) D rfl fun D =>
              j_zret D rt_54 (gy (by decide)))) (fun q D =>
            fk_jump cut_54_47 rfl rfl)) (fun q =>
          fk_jump cut_54_47 rfl rfl)))
/-! 55 StatuteHouse$Rule.areRows(LStatuteHouse$Rule;)Z -/
theorem cd_55 : fi_code 55 = prog_55_method_3_code := rfl
theorem hx_55 : ∀ pc, fi_hat 55 pc = none := fun pc => by unfold fi_hat; rw [show fi_hh 55 = [] from rfl]; rfl
theorem rt_55 : fi_ret 55 = some .boolean := rfl
theorem nl_55 : fi_nl 55 = 4 := rfl
theorem ow_55 : fi_ow 55 = 17 := rfl
theorem cl_55 : fj_cutT.getD 55 [] = [(18, [0, 1]), (21, [0, 1, 2, 3]), (83, [0, 1, 3]), (84, [0, 1, 3])] := rfl
theorem cut_55_18 : fj_cut 55 18 = some [0, 1] := by decide +kernel
noncomputable def c_55_18 (d : Nat) (x0 x1 s0 : Int) (h : fi_H) : fk_R := gG (fj_run d) 55 18 [(0, (4, x0)), (1, (4, x1))] [(0, s0)] h
theorem cut_55_21 : fj_cut 55 21 = some [0, 1, 2, 3] := by decide +kernel
noncomputable def c_55_21 (d : Nat) (x0 x1 x2 x3 : Int) (h : fi_H) : fk_R := gG (fj_run d) 55 21 [(0, (4, x0)), (1, (4, x1)), (2, (0, x2)), (3, (0, x3))] [] h
theorem cut_55_83 : fj_cut 55 83 = some [0, 1, 3] := by decide +kernel
noncomputable def c_55_83 (d : Nat) (x0 x1 x3 : Int) (h : fi_H) : fk_R := gG (fj_run d) 55 83 [(0, (4, x0)), (1, (4, x1)), (3, (0, x3))] [] h
theorem cut_55_84 : fj_cut 55 84 = some [0, 1, 3] := by decide +kernel
noncomputable def c_55_84 (d : Nat) (x0 x1 x3 s0 : Int) (h : fi_H) : fk_R := gG (fj_run d) 55 84 [(0, (4, x0)), (1, (4, x1)), (3, (0, x3))] [(0, s0)] h
theorem e_55_18 (d : Nat) (x0 x1 s0 : Int) {h : fi_H} (H : Shp h) (hk : h 0 x0.toNat 0 = 117) : c_55_18 d x0 x1 s0 h =
  c_55_21 d x0 x1 s0 0 h := by
  unfold c_55_18
  exact
    have D : fk_D 55 [(18, some [0, 1], .istore_n 2, 1, 0, 0, 0), (19, none, .iconst 0, 1, 0, 0, 0), (20, none, .istore_n 3, 1, 0, 0, 0)] := fq_of2 cd_55 ow_55 cl_55 rfl (pc := 18) (by decide +kernel)
    j_istn (pc := 18) (L' := [(2, (0, s0)), (0, (4, x0)), (1, (4, x1))]) D rfl nl_55 rfl rfl fun D =>
    j_ic (pc := 19) D rfl fun D =>
    j_istn (pc := 20) (L' := [(3, (0, 0)), (2, (0, s0)), (0, (4, x0)), (1, (4, x1))]) D rfl nl_55 rfl rfl fun D =>
    fk_jump cut_55_21 rfl rfl
theorem e_55_21 (d : Nat) (x0 x1 x2 x3 : Int) {h : fi_H} (H : Shp h) (hk : h 0 x0.toNat 0 = 117) : c_55_21 d x0 x1 x2 x3 h =
  if fk_isA (h 0 (h 142 x0.toNat 0).toNat 0) = true then
  if x3 < h 1 (h 142 x0.toNat 0).toNat 0 then
    if x2 = 0 then
      if x2 = 0 ∨ x2 = 1 then some (.inl (some (0, x2)), h) else none
    else
      if h 0 (h 142 x0.toNat 0).toNat 0 = 10 ∧ 0 ≤ x3 ∧ x3 < h 1 (h 142 x0.toNat 0).toNat 0 then
      if h 0 x1.toNat 0 = 117 then
      if h 0 (h 142 x1.toNat 0).toNat 0 = 10 ∧ 0 ≤ x3 ∧ x3 < h 1 (h 142 x1.toNat 0).toNat 0 then
      if h 10 (h 142 x0.toNat 0).toNat x3.toNat = h 10 (h 142 x1.toNat 0).toNat x3.toNat then
        if h 0 (h 143 x0.toNat 0).toNat 0 = 10 ∧ 0 ≤ x3 ∧ x3 < h 1 (h 143 x0.toNat 0).toNat 0 then
        if h 0 (h 143 x1.toNat 0).toNat 0 = 10 ∧ 0 ≤ x3 ∧ x3 < h 1 (h 143 x1.toNat 0).toNat 0 then
        if h 10 (h 143 x0.toNat 0).toNat x3.toNat = h 10 (h 143 x1.toNat 0).toNat x3.toNat then
          if h 0 (h 144 x0.toNat 0).toNat 0 = 10 ∧ 0 ≤ x3 ∧ x3 < h 1 (h 144 x0.toNat 0).toNat 0 then
          if h 0 (h 144 x1.toNat 0).toNat 0 = 10 ∧ 0 ≤ x3 ∧ x3 < h 1 (h 144 x1.toNat 0).toNat 0 then
          if h 10 (h 144 x0.toNat 0).toNat x3.toNat = h 10 (h 144 x1.toNat 0).toNat x3.toNat then
            c_55_84 d x0 x1 x3 1 h
          else
            c_55_83 d x0 x1 x3 h
          else none
          else none
        else
          c_55_83 d x0 x1 x3 h
        else none
        else none
      else
        c_55_83 d x0 x1 x3 h
      else none
      else none
      else none
  else
    if x2 = 0 ∨ x2 = 1 then some (.inl (some (0, x2)), h) else none
  else none := by
  unfold c_55_21
  exact
    have D : fk_D 55 [(21, some [0, 1, 2, 3], .iload_n 3, 1, 0, 0, 0), (22, none, .aload_n 0, 1, 0, 0, 0), (23, none, .getfield 30, 3, 142, 117, 12), (26, none, .arraylength, 1, 0, 0, 0), (27, none, .if_icmp .ge 64, 3, 91, 0, 0), (30, none, .iload_n 2, 1, 0, 0, 0), (31, none, .ifCond .eq 60, 3, 91, 0, 0), (34, none, .aload_n 0, 1, 0, 0, 0), (35, none, .getfield 30, 3, 142, 117, 12), (38, none, .iload_n 3, 1, 0, 0, 0), (39, none, .iaload, 1, 0, 0, 0), (40, none, .aload_n 1, 1, 0, 0, 0), (41, none, .getfield 30, 3, 142, (-117), 12), (44, none, .iload_n 3, 1, 0, 0, 0), (45, none, .iaload, 1, 0, 0, 0), (46, none, .if_icmp .ne 37, 3, 83, 0, 0), (49, none, .aload_n 0, 1, 0, 0, 0), (50, none, .getfield 51, 3, 143, 117, 12), (53, none, .iload_n 3, 1, 0, 0, 0), (54, none, .iaload, 1, 0, 0, 0)] := fq_of2 cd_55 ow_55 cl_55 rfl (pc := 21) (by decide +kernel)
    j_ildn (pc := 21) D rfl rfl rfl fun D =>
    j_aldn (pc := 22) D rfl rfl rfl fun D =>
    j_gf (pc := 23) (a := x0.toNat) D rfl rfl (nz_cls H.2.1 hk (by decide)) rfl hk rfl fun D =>
    j_lenu (pc := 26) H.2.1 D rfl fun q D =>
    j_ige (pc := 27) D rfl (fun q D =>
      j_ildn (pc := 30) D rfl rfl rfl fun D =>
      j_ifeq (pc := 31) D rfl (fun q =>
        have D : fk_D 55 [(91, none, .iload_n 2, 1, 0, 0, 0), (92, none, .ireturn, 1, 0, 0, 0)] := fq_of2 cd_55 ow_55 cl_55 rfl (pc := 91) (by decide +kernel)
        j_ildn (pc := 91) D rfl rfl rfl fun D =>
        j_zret D rt_55 gn) (fun q D =>
        j_aldn (pc := 34) D rfl rfl rfl fun D =>
        j_gf (pc := 35) (a := x0.toNat) D rfl rfl (nz_cls H.2.1 hk (by decide)) rfl hk rfl fun D =>
        j_ildn (pc := 38) D rfl rfl rfl fun D =>
        j_alp (pc := 39) (e := 10) H.2.1 D rfl rfl ⟨rfl, rfl, rfl⟩ rfl fun q q2 D =>
        j_aldn (pc := 40) D rfl rfl rfl fun D =>
        j_gfo (pc := 41) H.2.1 D rfl rfl rfl rfl fun kc1 D =>
        j_ildn (pc := 44) D rfl rfl rfl fun D =>
        j_alp (pc := 45) (e := 10) H.2.1 D rfl rfl ⟨rfl, rfl, rfl⟩ rfl fun q q2 D =>
        j_ine (pc := 46) D rfl (fun q D =>
          j_aldn (pc := 49) D rfl rfl rfl fun D =>
          j_gf (pc := 50) (a := x0.toNat) D rfl rfl (nz_cls H.2.1 hk (by decide)) rfl hk rfl fun D =>
          j_ildn (pc := 53) D rfl rfl rfl fun D =>
          j_alp (pc := 54) (e := 10) H.2.1 D rfl rfl ⟨rfl, rfl, rfl⟩ rfl fun q q2 D =>
          have D : fk_D 55 [(55, none, .aload_n 1, 1, 0, 0, 0), (56, none, .getfield 51, 3, 143, 117, 12), (59, none, .iload_n 3, 1, 0, 0, 0), (60, none, .iaload, 1, 0, 0, 0), (61, none, .if_icmp .ne 22, 3, 83, 0, 0), (64, none, .aload_n 0, 1, 0, 0, 0), (65, none, .getfield 54, 3, 144, 117, 12), (68, none, .iload_n 3, 1, 0, 0, 0), (69, none, .iaload, 1, 0, 0, 0), (70, none, .aload_n 1, 1, 0, 0, 0), (71, none, .getfield 54, 3, 144, 117, 12), (74, none, .iload_n 3, 1, 0, 0, 0), (75, none, .iaload, 1, 0, 0, 0), (76, none, .if_icmp .ne 7, 3, 83, 0, 0), (79, none, .iconst 1, 1, 0, 1, 0), (80, none, .goto 4, 3, 84, 0, 0)] := fq_of2 cd_55 ow_55 cl_55 rfl (pc := 55) (by decide +kernel)
          j_aldn (pc := 55) D rfl rfl rfl fun D =>
          j_gf (pc := 56) (a := x1.toNat) D rfl rfl (nz_cls H.2.1 kc1 (by decide)) rfl kc1 rfl fun D =>
          j_ildn (pc := 59) D rfl rfl rfl fun D =>
          j_alp (pc := 60) (e := 10) H.2.1 D rfl rfl ⟨rfl, rfl, rfl⟩ rfl fun q q2 D =>
          j_ine (pc := 61) D rfl (fun q D =>
            j_aldn (pc := 64) D rfl rfl rfl fun D =>
            j_gf (pc := 65) (a := x0.toNat) D rfl rfl (nz_cls H.2.1 hk (by decide)) rfl hk rfl fun D =>
            j_ildn (pc := 68) D rfl rfl rfl fun D =>
            j_alp (pc := 69) (e := 10) H.2.1 D rfl rfl ⟨rfl, rfl, rfl⟩ rfl fun q q2 D =>
            j_aldn (pc := 70) D rfl rfl rfl fun D =>
            j_gf (pc := 71) (a := x1.toNat) D rfl rfl (nz_cls H.2.1 kc1 (by decide)) rfl kc1 rfl fun D =>
            j_ildn (pc := 74) D rfl rfl rfl fun D =>
            j_alp (pc := 75) (e := 10) H.2.1 D rfl rfl ⟨rfl, rfl, rfl⟩ rfl fun q q2 D =>
            j_ine (pc := 76) D rfl (fun q D =>
              j_ic (pc := 79) D rfl fun D =>
              j_goto (pc := 80) D rfl <|
              fk_jump cut_55_84 rfl rfl) (fun q =>
              fk_jump cut_55_83 rfl rfl)) (fun q =>
            fk_jump cut_55_83 rfl rfl)) (fun q =>
          fk_jump cut_55_83 rfl rfl))) (fun q =>
      have D : fk_D 55 [(91, none, .iload_n 2, 1, 0, 0, 0), (92, none, .ireturn, 1, 0, 0, 0)] := fq_of2 cd_55 ow_55 cl_55 rfl (pc := 91) (by decide +kernel)
      j_ildn (pc := 91) D rfl rfl rfl fun D =>
      j_zret D rt_55 gn)
theorem e_55_83 (d : Nat) (x0 x1 x3 : Int) {h : fi_H} (H : Shp h) (hk : h 0 x0.toNat 0 = 117) : c_55_83 d x0 x1 x3 h =
  c_55_84 d x0 x1 x3 0 h := by
  unfold c_55_83
  exact
    have D : fk_D 55 [(83, some [0, 1, 3], .iconst 0, 1, 0, 0, 0)] := fq_of2 cd_55 ow_55 cl_55 rfl (pc := 83) (by decide +kernel)
    j_ic (pc := 83) D rfl fun D =>
    fk_jump cut_55_84 rfl rfl
theorem e_55_84 (d : Nat) (x0 x1 x3 s0 : Int) {h : fi_H} (H : Shp h) (hk : h 0 x0.toNat 0 = 117) : c_55_84 d x0 x1 x3 s0 h =
  c_55_21 d x0 x1 s0 (wI (x3 + 1)) h := by
  unfold c_55_84
  exact
    have D : fk_D 55 [(84, some [0, 1, 3], .istore_n 2, 1, 0, 0, 0), (85, none, .iinc 3 1, 3, 0, 1, 0), (88, none, .goto (-67), 3, 21, 0, 0)] := fq_of2 cd_55 ow_55 cl_55 rfl (pc := 84) (by decide +kernel)
    j_istn (pc := 84) (L' := [(2, (0, s0)), (0, (4, x0)), (1, (4, x1)), (3, (0, x3))]) D rfl nl_55 rfl rfl fun D =>
    j_inc (pc := 85) (L' := [(3, (0, wI (x3 + 1))), (2, (0, s0)), (0, (4, x0)), (1, (4, x1))]) D rfl rfl rfl (by decide +kernel) rfl fun D =>
    j_goto (pc := 88) D rfl <|
    fk_jump cut_55_21 rfl rfl
theorem m_55 (d : Nat) (x0 x1 : Int) {h : fi_H} (H : Shp h) (hk : h 0 x0.toNat 0 = 117) : fj_run (d + 1) 55 h [(4, x0), (4, x1)] =
  if fk_isA (h 0 (h 142 x0.toNat 0).toNat 0) = true then
  if h 0 x1.toNat 0 = 117 then
  if fk_isA (h 0 (h 142 x1.toNat 0).toNat 0) = true then
  if h 1 (h 142 x0.toNat 0).toNat 0 = h 1 (h 142 x1.toNat 0).toNat 0 then
    c_55_18 d x0 x1 1 h
  else
    c_55_18 d x0 x1 0 h
  else none
  else none
  else none := by
  rw [fj_run_eq d (by decide) h [(4, x0), (4, x1)] (Nat.le_of_ble_eq_true (by rw [nl_55]; rfl))]
  show gG (fj_run d) 55 0 [(0, (4, x0)), (1, (4, x1))] [] h = _
  exact
    have D : fk_D 55 [(0, none, .aload_n 0, 1, 0, 0, 0), (1, none, .getfield 30, 3, 142, 117, 12), (4, none, .arraylength, 1, 0, 0, 0), (5, none, .aload_n 1, 1, 0, 0, 0), (6, none, .getfield 30, 3, 142, (-117), 12), (9, none, .arraylength, 1, 0, 0, 0), (10, none, .if_icmp .ne 7, 3, 17, 0, 0), (13, none, .iconst 1, 1, 0, 1, 0), (14, none, .goto 4, 3, 18, 0, 0)] := fq_of2 cd_55 ow_55 cl_55 rfl (pc := 0) (by decide +kernel)
    j_aldn (pc := 0) D rfl rfl rfl fun D =>
    j_gf (pc := 1) (a := x0.toNat) D rfl rfl (nz_cls H.2.1 hk (by decide)) rfl hk rfl fun D =>
    j_lenu (pc := 4) H.2.1 D rfl fun q D =>
    j_aldn (pc := 5) D rfl rfl rfl fun D =>
    j_gfo (pc := 6) H.2.1 D rfl rfl rfl rfl fun kc1 D =>
    j_lenu (pc := 9) H.2.1 D rfl fun q D =>
    j_ine (pc := 10) D rfl (fun q D =>
      j_ic (pc := 13) D rfl fun D =>
      j_goto (pc := 14) D rfl <|
      fk_jump cut_55_18 rfl rfl) (fun q =>
      have D : fk_D 55 [(17, none, .iconst 0, 1, 0, 0, 0)] := fq_of2 cd_55 ow_55 cl_55 rfl (pc := 17) (by decide +kernel)
      j_ic (pc := 17) D rfl fun D =>
      fk_jump cut_55_18 rfl rfl)
/-! 56 StatuteHouse$Call.isLike(LStatuteHouse$Part;)Z -/
theorem cd_56 : fi_code 56 = prog_4_method_3_code := rfl
theorem hx_56 : ∀ pc, fi_hat 56 pc = none := fun pc => by unfold fi_hat; rw [show fi_hh 56 = [] from rfl]; rfl
theorem rt_56 : fi_ret 56 = some .boolean := rfl
theorem nl_56 : fi_nl 56 = 4 := rfl
theorem ow_56 : fi_ow 56 = 2 := rfl
theorem cl_56 : fj_cutT.getD 56 [] = [(27, [0, 1, 2, 3])] := rfl
theorem cut_56_27 : fj_cut 56 27 = some [0, 1, 2, 3] := by decide +kernel
noncomputable def c_56_27 (d : Nat) (x0 x1 x2 x3 : Int) (h : fi_H) : fk_R := gG (fj_run d) 56 27 [(0, (4, x0)), (1, (4, x1)), (2, (0, x2)), (3, (0, x3))] [] h
theorem e_56_27 (d : Nat) (x0 x1 x2 x3 : Int) {h : fi_H} (H : Shp h) (hk : h 0 x0.toNat 0 = 102) (ht363 : h 363 x0.toNat 0 = 303) : c_56_27 d x0 x1 x2 x3 h =
  if fk_isA (h 0 (h 362 x0.toNat 0).toNat 0) = true then
  if x3 < h 1 (h 362 x0.toNat 0).toNat 0 then
    if x2 = 0 then
      if x2 = 0 ∨ x2 = 1 then some (.inl (some (0, x2)), h) else none
    else
      if (20 ≤ h 0 (h 362 x0.toNat 0).toNat 0 ∧ h 0 (h 362 x0.toNat 0).toNat 0 < 30) ∧ 0 ≤ x3 ∧ x3 < h 1 (h 362 x0.toNat 0).toNat 0 then
      if x1 = 0 ∨ (fi_sup (h 0 x1.toNat 0)).contains 102 = true then
      if h 0 x1.toNat 0 = 102 then
      if (20 ≤ h 0 (h 362 x1.toNat 0).toNat 0 ∧ h 0 (h 362 x1.toNat 0).toNat 0 < 30) ∧ 0 ≤ x3 ∧ x3 < h 1 (h 362 x1.toNat 0).toNat 0 then
      dv_ (fi_vt 212 (h 0 (h 12 (h 362 x0.toNat 0).toNat x3.toNat).toNat 0)) fun m5 => ca_ (fj_run d m5 h [(4, h 12 (h 362 x0.toNat 0).toNat x3.toNat), (4, h 12 (h 362 x1.toNat 0).toNat x3.toNat)]) 0
        (fun v3 h2 =>
        c_56_27 d x0 x1 v3 (wI (x3 + 1)) h2)
        (fun q4 h2 => tx_ q4 h2)
      else none
      else none
      else none
      else none
  else
    if x2 = 0 ∨ x2 = 1 then some (.inl (some (0, x2)), h) else none
  else none := by
  unfold c_56_27
  exact
    have D : fk_D 56 [(27, some [0, 1, 2, 3], .iload_n 3, 1, 0, 0, 0), (28, none, .aload_n 0, 1, 0, 0, 0), (29, none, .getfield 23, 3, 362, 102, 12), (32, none, .arraylength, 1, 0, 0, 0), (33, none, .if_icmp .ge 32, 3, 65, 0, 0), (36, none, .iload_n 2, 1, 0, 0, 0), (37, none, .ifCond .eq 28, 3, 65, 0, 0), (40, none, .aload_n 0, 1, 0, 0, 0), (41, none, .getfield 23, 3, 362, 102, 12), (44, none, .iload_n 3, 1, 0, 0, 0), (45, none, .aaload, 1, 0, 0, 0), (46, none, .aload_n 1, 1, 0, 0, 0), (47, none, .checkcast 2, 3, 102, 0, 0), (50, none, .getfield 23, 3, 362, (-102), 12), (53, none, .iload_n 3, 1, 0, 0, 0), (54, none, .aaload, 1, 0, 0, 0), (55, none, .invokevirtual 57, 3, 1, 212, 1), (58, none, .istore_n 2, 1, 0, 0, 0), (59, none, .iinc 3 1, 3, 0, 1, 0), (62, none, .goto (-35), 3, 27, 0, 0)] := fq_of2 cd_56 ow_56 cl_56 rfl (pc := 27) (by decide +kernel)
    j_ildn (pc := 27) D rfl rfl rfl fun D =>
    j_aldn (pc := 28) D rfl rfl rfl fun D =>
    j_gf (pc := 29) (a := x0.toNat) D rfl rfl (nz_cls H.2.1 hk (by decide)) rfl hk rfl fun D =>
    j_lenu (pc := 32) H.2.1 D rfl fun q D =>
    j_ige (pc := 33) D rfl (fun q D =>
      j_ildn (pc := 36) D rfl rfl rfl fun D =>
      j_ifeq (pc := 37) D rfl (fun q =>
        have D : fk_D 56 [(65, none, .iload_n 2, 1, 0, 0, 0), (66, none, .ireturn, 1, 0, 0, 0)] := fq_of2 cd_56 ow_56 cl_56 rfl (pc := 65) (by decide +kernel)
        j_ildn (pc := 65) D rfl rfl rfl fun D =>
        j_zret D rt_56 gn) (fun q D =>
        j_aldn (pc := 40) D rfl rfl rfl fun D =>
        j_gf (pc := 41) (a := x0.toNat) D rfl rfl (nz_cls H.2.1 hk (by decide)) rfl hk rfl fun D =>
        j_ildn (pc := 44) D rfl rfl rfl fun D =>
        j_alr (pc := 45) H.2.1 D rfl rfl fun q q2 D =>
        j_aldn (pc := 46) D rfl rfl rfl fun D =>
        j_cast (pc := 47) D rfl gn fun D =>
        j_gfo (pc := 50) H.2.1 D rfl rfl rfl rfl fun kc1 D =>
        j_ildn (pc := 53) D rfl rfl rfl fun D =>
        j_alr (pc := 54) H.2.1 D rfl rfl fun q q2 D =>
        j_ivu (pc := 55) (dd := 212) (a := [(4, h 12 (h 362 x1.toNat 0).toNat x3.toNat)]) (rest := []) H.2.1 D rfl rfl rfl rfl rfl (fun m5 v3 h2 e1 D =>
          have T := fj_run_ok _ _ _ _ _ _ H.1 e1
          have ht363 := fin_st H.1 T.2 hk (by decide) (by decide +kernel) ht363 (by decide)
          have hk := cls_st H.1 T.2 hk (by decide)
          have kc1 := cls_st H.1 T.2 kc1 (by decide)
          have H := shp_st H T
          j_istn (pc := 58) (L' := [(2, (0, v3)), (0, (4, x0)), (1, (4, x1)), (3, (0, x3))]) D rfl nl_56 rfl rfl fun D =>
          j_inc (pc := 59) (L' := [(3, (0, wI (x3 + 1))), (2, (0, v3)), (0, (4, x0)), (1, (4, x1))]) D rfl rfl rfl (by decide +kernel) rfl fun D =>
          j_goto (pc := 62) D rfl <|
          fk_jump cut_56_27 rfl rfl) (fun m5 q4 h2 e1 =>
          j_tx (hx_56 _)))) (fun q =>
      have D : fk_D 56 [(65, none, .iload_n 2, 1, 0, 0, 0), (66, none, .ireturn, 1, 0, 0, 0)] := fq_of2 cd_56 ow_56 cl_56 rfl (pc := 65) (by decide +kernel)
      j_ildn (pc := 65) D rfl rfl rfl fun D =>
      j_zret D rt_56 gn)
theorem m_56 (d : Nat) (x0 x1 : Int) {h : fi_H} (H : Shp h) (hk : h 0 x0.toNat 0 = 102) (ht363 : h 363 x0.toNat 0 = 303) : fj_run (d + 1) 56 h [(4, x0), (4, x1)] =
  ii_ x1 (h 0 x1.toNat 0) 102 fun v1 =>
  if v1 = 0 then
    some (.inl (some (0, 0)), h)
  else
    if x1 = 0 ∨ (fi_sup (h 0 x1.toNat 0)).contains 102 = true then
    if h 0 x1.toNat 0 = 102 then
    if h 361 x1.toNat 0 = h 361 x0.toNat 0 then
      c_56_27 d x0 x1 1 0 h
    else
      some (.inl (some (0, 0)), h)
    else none
    else none := by
  rw [fj_run_eq d (by decide) h [(4, x0), (4, x1)] (Nat.le_of_ble_eq_true (by rw [nl_56]; rfl))]
  show gG (fj_run d) 56 0 [(0, (4, x0)), (1, (4, x1))] [] h = _
  exact
    have D : fk_D 56 [(0, none, .aload_n 1, 1, 0, 0, 0), (1, none, .instanceof 2, 3, 102, 0, 0), (4, none, .ifCond .eq 17, 3, 21, 0, 0), (7, none, .aload_n 1, 1, 0, 0, 0), (8, none, .checkcast 2, 3, 102, 0, 0), (11, none, .getfield 19, 3, 361, (-102), 12), (14, none, .aload_n 0, 1, 0, 0, 0), (15, none, .getfield 19, 3, 361, 102, 12), (18, none, .if_acmp .eq 5, 3, 23, 0, 0), (21, none, .iconst 0, 1, 0, 0, 0), (22, none, .ireturn, 1, 0, 0, 0)] := fq_of2 cd_56 ow_56 cl_56 rfl (pc := 0) (by decide +kernel)
    j_aldn (pc := 0) D rfl rfl rfl fun D =>
    j_inst (pc := 1) D rfl fun v1 D =>
    j_ifeq (pc := 4) D rfl (fun q =>
      have D : fk_D 56 [(21, none, .iconst 0, 1, 0, 0, 0), (22, none, .ireturn, 1, 0, 0, 0)] := fq_of2 cd_56 ow_56 cl_56 rfl (pc := 21) (by decide +kernel)
      j_ic (pc := 21) D rfl fun D =>
      j_zret D rt_56 (gy (by decide))) (fun q D =>
      j_aldn (pc := 7) D rfl rfl rfl fun D =>
      j_cast (pc := 8) D rfl gn fun D =>
      j_gfo (pc := 11) H.2.1 D rfl rfl rfl rfl fun kc2 D =>
      j_aldn (pc := 14) D rfl rfl rfl fun D =>
      j_gf (pc := 15) (a := x0.toNat) D rfl rfl (nz_cls H.2.1 hk (by decide)) rfl hk rfl fun D =>
      j_aeq (pc := 18) D rfl (fun q =>
        have D : fk_D 56 [(23, none, .iconst 1, 1, 0, 1, 0), (24, none, .istore_n 2, 1, 0, 0, 0), (25, none, .iconst 0, 1, 0, 0, 0), (26, none, .istore_n 3, 1, 0, 0, 0)] := fq_of2 cd_56 ow_56 cl_56 rfl (pc := 23) (by decide +kernel)
        j_ic (pc := 23) D rfl fun D =>
        j_istn (pc := 24) (L' := [(2, (0, 1)), (0, (4, x0)), (1, (4, x1))]) D rfl nl_56 rfl rfl fun D =>
        j_ic (pc := 25) D rfl fun D =>
        j_istn (pc := 26) (L' := [(3, (0, 0)), (2, (0, 1)), (0, (4, x0)), (1, (4, x1))]) D rfl nl_56 rfl rfl fun D =>
        fk_jump cut_56_27 rfl rfl) (fun q D =>
        j_ic (pc := 21) D rfl fun D =>
        j_zret D rt_56 (gy (by decide))))
/-! 57 StatuteHouse$Constant.isLike(LStatuteHouse$Part;)Z -/
theorem cd_57 : fi_code 57 = prog_5_method_3_code := rfl
theorem hx_57 : ∀ pc, fi_hat 57 pc = none := fun pc => by unfold fi_hat; rw [show fi_hh 57 = [] from rfl]; rfl
theorem rt_57 : fi_ret 57 = some .boolean := rfl
theorem nl_57 : fi_nl 57 = 3 := rfl
theorem ow_57 : fi_ow 57 = 3 := rfl
theorem cl_57 : fj_cutT.getD 57 [] = [] := rfl
theorem m_57 (d : Nat) (x0 x1 : Int) {h : fi_H} (H : Shp h) (hk : h 0 x0.toNat 0 = 103) (ht339 : h 339 x0.toNat 0 = 303) : fj_run (d + 1) 57 h [(4, x0), (4, x1)] =
  ii_ x1 (h 0 x1.toNat 0) 103 fun v1 =>
  if v1 = 0 then
    some (.inl (some (0, 0)), h)
  else
    if x1 = 0 ∨ (fi_sup (h 0 x1.toNat 0)).contains 103 = true then
    if fi_in (h 0 x1.toNat 0) 340 = true then
    if h 340 x0.toNat 0 = h 340 x1.toNat 0 then
      if h 0 x1.toNat 0 = 103 then
      if lc_ (h 337 x0.toNat 0) (h 337 x1.toNat 0) = 0 then
        if lc_ (h 338 x0.toNat 0) (h 338 x1.toNat 0) = 0 then
          some (.inl (some (0, 1)), h)
        else
          some (.inl (some (0, 0)), h)
      else
        some (.inl (some (0, 0)), h)
      else none
    else
      some (.inl (some (0, 0)), h)
    else none
    else none := by
  rw [fj_run_eq d (by decide) h [(4, x0), (4, x1)] (Nat.le_of_ble_eq_true (by rw [nl_57]; rfl))]
  show gG (fj_run d) 57 0 [(0, (4, x0)), (1, (4, x1))] [] h = _
  exact
    have D : fk_D 57 [(0, none, .aload_n 1, 1, 0, 0, 0), (1, none, .instanceof 2, 3, 103, 0, 0), (4, none, .ifCond .ne 5, 3, 9, 0, 0), (7, none, .iconst 0, 1, 0, 0, 0), (8, none, .ireturn, 1, 0, 0, 0)] := fq_of2 cd_57 ow_57 cl_57 rfl (pc := 0) (by decide +kernel)
    j_aldn (pc := 0) D rfl rfl rfl fun D =>
    j_inst (pc := 1) D rfl fun v1 D =>
    j_ifne (pc := 4) D rfl (fun q D =>
      j_ic (pc := 7) D rfl fun D =>
      j_zret D rt_57 (gy (by decide))) (fun q =>
      have D : fk_D 57 [(9, none, .aload_n 1, 1, 0, 0, 0), (10, none, .checkcast 2, 3, 103, 0, 0), (13, none, .astore_n 2, 1, 0, 0, 0), (14, none, .aload_n 0, 1, 0, 0, 0), (15, none, .getfield 30, 3, 340, 103, 12), (18, none, .aload_n 2, 1, 0, 0, 0), (19, none, .getfield 30, 3, 340, 0, 12), (22, none, .if_acmp .ne 31, 3, 53, 0, 0), (25, none, .aload_n 0, 1, 0, 0, 0), (26, none, .getfield 13, 3, 337, 103, 11), (29, none, .aload_n 2, 1, 0, 0, 0), (30, none, .getfield 13, 3, 337, (-103), 11), (33, none, .lcmp, 1, 0, 0, 0), (34, none, .ifCond .ne 19, 3, 53, 0, 0), (37, none, .aload_n 0, 1, 0, 0, 0), (38, none, .getfield 17, 3, 338, 103, 11), (41, none, .aload_n 2, 1, 0, 0, 0), (42, none, .getfield 17, 3, 338, 103, 11), (45, none, .lcmp, 1, 0, 0, 0), (46, none, .ifCond .ne 7, 3, 53, 0, 0)] := fq_of2 cd_57 ow_57 cl_57 rfl (pc := 9) (by decide +kernel)
      j_aldn (pc := 9) D rfl rfl rfl fun D =>
      j_cast (pc := 10) D rfl gn fun D =>
      j_astn (pc := 13) (L' := [(2, (4, x1)), (0, (4, x0)), (1, (4, x1))]) D rfl nl_57 rfl rfl fun D =>
      j_aldn (pc := 14) D rfl rfl rfl fun D =>
      j_gf (pc := 15) (a := x0.toNat) D rfl rfl (nz_cls H.2.1 hk (by decide)) rfl hk rfl fun D =>
      j_aldn (pc := 18) D rfl rfl rfl fun D =>
      j_gfu (pc := 19) H.2.1 D rfl rfl fun q D =>
      j_ane (pc := 22) D rfl (fun q D =>
        j_aldn (pc := 25) D rfl rfl rfl fun D =>
        j_gf (pc := 26) (a := x0.toNat) D rfl rfl (nz_cls H.2.1 hk (by decide)) rfl hk rfl fun D =>
        j_aldn (pc := 29) D rfl rfl rfl fun D =>
        j_gfo (pc := 30) H.2.1 D rfl rfl rfl rfl fun kc2 D =>
        j_lcmp (pc := 33) D rfl fun D =>
        j_ifne (pc := 34) D rfl (fun q D =>
          j_aldn (pc := 37) D rfl rfl rfl fun D =>
          j_gf (pc := 38) (a := x0.toNat) D rfl rfl (nz_cls H.2.1 hk (by decide)) rfl hk rfl fun D =>
          j_aldn (pc := 41) D rfl rfl rfl fun D =>
          j_gf (pc := 42) (a := x1.toNat) D rfl rfl (nz_cls H.2.1 kc2 (by decide)) rfl kc2 rfl fun D =>
          j_lcmp (pc := 45) D rfl fun D =>
          j_ifne (pc := 46) D rfl (fun q D =>
            have D : fk_D 57 [(49, none, .iconst 1, 1, 0, 1, 0), (50, none, .goto 4, 3, 54, 0, 0)] := fq_of2 cd_57 ow_57 cl_57 rfl (pc := 49) (by decide +kernel)
            j_ic (pc := 49) D rfl fun D =>
            j_goto (pc := 50) D rfl <|
            have D : fk_D 57 [(54, none, .ireturn, 1, 0, 0, 0)] := fq_of2 cd_57 ow_57 cl_57 rfl (pc := 54) (by decide +kernel)
            j_zret D rt_57 (gy (by decide))) (fun q =>
            have D : fk_D 57 [(53, none, .iconst 0, 1, 0, 0, 0), (54, none, .ireturn, 1, 0, 0, 0)] := fq_of2 cd_57 ow_57 cl_57 rfl (pc := 53) (by decide +kernel)
            j_ic (pc := 53) D rfl fun D =>
            j_zret D rt_57 (gy (by decide)))) (fun q =>
          have D : fk_D 57 [(53, none, .iconst 0, 1, 0, 0, 0), (54, none, .ireturn, 1, 0, 0, 0)] := fq_of2 cd_57 ow_57 cl_57 rfl (pc := 53) (by decide +kernel)
          j_ic (pc := 53) D rfl fun D =>
          j_zret D rt_57 (gy (by decide)))) (fun q =>
        have D : fk_D 57 [(53, none, .iconst 0, 1, 0, 0, 0), (54, none, .ireturn, 1, 0, 0, 0)] := fq_of2 cd_57 ow_57 cl_57 rfl (pc := 53) (by decide +kernel)
        j_ic (pc := 53) D rfl fun D =>
        j_zret D rt_57 (gy (by decide))))
/-! 58 StatuteHouse$Named.isLike(LStatuteHouse$Part;)Z -/
theorem cd_58 : fi_code 58 = prog_48_method_3_code := rfl
theorem hx_58 : ∀ pc, fi_hat 58 pc = none := fun pc => by unfold fi_hat; rw [show fi_hh 58 = [] from rfl]; rfl
theorem rt_58 : fi_ret 58 = some .boolean := rfl
theorem nl_58 : fi_nl 58 = 2 := rfl
theorem ow_58 : fi_ow 58 = 65 := rfl
theorem cl_58 : fj_cutT.getD 58 [] = [] := rfl
theorem m_58 (d : Nat) (x0 x1 : Int) {h : fi_H} {k0 : Int} (H : Shp h) (hk : h 0 x0.toNat 0 = k0) (hk0 : k0 ≠ 0) (ht348 : h 348 x0.toNat 0 = 303) : fj_run (d + 1) 58 h [(4, x0), (4, x1)] =
  ii_ x1 (h 0 x1.toNat 0) 165 fun v1 =>
  if v1 = 0 then
    some (.inl (some (0, 0)), h)
  else
    if fi_in (h 0 x0.toNat 0) 347 = true then
    if x1 = 0 ∨ (fi_sup (h 0 x1.toNat 0)).contains 165 = true then
    if fi_in (h 0 x1.toNat 0) 347 = true then
    if h 347 x0.toNat 0 = h 347 x1.toNat 0 then
      dv_ (fi_vt 218 (h 0 x0.toNat 0)) fun m5 => ca_ (fj_run d m5 h [(4, x0)]) 0
        (fun v3 h2 =>
        if x1 = 0 ∨ (fi_sup (h2 0 x1.toNat 0)).contains 165 = true then
        dv_ (fi_vt 218 (h2 0 x1.toNat 0)) fun m9 => ca_ (fj_run d m9 h2 [(4, x1)]) 0
          (fun v7 h6 =>
          if v3 = v7 then
            some (.inl (some (0, 1)), h6)
          else
            some (.inl (some (0, 0)), h6))
          (fun q8 h6 => tx_ q8 h6)
        else none)
        (fun q4 h2 => tx_ q4 h2)
    else
      some (.inl (some (0, 0)), h)
    else none
    else none
    else none := by
  rw [fj_run_eq d (by decide) h [(4, x0), (4, x1)] (Nat.le_of_ble_eq_true (by rw [nl_58]; rfl))]
  show gG (fj_run d) 58 0 [(0, (4, x0)), (1, (4, x1))] [] h = _
  exact
    have D : fk_D 58 [(0, none, .aload_n 1, 1, 0, 0, 0), (1, none, .instanceof 2, 3, 165, 0, 0), (4, none, .ifCond .eq 35, 3, 39, 0, 0), (7, none, .aload_n 0, 1, 0, 0, 0), (8, none, .getfield 13, 3, 347, 0, 10), (11, none, .aload_n 1, 1, 0, 0, 0), (12, none, .checkcast 2, 3, 165, 0, 0), (15, none, .getfield 13, 3, 347, 0, 10), (18, none, .if_icmp .ne 21, 3, 39, 0, 0), (21, none, .aload_n 0, 1, 0, 0, 0), (22, none, .invokevirtual 17, 3, 0, 218, 1), (25, none, .aload_n 1, 1, 0, 0, 0), (26, none, .checkcast 2, 3, 165, 0, 0), (29, none, .invokevirtual 17, 3, 0, 218, 1), (32, none, .if_icmp .ne 7, 3, 39, 0, 0), (35, none, .iconst 1, 1, 0, 1, 0), (36, none, .goto 4, 3, 40, 0, 0)] := fq_of2 cd_58 ow_58 cl_58 rfl (pc := 0) (by decide +kernel)
    j_aldn (pc := 0) D rfl rfl rfl fun D =>
    j_inst (pc := 1) D rfl fun v1 D =>
    j_ifeq (pc := 4) D rfl (fun q =>
      have D : fk_D 58 [(39, none, .iconst 0, 1, 0, 0, 0), (40, none, .ireturn, 1, 0, 0, 0)] := fq_of2 cd_58 ow_58 cl_58 rfl (pc := 39) (by decide +kernel)
      j_ic (pc := 39) D rfl fun D =>
      j_zret D rt_58 (gy (by decide))) (fun q D =>
      j_aldn (pc := 7) D rfl rfl rfl fun D =>
      j_gfu (pc := 8) H.2.1 D rfl rfl fun q D =>
      j_aldn (pc := 11) D rfl rfl rfl fun D =>
      j_cast (pc := 12) D rfl gn fun D =>
      j_gfu (pc := 15) H.2.1 D rfl rfl fun q D =>
      j_ine (pc := 18) D rfl (fun q D =>
        j_aldn (pc := 21) D rfl rfl rfl fun D =>
        j_ivu (pc := 22) (dd := 218) (a := []) (rest := []) H.2.1 D rfl rfl rfl rfl rfl (fun m5 v3 h2 e1 D =>
          have T := fj_run_ok _ _ _ _ _ _ H.1 e1
          have ht348 := fin_st H.1 T.2 hk hk0 (by decide +kernel) ht348 (by decide)
          have hk := cls_st H.1 T.2 hk hk0
          have H := shp_st H T
          j_aldn (pc := 25) D rfl rfl rfl fun D =>
          j_cast (pc := 26) D rfl gn fun D =>
          j_ivu (pc := 29) (dd := 218) (a := []) (rest := [(0, v3)]) H.2.1 D rfl rfl rfl rfl rfl (fun m9 v7 h6 e1 D =>
            have T := fj_run_ok _ _ _ _ _ _ H.1 e1
            have ht348 := fin_st H.1 T.2 hk hk0 (by decide +kernel) ht348 (by decide)
            have hk := cls_st H.1 T.2 hk hk0
            have H := shp_st H T
            j_ine (pc := 32) D rfl (fun q D =>
              j_ic (pc := 35) D rfl fun D =>
              j_goto (pc := 36) D rfl <|
              have D : fk_D 58 [(40, none, .ireturn, 1, 0, 0, 0)] := fq_of2 cd_58 ow_58 cl_58 rfl (pc := 40) (by decide +kernel)
              j_zret D rt_58 (gy (by decide))) (fun q =>
              have D : fk_D 58 [(39, none, .iconst 0, 1, 0, 0, 0), (40, none, .ireturn, 1, 0, 0, 0)] := fq_of2 cd_58 ow_58 cl_58 rfl (pc := 39) (by decide +kernel)
              j_ic (pc := 39) D rfl fun D =>
              j_zret D rt_58 (gy (by decide)))) (fun m9 q8 h6 e1 =>
            j_tx (hx_58 _))) (fun m5 q4 h2 e1 =>
          j_tx (hx_58 _))) (fun q =>
        have D : fk_D 58 [(39, none, .iconst 0, 1, 0, 0, 0), (40, none, .ireturn, 1, 0, 0, 0)] := fq_of2 cd_58 ow_58 cl_58 rfl (pc := 39) (by decide +kernel)
        j_ic (pc := 39) D rfl fun D =>
        j_zret D rt_58 (gy (by decide))))
/-! 59 StatuteHouse$Has.isHas()Z -/
theorem cd_59 : fi_code 59 = prog_37_method_2_code := rfl
theorem hx_59 : ∀ pc, fi_hat 59 pc = none := fun pc => by unfold fi_hat; rw [show fi_hh 59 = [] from rfl]; rfl
theorem rt_59 : fi_ret 59 = some .boolean := rfl
theorem nl_59 : fi_nl 59 = 1 := rfl
theorem ow_59 : fi_ow 59 = 9 := rfl
theorem cl_59 : fj_cutT.getD 59 [] = [] := rfl
theorem m_59 (d : Nat) (x0 : Int) {h : fi_H} (H : Shp h) (hk : h 0 x0.toNat 0 = 109) (ht346 : h 346 x0.toNat 0 = 303) : fj_run (d + 1) 59 h [(4, x0)] =
  some (.inl (some (0, 1)), h) := by
  rw [fj_run_eq d (by decide) h [(4, x0)] (Nat.le_of_ble_eq_true (by rw [nl_59]; rfl))]
  show gG (fj_run d) 59 0 [(0, (4, x0))] [] h = _
  exact
    have D : fk_D 59 [(0, none, .iconst 1, 1, 0, 1, 0), (1, none, .ireturn, 1, 0, 0, 0)] := fq_of2 cd_59 ow_59 cl_59 rfl (pc := 0) (by decide +kernel)
    j_ic (pc := 0) D rfl fun D =>
    j_zret D rt_59 (gy (by decide))
/-! 60 StatuteHouse$Named.isHas()Z -/
theorem cd_60 : fi_code 60 = prog_48_method_2_code := rfl
theorem hx_60 : ∀ pc, fi_hat 60 pc = none := fun pc => by unfold fi_hat; rw [show fi_hh 60 = [] from rfl]; rfl
theorem rt_60 : fi_ret 60 = some .boolean := rfl
theorem nl_60 : fi_nl 60 = 1 := rfl
theorem ow_60 : fi_ow 60 = 65 := rfl
theorem cl_60 : fj_cutT.getD 60 [] = [] := rfl
theorem m_60 (d : Nat) (x0 : Int) {h : fi_H} {k0 : Int} (H : Shp h) (hk : h 0 x0.toNat 0 = k0) (hk0 : k0 ≠ 0) (ht348 : h 348 x0.toNat 0 = 303) : fj_run (d + 1) 60 h [(4, x0)] =
  some (.inl (some (0, 0)), h) := by
  rw [fj_run_eq d (by decide) h [(4, x0)] (Nat.le_of_ble_eq_true (by rw [nl_60]; rfl))]
  show gG (fj_run d) 60 0 [(0, (4, x0))] [] h = _
  exact
    have D : fk_D 60 [(0, none, .iconst 0, 1, 0, 0, 0), (1, none, .ireturn, 1, 0, 0, 0)] := fq_of2 cd_60 ow_60 cl_60 rfl (pc := 0) (by decide +kernel)
    j_ic (pc := 0) D rfl fun D =>
    j_zret D rt_60 (gy (by decide))
/-! 61 StatuteHouse$Months.isLike(LStatuteHouse$Part;)Z -/
theorem cd_61 : fi_code 61 = prog_47_method_3_code := rfl
theorem hx_61 : ∀ pc, fi_hat 61 pc = none := fun pc => by unfold fi_hat; rw [show fi_hh 61 = [] from rfl]; rfl
theorem rt_61 : fi_ret 61 = some .boolean := rfl
theorem nl_61 : fi_nl 61 = 3 := rfl
theorem ow_61 : fi_ow 61 = 11 := rfl
theorem cl_61 : fj_cutT.getD 61 [] = [] := rfl
theorem m_61 (d : Nat) (x0 x1 : Int) {h : fi_H} (H : Shp h) (hk : h 0 x0.toNat 0 = 111) (ht352 : h 352 x0.toNat 0 = 303) : fj_run (d + 1) 61 h [(4, x0), (4, x1)] =
  ii_ x1 (h 0 x1.toNat 0) 111 fun v1 =>
  if v1 = 0 then
    some (.inl (some (0, 0)), h)
  else
    if x1 = 0 ∨ (fi_sup (h 0 x1.toNat 0)).contains 111 = true then
    if h 0 x1.toNat 0 = 111 then
    dv_ (fi_vt 212 (h 0 (h 349 x0.toNat 0).toNat 0)) fun m6 => ca_ (fj_run d m6 h [(4, h 349 x0.toNat 0), (4, h 349 x1.toNat 0)]) 0
      (fun v4 h3 =>
      if v4 = 0 then
        some (.inl (some (0, 0)), h3)
      else
        dv_ (fi_vt 212 (h3 0 (h3 350 x0.toNat 0).toNat 0)) fun m10 => ca_ (fj_run d m10 h3 [(4, h3 350 x0.toNat 0), (4, h3 350 x1.toNat 0)]) 0
          (fun v8 h7 =>
          if v8 = 0 then
            some (.inl (some (0, 0)), h7)
          else
            dv_ (fi_vt 212 (h7 0 (h7 351 x0.toNat 0).toNat 0)) fun m14 => ca_ (fj_run d m14 h7 [(4, h7 351 x0.toNat 0), (4, h7 351 x1.toNat 0)]) 0
              (fun v12 h11 =>
              if v12 = 0 then
                some (.inl (some (0, 0)), h11)
              else
                some (.inl (some (0, 1)), h11))
              (fun q13 h11 => tx_ q13 h11))
          (fun q9 h7 => tx_ q9 h7))
      (fun q5 h3 => tx_ q5 h3)
    else none
    else none := by
  rw [fj_run_eq d (by decide) h [(4, x0), (4, x1)] (Nat.le_of_ble_eq_true (by rw [nl_61]; rfl))]
  show gG (fj_run d) 61 0 [(0, (4, x0)), (1, (4, x1))] [] h = _
  exact
    have D : fk_D 61 [(0, none, .aload_n 1, 1, 0, 0, 0), (1, none, .instanceof 4, 3, 111, 0, 0), (4, none, .ifCond .ne 5, 3, 9, 0, 0), (7, none, .iconst 0, 1, 0, 0, 0), (8, none, .ireturn, 1, 0, 0, 0)] := fq_of2 cd_61 ow_61 cl_61 rfl (pc := 0) (by decide +kernel)
    j_aldn (pc := 0) D rfl rfl rfl fun D =>
    j_inst (pc := 1) D rfl fun v1 D =>
    j_ifne (pc := 4) D rfl (fun q D =>
      j_ic (pc := 7) D rfl fun D =>
      j_zret D rt_61 (gy (by decide))) (fun q =>
      have D : fk_D 61 [(9, none, .aload_n 1, 1, 0, 0, 0), (10, none, .checkcast 4, 3, 111, 0, 0), (13, none, .astore_n 2, 1, 0, 0, 0), (14, none, .aload_n 0, 1, 0, 0, 0), (15, none, .getfield 29, 3, 349, 111, 12), (18, none, .aload_n 2, 1, 0, 0, 0), (19, none, .getfield 29, 3, 349, (-111), 12), (22, none, .invokevirtual 87, 3, 1, 212, 1), (25, none, .ifCond .eq 35, 3, 60, 0, 0), (28, none, .aload_n 0, 1, 0, 0, 0), (29, none, .getfield 33, 3, 350, 111, 12), (32, none, .aload_n 2, 1, 0, 0, 0), (33, none, .getfield 33, 3, 350, 111, 12), (36, none, .invokevirtual 87, 3, 1, 212, 1), (39, none, .ifCond .eq 21, 3, 60, 0, 0), (42, none, .aload_n 0, 1, 0, 0, 0), (43, none, .getfield 36, 3, 351, 111, 12), (46, none, .aload_n 2, 1, 0, 0, 0), (47, none, .getfield 36, 3, 351, 111, 12), (50, none, .invokevirtual 87, 3, 1, 212, 1)] := fq_of2 cd_61 ow_61 cl_61 rfl (pc := 9) (by decide +kernel)
      j_aldn (pc := 9) D rfl rfl rfl fun D =>
      j_cast (pc := 10) D rfl gn fun D =>
      j_astn (pc := 13) (L' := [(2, (4, x1)), (0, (4, x0)), (1, (4, x1))]) D rfl nl_61 rfl rfl fun D =>
      j_aldn (pc := 14) D rfl rfl rfl fun D =>
      j_gf (pc := 15) (a := x0.toNat) D rfl rfl (nz_cls H.2.1 hk (by decide)) rfl hk rfl fun D =>
      j_aldn (pc := 18) D rfl rfl rfl fun D =>
      j_gfo (pc := 19) H.2.1 D rfl rfl rfl rfl fun kc2 D =>
      j_ivu (pc := 22) (dd := 212) (a := [(4, h 349 x1.toNat 0)]) (rest := []) H.2.1 D rfl rfl rfl rfl rfl (fun m6 v4 h3 e1 D =>
        have T := fj_run_ok _ _ _ _ _ _ H.1 e1
        have ht352 := fin_st H.1 T.2 hk (by decide) (by decide +kernel) ht352 (by decide)
        have hk := cls_st H.1 T.2 hk (by decide)
        have kc2 := cls_st H.1 T.2 kc2 (by decide)
        have H := shp_st H T
        j_ifeq (pc := 25) D rfl (fun q =>
          have D : fk_D 61 [(60, none, .iconst 0, 1, 0, 0, 0), (61, none, .ireturn, 1, 0, 0, 0)] := fq_of2 cd_61 ow_61 cl_61 rfl (pc := 60) (by decide +kernel)
          j_ic (pc := 60) D rfl fun D =>
          j_zret D rt_61 (gy (by decide))) (fun q D =>
          j_aldn (pc := 28) D rfl rfl rfl fun D =>
          j_gf (pc := 29) (a := x0.toNat) D rfl rfl (nz_cls H.2.1 hk (by decide)) rfl hk rfl fun D =>
          j_aldn (pc := 32) D rfl rfl rfl fun D =>
          j_gf (pc := 33) (a := x1.toNat) D rfl rfl (nz_cls H.2.1 kc2 (by decide)) rfl kc2 rfl fun D =>
          j_ivu (pc := 36) (dd := 212) (a := [(4, h3 350 x1.toNat 0)]) (rest := []) H.2.1 D rfl rfl rfl rfl rfl (fun m10 v8 h7 e1 D =>
            have T := fj_run_ok _ _ _ _ _ _ H.1 e1
            have ht352 := fin_st H.1 T.2 hk (by decide) (by decide +kernel) ht352 (by decide)
            have hk := cls_st H.1 T.2 hk (by decide)
            have kc2 := cls_st H.1 T.2 kc2 (by decide)
            have H := shp_st H T
            j_ifeq (pc := 39) D rfl (fun q =>
              have D : fk_D 61 [(60, none, .iconst 0, 1, 0, 0, 0), (61, none, .ireturn, 1, 0, 0, 0)] := fq_of2 cd_61 ow_61 cl_61 rfl (pc := 60) (by decide +kernel)
              j_ic (pc := 60) D rfl fun D =>
              j_zret D rt_61 (gy (by decide))) (fun q D =>
              j_aldn (pc := 42) D rfl rfl rfl fun D =>
              j_gf (pc := 43) (a := x0.toNat) D rfl rfl (nz_cls H.2.1 hk (by decide)) rfl hk rfl fun D =>
              j_aldn (pc := 46) D rfl rfl rfl fun D =>
              j_gf (pc := 47) (a := x1.toNat) D rfl rfl (nz_cls H.2.1 kc2 (by decide)) rfl kc2 rfl fun D =>
              j_ivu (pc := 50) (dd := 212) (a := [(4, h7 351 x1.toNat 0)]) (rest := []) H.2.1 D rfl rfl rfl rfl rfl (fun m14 v12 h11 e1 D =>
                have T := fj_run_ok _ _ _ _ _ _ H.1 e1
                have ht352 := fin_st H.1 T.2 hk (by decide) (by decide +kernel) ht352 (by decide)
                have hk := cls_st H.1 T.2 hk (by decide)
                have kc2 := cls_st H.1 T.2 kc2 (by decide)
                have H := shp_st H T
                have D : fk_D 61 [(53, none, .ifCond .eq 7, 3, 60, 0, 0), (56, none, .iconst 1, 1, 0, 1, 0), (57, none, .goto 4, 3, 61, 0, 0)] := fq_of2 cd_61 ow_61 cl_61 rfl (pc := 53) (by decide +kernel)
                j_ifeq (pc := 53) D rfl (fun q =>
                  have D : fk_D 61 [(60, none, .iconst 0, 1, 0, 0, 0), (61, none, .ireturn, 1, 0, 0, 0)] := fq_of2 cd_61 ow_61 cl_61 rfl (pc := 60) (by decide +kernel)
                  j_ic (pc := 60) D rfl fun D =>
                  j_zret D rt_61 (gy (by decide))) (fun q D =>
                  j_ic (pc := 56) D rfl fun D =>
                  j_goto (pc := 57) D rfl <|
                  have D : fk_D 61 [(61, none, .ireturn, 1, 0, 0, 0)] := fq_of2 cd_61 ow_61 cl_61 rfl (pc := 61) (by decide +kernel)
                  j_zret D rt_61 (gy (by decide)))) (fun m14 q13 h11 e1 =>
                j_tx (hx_61 _)))) (fun m10 q9 h7 e1 =>
            j_tx (hx_61 _)))) (fun m6 q5 h3 e1 =>
        j_tx (hx_61 _)))
/-! 62 StatuteHouse$One.isLike(LStatuteHouse$Part;)Z -/
theorem cd_62 : fi_code 62 = prog_49_method_3_code := rfl
theorem hx_62 : ∀ pc, fi_hat 62 pc = none := fun pc => by unfold fi_hat; rw [show fi_hh 62 = [] from rfl]; rfl
theorem rt_62 : fi_ret 62 = some .boolean := rfl
theorem nl_62 : fi_nl 62 = 2 := rfl
theorem ow_62 : fi_ow 62 = 12 := rfl
theorem cl_62 : fj_cutT.getD 62 [] = [] := rfl
theorem m_62 (d : Nat) (x0 x1 : Int) {h : fi_H} (H : Shp h) (hk : h 0 x0.toNat 0 = 112) (ht371 : h 371 x0.toNat 0 = 303) : fj_run (d + 1) 62 h [(4, x0), (4, x1)] =
  ii_ x1 (h 0 x1.toNat 0) 112 fun v1 =>
  if v1 = 0 then
    some (.inl (some (0, 0)), h)
  else
    if x1 = 0 ∨ (fi_sup (h 0 x1.toNat 0)).contains 112 = true then
    if h 0 x1.toNat 0 = 112 then
    dv_ (fi_vt 212 (h 0 (h 370 x0.toNat 0).toNat 0)) fun m6 => ca_ (fj_run d m6 h [(4, h 370 x0.toNat 0), (4, h 370 x1.toNat 0)]) 0
      (fun v4 h3 =>
      if v4 = 0 then
        some (.inl (some (0, 0)), h3)
      else
        some (.inl (some (0, 1)), h3))
      (fun q5 h3 => tx_ q5 h3)
    else none
    else none := by
  rw [fj_run_eq d (by decide) h [(4, x0), (4, x1)] (Nat.le_of_ble_eq_true (by rw [nl_62]; rfl))]
  show gG (fj_run d) 62 0 [(0, (4, x0)), (1, (4, x1))] [] h = _
  exact
    have D : fk_D 62 [(0, none, .aload_n 1, 1, 0, 0, 0), (1, none, .instanceof 2, 3, 112, 0, 0), (4, none, .ifCond .eq 24, 3, 28, 0, 0), (7, none, .aload_n 0, 1, 0, 0, 0), (8, none, .getfield 21, 3, 370, 112, 12), (11, none, .aload_n 1, 1, 0, 0, 0), (12, none, .checkcast 2, 3, 112, 0, 0), (15, none, .getfield 21, 3, 370, (-112), 12), (18, none, .invokevirtual 78, 3, 1, 212, 1), (21, none, .ifCond .eq 7, 3, 28, 0, 0), (24, none, .iconst 1, 1, 0, 1, 0), (25, none, .goto 4, 3, 29, 0, 0)] := fq_of2 cd_62 ow_62 cl_62 rfl (pc := 0) (by decide +kernel)
    j_aldn (pc := 0) D rfl rfl rfl fun D =>
    j_inst (pc := 1) D rfl fun v1 D =>
    j_ifeq (pc := 4) D rfl (fun q =>
      have D : fk_D 62 [(28, none, .iconst 0, 1, 0, 0, 0), (29, none, .ireturn, 1, 0, 0, 0)] := fq_of2 cd_62 ow_62 cl_62 rfl (pc := 28) (by decide +kernel)
      j_ic (pc := 28) D rfl fun D =>
      j_zret D rt_62 (gy (by decide))) (fun q D =>
      j_aldn (pc := 7) D rfl rfl rfl fun D =>
      j_gf (pc := 8) (a := x0.toNat) D rfl rfl (nz_cls H.2.1 hk (by decide)) rfl hk rfl fun D =>
      j_aldn (pc := 11) D rfl rfl rfl fun D =>
      j_cast (pc := 12) D rfl gn fun D =>
      j_gfo (pc := 15) H.2.1 D rfl rfl rfl rfl fun kc2 D =>
      j_ivu (pc := 18) (dd := 212) (a := [(4, h 370 x1.toNat 0)]) (rest := []) H.2.1 D rfl rfl rfl rfl rfl (fun m6 v4 h3 e1 D =>
        have T := fj_run_ok _ _ _ _ _ _ H.1 e1
        have ht371 := fin_st H.1 T.2 hk (by decide) (by decide +kernel) ht371 (by decide)
        have hk := cls_st H.1 T.2 hk (by decide)
        have kc2 := cls_st H.1 T.2 kc2 (by decide)
        have H := shp_st H T
        j_ifeq (pc := 21) D rfl (fun q =>
          have D : fk_D 62 [(28, none, .iconst 0, 1, 0, 0, 0), (29, none, .ireturn, 1, 0, 0, 0)] := fq_of2 cd_62 ow_62 cl_62 rfl (pc := 28) (by decide +kernel)
          j_ic (pc := 28) D rfl fun D =>
          j_zret D rt_62 (gy (by decide))) (fun q D =>
          j_ic (pc := 24) D rfl fun D =>
          j_goto (pc := 25) D rfl <|
          have D : fk_D 62 [(29, none, .ireturn, 1, 0, 0, 0)] := fq_of2 cd_62 ow_62 cl_62 rfl (pc := 29) (by decide +kernel)
          j_zret D rt_62 (gy (by decide)))) (fun m6 q5 h3 e1 =>
        j_tx (hx_62 _)))
/-! 63 StatuteHouse$Plain.isLike(LStatuteHouse$Part;)Z -/
theorem cd_63 : fi_code 63 = prog_52_method_3_code := rfl
theorem hx_63 : ∀ pc, fi_hat 63 pc = none := fun pc => by unfold fi_hat; rw [show fi_hh 63 = [] from rfl]; rfl
theorem rt_63 : fi_ret 63 = some .boolean := rfl
theorem nl_63 : fi_nl 63 = 2 := rfl
theorem ow_63 : fi_ow 63 = 14 := rfl
theorem cl_63 : fj_cutT.getD 63 [] = [] := rfl
theorem m_63 (d : Nat) (x0 x1 : Int) {h : fi_H} (H : Shp h) (hk : h 0 x0.toNat 0 = 114) (ht345 : h 345 x0.toNat 0 = 303) : fj_run (d + 1) 63 h [(4, x0), (4, x1)] =
  ii_ x1 (h 0 x1.toNat 0) 114 fun v1 =>
  if v1 = 0 then
    some (.inl (some (0, 0)), h)
  else
    if x1 = 0 ∨ (fi_sup (h 0 x1.toNat 0)).contains 114 = true then
    if h 0 x1.toNat 0 = 114 then
    dv_ (fi_vt 216 (h 0 (h 344 x0.toNat 0).toNat 0)) fun m6 => ca_ (fj_run d m6 h [(4, h 344 x0.toNat 0), (4, h 344 x1.toNat 0)]) 0
      (fun v4 h3 =>
      if v4 = 0 then
        some (.inl (some (0, 0)), h3)
      else
        some (.inl (some (0, 1)), h3))
      (fun q5 h3 => tx_ q5 h3)
    else none
    else none := by
  rw [fj_run_eq d (by decide) h [(4, x0), (4, x1)] (Nat.le_of_ble_eq_true (by rw [nl_63]; rfl))]
  show gG (fj_run d) 63 0 [(0, (4, x0)), (1, (4, x1))] [] h = _
  exact
    have D : fk_D 63 [(0, none, .aload_n 1, 1, 0, 0, 0), (1, none, .instanceof 2, 3, 114, 0, 0), (4, none, .ifCond .eq 24, 3, 28, 0, 0), (7, none, .aload_n 0, 1, 0, 0, 0), (8, none, .getfield 30, 3, 344, 114, 12), (11, none, .aload_n 1, 1, 0, 0, 0), (12, none, .checkcast 2, 3, 114, 0, 0), (15, none, .getfield 30, 3, 344, (-114), 12), (18, none, .invokevirtual 9, 3, 1, 216, 1), (21, none, .ifCond .eq 7, 3, 28, 0, 0), (24, none, .iconst 1, 1, 0, 1, 0), (25, none, .goto 4, 3, 29, 0, 0)] := fq_of2 cd_63 ow_63 cl_63 rfl (pc := 0) (by decide +kernel)
    j_aldn (pc := 0) D rfl rfl rfl fun D =>
    j_inst (pc := 1) D rfl fun v1 D =>
    j_ifeq (pc := 4) D rfl (fun q =>
      have D : fk_D 63 [(28, none, .iconst 0, 1, 0, 0, 0), (29, none, .ireturn, 1, 0, 0, 0)] := fq_of2 cd_63 ow_63 cl_63 rfl (pc := 28) (by decide +kernel)
      j_ic (pc := 28) D rfl fun D =>
      j_zret D rt_63 (gy (by decide))) (fun q D =>
      j_aldn (pc := 7) D rfl rfl rfl fun D =>
      j_gf (pc := 8) (a := x0.toNat) D rfl rfl (nz_cls H.2.1 hk (by decide)) rfl hk rfl fun D =>
      j_aldn (pc := 11) D rfl rfl rfl fun D =>
      j_cast (pc := 12) D rfl gn fun D =>
      j_gfo (pc := 15) H.2.1 D rfl rfl rfl rfl fun kc2 D =>
      j_ivu (pc := 18) (dd := 216) (a := [(4, h 344 x1.toNat 0)]) (rest := []) H.2.1 D rfl rfl rfl rfl rfl (fun m6 v4 h3 e1 D =>
        have T := fj_run_ok _ _ _ _ _ _ H.1 e1
        have ht345 := fin_st H.1 T.2 hk (by decide) (by decide +kernel) ht345 (by decide)
        have hk := cls_st H.1 T.2 hk (by decide)
        have kc2 := cls_st H.1 T.2 kc2 (by decide)
        have H := shp_st H T
        j_ifeq (pc := 21) D rfl (fun q =>
          have D : fk_D 63 [(28, none, .iconst 0, 1, 0, 0, 0), (29, none, .ireturn, 1, 0, 0, 0)] := fq_of2 cd_63 ow_63 cl_63 rfl (pc := 28) (by decide +kernel)
          j_ic (pc := 28) D rfl fun D =>
          j_zret D rt_63 (gy (by decide))) (fun q D =>
          j_ic (pc := 24) D rfl fun D =>
          j_goto (pc := 25) D rfl <|
          have D : fk_D 63 [(29, none, .ireturn, 1, 0, 0, 0)] := fq_of2 cd_63 ow_63 cl_63 rfl (pc := 29) (by decide +kernel)
          j_zret D rt_63 (gy (by decide)))) (fun m6 q5 h3 e1 =>
        j_tx (hx_63 _)))
/-! 64 java/lang/String.equals(Ljava/lang/Object;)Z -/
theorem cd_64 : fi_code 64 = prog_86_method_66_code := rfl
theorem hx_64 : ∀ pc, fi_hat 64 pc = none := fun pc => by unfold fi_hat; rw [show fi_hh 64 = [] from rfl]; rfl
theorem rt_64 : fi_ret 64 = some .boolean := rfl
theorem nl_64 : fi_nl 64 = 3 := rfl
theorem ow_64 : fi_ow 64 = 31 := rfl
theorem cl_64 : fj_cutT.getD 64 [] = [(36, [0, 2])] := rfl
theorem cut_64_36 : fj_cut 64 36 = some [0, 2] := by decide +kernel
noncomputable def c_64_36 (d : Nat) (x0 x2 : Int) (h : fi_H) : fk_R := gG (fj_run d) 64 36 [(0, (4, x0)), (2, (4, x2))] [] h
theorem e_64_36 (d : Nat) (x0 x2 : Int) {h : fi_H} (H : Shp h) (hk : h 0 x0.toNat 0 = 131) : c_64_36 d x0 x2 h =
  if h 0 x2.toNat 0 = 131 then
  ca_ (fj_run d 65 h [(4, h 317 x0.toNat 0), (4, h 317 x2.toNat 0)]) 0
    (fun v3 h2 =>
    if v3 = 0 then
      some (.inl (some (0, 0)), h2)
    else
      some (.inl (some (0, 1)), h2))
    (fun q4 h2 => tx_ q4 h2)
  else none := by
  unfold c_64_36
  exact
    have D : fk_D 64 [(36, some [0, 2], .aload_n 0, 1, 0, 0, 0), (37, none, .getfield 9, 3, 317, 131, 12), (40, none, .aload_n 2, 1, 0, 0, 0), (41, none, .getfield 9, 3, 317, (-131), 12), (44, none, .invokestatic 541, 3, 2, 65, 1), (47, none, .ifCond .eq 7, 3, 54, 0, 0), (50, none, .iconst 1, 1, 0, 1, 0), (51, none, .goto 4, 3, 55, 0, 0)] := fq_of2 cd_64 ow_64 cl_64 rfl (pc := 36) (by decide +kernel)
    j_aldn (pc := 36) D rfl rfl rfl fun D =>
    j_gf (pc := 37) (a := x0.toNat) D rfl rfl (nz_cls H.2.1 hk (by decide)) rfl hk rfl fun D =>
    j_aldn (pc := 40) D rfl rfl rfl fun D =>
    j_gfo (pc := 41) H.2.1 D rfl rfl rfl rfl fun kc1 D =>
    j_is (pc := 44) (m := 65) (a := [(4, h 317 x0.toNat 0), (4, h 317 x2.toNat 0)]) (rest := []) D rfl rfl rfl rfl (fun v3 h2 e1 D =>
      have T := fj_run_ok _ _ _ _ _ _ H.1 e1
      have hk := cls_st H.1 T.2 hk (by decide)
      have kc1 := cls_st H.1 T.2 kc1 (by decide)
      have H := shp_st H T
      j_ifeq (pc := 47) D rfl (fun q =>
        have D : fk_D 64 [(54, none, .iconst 0, 1, 0, 0, 0), (55, none, .ireturn, 1, 0, 0, 0)] := fq_of2 cd_64 ow_64 cl_64 rfl (pc := 54) (by decide +kernel)
        j_ic (pc := 54) D rfl fun D =>
        j_zret D rt_64 (gy (by decide))) (fun q D =>
        j_ic (pc := 50) D rfl fun D =>
        j_goto (pc := 51) D rfl <|
        have D : fk_D 64 [(55, none, .ireturn, 1, 0, 0, 0)] := fq_of2 cd_64 ow_64 cl_64 rfl (pc := 55) (by decide +kernel)
        j_zret D rt_64 (gy (by decide)))) (fun q4 h2 e1 =>
      j_tx (hx_64 _))
theorem m_64 (d : Nat) (x0 x1 : Int) {h : fi_H} (H : Shp h) (hk : h 0 x0.toNat 0 = 131) : fj_run (d + 1) 64 h [(4, x0), (4, x1)] =
  if x0 = x1 then
    some (.inl (some (0, 1)), h)
  else
    ii_ x1 (h 0 x1.toNat 0) 131 fun v1 =>
    if v1 = 0 then
      some (.inl (some (0, 0)), h)
    else
      if x1 = 0 ∨ (fi_sup (h 0 x1.toNat 0)).contains 131 = true then
      if h 0 x1.toNat 0 = 131 then
      if h 318 x0.toNat 0 = h 318 x1.toNat 0 then
        c_64_36 d x0 x1 h
      else
        some (.inl (some (0, 0)), h)
      else none
      else none := by
  rw [fj_run_eq d (by decide) h [(4, x0), (4, x1)] (Nat.le_of_ble_eq_true (by rw [nl_64]; rfl))]
  show gG (fj_run d) 64 0 [(0, (4, x0)), (1, (4, x1))] [] h = _
  exact
    have D : fk_D 64 [(0, none, .aload_n 0, 1, 0, 0, 0), (1, none, .aload_n 1, 1, 0, 0, 0), (2, none, .if_acmp .ne 5, 3, 7, 0, 0), (5, none, .iconst 1, 1, 0, 1, 0), (6, none, .ireturn, 1, 0, 0, 0)] := fq_of2 cd_64 ow_64 cl_64 rfl (pc := 0) (by decide +kernel)
    j_aldn (pc := 0) D rfl rfl rfl fun D =>
    j_aldn (pc := 1) D rfl rfl rfl fun D =>
    j_ane (pc := 2) D rfl (fun q D =>
      j_ic (pc := 5) D rfl fun D =>
      j_zret D rt_64 (gy (by decide))) (fun q =>
      have D : fk_D 64 [(7, none, .aload_n 1, 1, 0, 0, 0), (8, none, .instanceof 10, 3, 131, 0, 0), (11, none, .ifCond .eq 43, 3, 54, 0, 0), (14, none, .aload_n 1, 1, 0, 0, 0), (15, none, .checkcast 10, 3, 131, 0, 0), (18, none, .astore_n 2, 1, 0, 0, 0), (19, none, .getstatic 38, 3, 0, 1, 0), (22, none, .ifCond .eq 14, 3, 36, 0, 0)] := fq_of2 cd_64 ow_64 cl_64 rfl (pc := 7) (by decide +kernel)
      j_aldn (pc := 7) D rfl rfl rfl fun D =>
      j_inst (pc := 8) D rfl fun v1 D =>
      j_ifeq (pc := 11) D rfl (fun q =>
        have D : fk_D 64 [(54, none, .iconst 0, 1, 0, 0, 0), (55, none, .ireturn, 1, 0, 0, 0)] := fq_of2 cd_64 ow_64 cl_64 rfl (pc := 54) (by decide +kernel)
        j_ic (pc := 54) D rfl fun D =>
        j_zret D rt_64 (gy (by decide))) (fun q D =>
        j_aldn (pc := 14) D rfl rfl rfl fun D =>
        j_cast (pc := 15) D rfl gn fun D =>
        j_astn (pc := 18) (L' := [(2, (4, x1)), (0, (4, x0)), (1, (4, x1))]) D rfl nl_64 rfl rfl fun D =>
        j_gs (pc := 19) D rfl fun D =>
        j_known (pc := 22) D rfl rfl (pc' := 25) (st' := []) (by rfl) <|
        have D : fk_D 64 [(25, none, .aload_n 0, 1, 0, 0, 0), (26, none, .getfield 15, 3, 318, 131, 8), (29, none, .aload_n 2, 1, 0, 0, 0), (30, none, .getfield 15, 3, 318, (-131), 8), (33, none, .if_icmp .ne 21, 3, 54, 0, 0)] := fq_of2 cd_64 ow_64 cl_64 rfl (pc := 25) (by decide +kernel)
        j_aldn (pc := 25) D rfl rfl rfl fun D =>
        j_gf (pc := 26) (a := x0.toNat) D rfl rfl (nz_cls H.2.1 hk (by decide)) rfl hk rfl fun D =>
        j_aldn (pc := 29) D rfl rfl rfl fun D =>
        j_gfo (pc := 30) H.2.1 D rfl rfl rfl rfl fun kc2 D =>
        j_ine (pc := 33) D rfl (fun q D =>
          fk_jump cut_64_36 rfl rfl) (fun q =>
          have D : fk_D 64 [(54, none, .iconst 0, 1, 0, 0, 0), (55, none, .ireturn, 1, 0, 0, 0)] := fq_of2 cd_64 ow_64 cl_64 rfl (pc := 54) (by decide +kernel)
          j_ic (pc := 54) D rfl fun D =>
          j_zret D rt_64 (gy (by decide)))))
/-! 65 java/lang/StringLatin1.equals([B[B)Z -/
theorem cd_65 : fi_code 65 = prog_88_method_13_code := rfl
theorem hx_65 : ∀ pc, fi_hat 65 pc = none := fun pc => by unfold fi_hat; rw [show fi_hh 65 = [] from rfl]; rfl
theorem rt_65 : fi_ret 65 = some .boolean := rfl
theorem nl_65 : fi_nl 65 = 3 := rfl
theorem ow_65 : fi_ow 65 = 79 := rfl
theorem cl_65 : fj_cutT.getD 65 [] = [(9, [0, 1, 2])] := rfl
theorem cut_65_9 : fj_cut 65 9 = some [0, 1, 2] := by decide +kernel
noncomputable def c_65_9 (d : Nat) (x0 x1 x2 : Int) (h : fi_H) : fk_R := gG (fj_run d) 65 9 [(0, (4, x0)), (1, (4, x1)), (2, (0, x2))] [] h
theorem e_65_9 (d : Nat) (x0 x1 x2 : Int) {h : fi_H} (H : Shp h) : c_65_9 d x0 x1 x2 h =
  if fk_isA (h 0 x0.toNat 0) = true then
  if x2 < h 1 x0.toNat 0 then
    if fi_et 1 (h 0 x0.toNat 0) ≠ 0 ∧ 0 ≤ x2 ∧ x2 < h 1 x0.toNat 0 then
    if fi_et 1 (h 0 x1.toNat 0) ≠ 0 ∧ 0 ≤ x2 ∧ x2 < h 1 x1.toNat 0 then
    if h (fi_et 1 (h 0 x0.toNat 0)) x0.toNat x2.toNat = h (fi_et 1 (h 0 x1.toNat 0)) x1.toNat x2.toNat then
      c_65_9 d x0 x1 (wI (x2 + 1)) h
    else
      some (.inl (some (0, 0)), h)
    else none
    else none
  else
    some (.inl (some (0, 1)), h)
  else none := by
  unfold c_65_9
  exact
    have D : fk_D 65 [(9, some [0, 1, 2], .iload_n 2, 1, 0, 0, 0), (10, none, .aload_n 0, 1, 0, 0, 0), (11, none, .arraylength, 1, 0, 0, 0), (12, none, .if_icmp .ge 20, 3, 32, 0, 0), (15, none, .aload_n 0, 1, 0, 0, 0), (16, none, .iload_n 2, 1, 0, 0, 0), (17, none, .baload, 1, 0, 0, 0), (18, none, .aload_n 1, 1, 0, 0, 0), (19, none, .iload_n 2, 1, 0, 0, 0), (20, none, .baload, 1, 0, 0, 0), (21, none, .if_icmp .eq 5, 3, 26, 0, 0), (24, none, .iconst 0, 1, 0, 0, 0), (25, none, .ireturn, 1, 0, 0, 0)] := fq_of2 cd_65 ow_65 cl_65 rfl (pc := 9) (by decide +kernel)
    j_ildn (pc := 9) D rfl rfl rfl fun D =>
    j_aldn (pc := 10) D rfl rfl rfl fun D =>
    j_lenu (pc := 11) H.2.1 D rfl fun q D =>
    j_ige (pc := 12) D rfl (fun q D =>
      j_aldn (pc := 15) D rfl rfl rfl fun D =>
      j_ildn (pc := 16) D rfl rfl rfl fun D =>
      j_alb (pc := 17) H.2.1 D rfl rfl fun q q2 D =>
      j_aldn (pc := 18) D rfl rfl rfl fun D =>
      j_ildn (pc := 19) D rfl rfl rfl fun D =>
      j_alb (pc := 20) H.2.1 D rfl rfl fun q q2 D =>
      j_ieq (pc := 21) D rfl (fun q =>
        have D : fk_D 65 [(26, none, .iinc 2 1, 3, 0, 1, 0), (29, none, .goto (-20), 3, 9, 0, 0)] := fq_of2 cd_65 ow_65 cl_65 rfl (pc := 26) (by decide +kernel)
        j_inc (pc := 26) (L' := [(2, (0, wI (x2 + 1))), (0, (4, x0)), (1, (4, x1))]) D rfl rfl rfl (by decide +kernel) rfl fun D =>
        j_goto (pc := 29) D rfl <|
        fk_jump cut_65_9 rfl rfl) (fun q D =>
        j_ic (pc := 24) D rfl fun D =>
        j_zret D rt_65 (gy (by decide)))) (fun q =>
      have D : fk_D 65 [(32, none, .iconst 1, 1, 0, 1, 0), (33, none, .ireturn, 1, 0, 0, 0)] := fq_of2 cd_65 ow_65 cl_65 rfl (pc := 32) (by decide +kernel)
      j_ic (pc := 32) D rfl fun D =>
      j_zret D rt_65 (gy (by decide)))
theorem m_65 (d : Nat) (x0 x1 : Int) {h : fi_H} (H : Shp h) : fj_run (d + 1) 65 h [(4, x0), (4, x1)] =
  if fk_isA (h 0 x0.toNat 0) = true then
  if fk_isA (h 0 x1.toNat 0) = true then
  if h 1 x0.toNat 0 = h 1 x1.toNat 0 then
    c_65_9 d x0 x1 0 h
  else
    some (.inl (some (0, 0)), h)
  else none
  else none := by
  rw [fj_run_eq d (by decide) h [(4, x0), (4, x1)] (Nat.le_of_ble_eq_true (by rw [nl_65]; rfl))]
  show gG (fj_run d) 65 0 [(0, (4, x0)), (1, (4, x1))] [] h = _
  exact
    have D : fk_D 65 [(0, none, .aload_n 0, 1, 0, 0, 0), (1, none, .arraylength, 1, 0, 0, 0), (2, none, .aload_n 1, 1, 0, 0, 0), (3, none, .arraylength, 1, 0, 0, 0), (4, none, .if_icmp .ne 30, 3, 34, 0, 0), (7, none, .iconst 0, 1, 0, 0, 0), (8, none, .istore_n 2, 1, 0, 0, 0)] := fq_of2 cd_65 ow_65 cl_65 rfl (pc := 0) (by decide +kernel)
    j_aldn (pc := 0) D rfl rfl rfl fun D =>
    j_lenu (pc := 1) H.2.1 D rfl fun q D =>
    j_aldn (pc := 2) D rfl rfl rfl fun D =>
    j_lenu (pc := 3) H.2.1 D rfl fun q D =>
    j_ine (pc := 4) D rfl (fun q D =>
      j_ic (pc := 7) D rfl fun D =>
      j_istn (pc := 8) (L' := [(2, (0, 0)), (0, (4, x0)), (1, (4, x1))]) D rfl nl_65 rfl rfl fun D =>
      fk_jump cut_65_9 rfl rfl) (fun q =>
      have D : fk_D 65 [(34, none, .iconst 0, 1, 0, 0, 0), (35, none, .ireturn, 1, 0, 0, 0)] := fq_of2 cd_65 ow_65 cl_65 rfl (pc := 34) (by decide +kernel)
      j_ic (pc := 34) D rfl fun D =>
      j_zret D rt_65 (gy (by decide)))
/-! 66 StatuteHouse$SetPart.isLike(LStatuteHouse$Part;)Z -/
theorem cd_66 : fi_code 66 = prog_56_method_5_code := rfl
theorem hx_66 : ∀ pc, fi_hat 66 pc = none := fun pc => by unfold fi_hat; rw [show fi_hh 66 = [] from rfl]; rfl
theorem rt_66 : fi_ret 66 = some .boolean := rfl
theorem nl_66 : fi_nl 66 = 3 := rfl
theorem ow_66 : fi_ow 66 = 18 := rfl
theorem cl_66 : fj_cutT.getD 66 [] = [] := rfl
theorem m_66 (d : Nat) (x0 x1 : Int) {h : fi_H} (H : Shp h) (hk : h 0 x0.toNat 0 = 118) (ht356 : h 356 x0.toNat 0 = 303) : fj_run (d + 1) 66 h [(4, x0), (4, x1)] =
  ii_ x1 (h 0 x1.toNat 0) 118 fun v1 =>
  if v1 = 0 then
    some (.inl (some (0, 0)), h)
  else
    if x1 = 0 ∨ (fi_sup (h 0 x1.toNat 0)).contains 118 = true then
    if h 0 x1.toNat 0 = 118 then
    if h 353 x0.toNat 0 = h 353 x1.toNat 0 then
      if h 355 x0.toNat 0 = h 355 x1.toNat 0 then
        dv_ (fi_vt 212 (h 0 (h 354 x0.toNat 0).toNat 0)) fun m6 => ca_ (fj_run d m6 h [(4, h 354 x0.toNat 0), (4, h 354 x1.toNat 0)]) 0
          (fun v4 h3 =>
          if v4 = 0 then
            some (.inl (some (0, 0)), h3)
          else
            some (.inl (some (0, 1)), h3))
          (fun q5 h3 => tx_ q5 h3)
      else
        some (.inl (some (0, 0)), h)
    else
      some (.inl (some (0, 0)), h)
    else none
    else none := by
  rw [fj_run_eq d (by decide) h [(4, x0), (4, x1)] (Nat.le_of_ble_eq_true (by rw [nl_66]; rfl))]
  show gG (fj_run d) 66 0 [(0, (4, x0)), (1, (4, x1))] [] h = _
  exact
    have D : fk_D 66 [(0, none, .aload_n 1, 1, 0, 0, 0), (1, none, .instanceof 4, 3, 118, 0, 0), (4, none, .ifCond .ne 5, 3, 9, 0, 0), (7, none, .iconst 0, 1, 0, 0, 0), (8, none, .ireturn, 1, 0, 0, 0)] := fq_of2 cd_66 ow_66 cl_66 rfl (pc := 0) (by decide +kernel)
    j_aldn (pc := 0) D rfl rfl rfl fun D =>
    j_inst (pc := 1) D rfl fun v1 D =>
    j_ifne (pc := 4) D rfl (fun q D =>
      j_ic (pc := 7) D rfl fun D =>
      j_zret D rt_66 (gy (by decide))) (fun q =>
      have D : fk_D 66 [(9, none, .aload_n 1, 1, 0, 0, 0), (10, none, .checkcast 4, 3, 118, 0, 0), (13, none, .astore_n 2, 1, 0, 0, 0), (14, none, .aload_n 0, 1, 0, 0, 0), (15, none, .getfield 19, 3, 353, 118, 12), (18, none, .aload_n 2, 1, 0, 0, 0), (19, none, .getfield 19, 3, 353, (-118), 12), (22, none, .if_acmp .ne 32, 3, 54, 0, 0), (25, none, .aload_n 0, 1, 0, 0, 0), (26, none, .getfield 27, 3, 355, 118, 10), (29, none, .aload_n 2, 1, 0, 0, 0), (30, none, .getfield 27, 3, 355, 118, 10), (33, none, .if_icmp .ne 21, 3, 54, 0, 0), (36, none, .aload_n 0, 1, 0, 0, 0), (37, none, .getfield 23, 3, 354, 118, 12), (40, none, .aload_n 2, 1, 0, 0, 0), (41, none, .getfield 23, 3, 354, 118, 12), (44, none, .invokevirtual 134, 3, 1, 212, 1), (47, none, .ifCond .eq 7, 3, 54, 0, 0), (50, none, .iconst 1, 1, 0, 1, 0)] := fq_of2 cd_66 ow_66 cl_66 rfl (pc := 9) (by decide +kernel)
      j_aldn (pc := 9) D rfl rfl rfl fun D =>
      j_cast (pc := 10) D rfl gn fun D =>
      j_astn (pc := 13) (L' := [(2, (4, x1)), (0, (4, x0)), (1, (4, x1))]) D rfl nl_66 rfl rfl fun D =>
      j_aldn (pc := 14) D rfl rfl rfl fun D =>
      j_gf (pc := 15) (a := x0.toNat) D rfl rfl (nz_cls H.2.1 hk (by decide)) rfl hk rfl fun D =>
      j_aldn (pc := 18) D rfl rfl rfl fun D =>
      j_gfo (pc := 19) H.2.1 D rfl rfl rfl rfl fun kc2 D =>
      j_ane (pc := 22) D rfl (fun q D =>
        j_aldn (pc := 25) D rfl rfl rfl fun D =>
        j_gf (pc := 26) (a := x0.toNat) D rfl rfl (nz_cls H.2.1 hk (by decide)) rfl hk rfl fun D =>
        j_aldn (pc := 29) D rfl rfl rfl fun D =>
        j_gf (pc := 30) (a := x1.toNat) D rfl rfl (nz_cls H.2.1 kc2 (by decide)) rfl kc2 rfl fun D =>
        j_ine (pc := 33) D rfl (fun q D =>
          j_aldn (pc := 36) D rfl rfl rfl fun D =>
          j_gf (pc := 37) (a := x0.toNat) D rfl rfl (nz_cls H.2.1 hk (by decide)) rfl hk rfl fun D =>
          j_aldn (pc := 40) D rfl rfl rfl fun D =>
          j_gf (pc := 41) (a := x1.toNat) D rfl rfl (nz_cls H.2.1 kc2 (by decide)) rfl kc2 rfl fun D =>
          j_ivu (pc := 44) (dd := 212) (a := [(4, h 354 x1.toNat 0)]) (rest := []) H.2.1 D rfl rfl rfl rfl rfl (fun m6 v4 h3 e1 D =>
            have T := fj_run_ok _ _ _ _ _ _ H.1 e1
            have ht356 := fin_st H.1 T.2 hk (by decide) (by decide +kernel) ht356 (by decide)
            have hk := cls_st H.1 T.2 hk (by decide)
            have kc2 := cls_st H.1 T.2 kc2 (by decide)
            have H := shp_st H T
            j_ifeq (pc := 47) D rfl (fun q =>
              have D : fk_D 66 [(54, none, .iconst 0, 1, 0, 0, 0), (55, none, .ireturn, 1, 0, 0, 0)] := fq_of2 cd_66 ow_66 cl_66 rfl (pc := 54) (by decide +kernel)
              j_ic (pc := 54) D rfl fun D =>
              j_zret D rt_66 (gy (by decide))) (fun q D =>
              j_ic (pc := 50) D rfl fun D =>
              have D : fk_D 66 [(51, none, .goto 4, 3, 55, 0, 0)] := fq_of2 cd_66 ow_66 cl_66 rfl (pc := 51) (by decide +kernel)
              j_goto (pc := 51) D rfl <|
              have D : fk_D 66 [(55, none, .ireturn, 1, 0, 0, 0)] := fq_of2 cd_66 ow_66 cl_66 rfl (pc := 55) (by decide +kernel)
              j_zret D rt_66 (gy (by decide)))) (fun m6 q5 h3 e1 =>
            j_tx (hx_66 _))) (fun q =>
          have D : fk_D 66 [(54, none, .iconst 0, 1, 0, 0, 0), (55, none, .ireturn, 1, 0, 0, 0)] := fq_of2 cd_66 ow_66 cl_66 rfl (pc := 54) (by decide +kernel)
          j_ic (pc := 54) D rfl fun D =>
          j_zret D rt_66 (gy (by decide)))) (fun q =>
        have D : fk_D 66 [(54, none, .iconst 0, 1, 0, 0, 0), (55, none, .ireturn, 1, 0, 0, 0)] := fq_of2 cd_66 ow_66 cl_66 rfl (pc := 54) (by decide +kernel)
        j_ic (pc := 54) D rfl fun D =>
        j_zret D rt_66 (gy (by decide))))
/-! 67 StatuteHouse$TablePart.isLike(LStatuteHouse$Part;)Z -/
theorem cd_67 : fi_code 67 = prog_61_method_7_code := rfl
theorem hx_67 : ∀ pc, fi_hat 67 pc = none := fun pc => by unfold fi_hat; rw [show fi_hh 67 = [] from rfl]; rfl
theorem rt_67 : fi_ret 67 = some .boolean := rfl
theorem nl_67 : fi_nl 67 = 3 := rfl
theorem ow_67 : fi_ow 67 = 22 := rfl
theorem cl_67 : fj_cutT.getD 67 [] = [] := rfl
theorem m_67 (d : Nat) (x0 x1 : Int) {h : fi_H} (H : Shp h) (hk : h 0 x0.toNat 0 = 122) (ht360 : h 360 x0.toNat 0 = 303) : fj_run (d + 1) 67 h [(4, x0), (4, x1)] =
  ii_ x1 (h 0 x1.toNat 0) 122 fun v1 =>
  if v1 = 0 then
    some (.inl (some (0, 0)), h)
  else
    if x1 = 0 ∨ (fi_sup (h 0 x1.toNat 0)).contains 122 = true then
    if h 0 x1.toNat 0 = 122 then
    dv_ (fi_vt 216 (h 0 (h 357 x0.toNat 0).toNat 0)) fun m6 => ca_ (fj_run d m6 h [(4, h 357 x0.toNat 0), (4, h 357 x1.toNat 0)]) 0
      (fun v4 h3 =>
      if v4 = 0 then
        some (.inl (some (0, 0)), h3)
      else
        if h3 358 x0.toNat 0 = h3 358 x1.toNat 0 then
          dv_ (fi_vt 212 (h3 0 (h3 359 x0.toNat 0).toNat 0)) fun m10 => ca_ (fj_run d m10 h3 [(4, h3 359 x0.toNat 0), (4, h3 359 x1.toNat 0)]) 0
            (fun v8 h7 =>
            if v8 = 0 then
              some (.inl (some (0, 0)), h7)
            else
              some (.inl (some (0, 1)), h7))
            (fun q9 h7 => tx_ q9 h7)
        else
          some (.inl (some (0, 0)), h3))
      (fun q5 h3 => tx_ q5 h3)
    else none
    else none := by
  rw [fj_run_eq d (by decide) h [(4, x0), (4, x1)] (Nat.le_of_ble_eq_true (by rw [nl_67]; rfl))]
  show gG (fj_run d) 67 0 [(0, (4, x0)), (1, (4, x1))] [] h = _
  exact
    have D : fk_D 67 [(0, none, .aload_n 1, 1, 0, 0, 0), (1, none, .instanceof 4, 3, 122, 0, 0), (4, none, .ifCond .ne 5, 3, 9, 0, 0), (7, none, .iconst 0, 1, 0, 0, 0), (8, none, .ireturn, 1, 0, 0, 0)] := fq_of2 cd_67 ow_67 cl_67 rfl (pc := 0) (by decide +kernel)
    j_aldn (pc := 0) D rfl rfl rfl fun D =>
    j_inst (pc := 1) D rfl fun v1 D =>
    j_ifne (pc := 4) D rfl (fun q D =>
      j_ic (pc := 7) D rfl fun D =>
      j_zret D rt_67 (gy (by decide))) (fun q =>
      have D : fk_D 67 [(9, none, .aload_n 1, 1, 0, 0, 0), (10, none, .checkcast 4, 3, 122, 0, 0), (13, none, .astore_n 2, 1, 0, 0, 0), (14, none, .aload_n 0, 1, 0, 0, 0), (15, none, .getfield 19, 3, 357, 122, 12), (18, none, .aload_n 2, 1, 0, 0, 0), (19, none, .getfield 19, 3, 357, (-122), 12), (22, none, .invokevirtual 44, 3, 1, 216, 1), (25, none, .ifCond .eq 32, 3, 57, 0, 0), (28, none, .aload_n 0, 1, 0, 0, 0), (29, none, .getfield 23, 3, 358, 122, 10), (32, none, .aload_n 2, 1, 0, 0, 0), (33, none, .getfield 23, 3, 358, 122, 10), (36, none, .if_icmp .ne 21, 3, 57, 0, 0), (39, none, .aload_n 0, 1, 0, 0, 0), (40, none, .getfield 26, 3, 359, 122, 12), (43, none, .aload_n 2, 1, 0, 0, 0), (44, none, .getfield 26, 3, 359, 122, 12), (47, none, .invokevirtual 119, 3, 1, 212, 1), (50, none, .ifCond .eq 7, 3, 57, 0, 0)] := fq_of2 cd_67 ow_67 cl_67 rfl (pc := 9) (by decide +kernel)
      j_aldn (pc := 9) D rfl rfl rfl fun D =>
      j_cast (pc := 10) D rfl gn fun D =>
      j_astn (pc := 13) (L' := [(2, (4, x1)), (0, (4, x0)), (1, (4, x1))]) D rfl nl_67 rfl rfl fun D =>
      j_aldn (pc := 14) D rfl rfl rfl fun D =>
      j_gf (pc := 15) (a := x0.toNat) D rfl rfl (nz_cls H.2.1 hk (by decide)) rfl hk rfl fun D =>
      j_aldn (pc := 18) D rfl rfl rfl fun D =>
      j_gfo (pc := 19) H.2.1 D rfl rfl rfl rfl fun kc2 D =>
      j_ivu (pc := 22) (dd := 216) (a := [(4, h 357 x1.toNat 0)]) (rest := []) H.2.1 D rfl rfl rfl rfl rfl (fun m6 v4 h3 e1 D =>
        have T := fj_run_ok _ _ _ _ _ _ H.1 e1
        have ht360 := fin_st H.1 T.2 hk (by decide) (by decide +kernel) ht360 (by decide)
        have hk := cls_st H.1 T.2 hk (by decide)
        have kc2 := cls_st H.1 T.2 kc2 (by decide)
        have H := shp_st H T
        j_ifeq (pc := 25) D rfl (fun q =>
          have D : fk_D 67 [(57, none, .iconst 0, 1, 0, 0, 0), (58, none, .ireturn, 1, 0, 0, 0)] := fq_of2 cd_67 ow_67 cl_67 rfl (pc := 57) (by decide +kernel)
          j_ic (pc := 57) D rfl fun D =>
          j_zret D rt_67 (gy (by decide))) (fun q D =>
          j_aldn (pc := 28) D rfl rfl rfl fun D =>
          j_gf (pc := 29) (a := x0.toNat) D rfl rfl (nz_cls H.2.1 hk (by decide)) rfl hk rfl fun D =>
          j_aldn (pc := 32) D rfl rfl rfl fun D =>
          j_gf (pc := 33) (a := x1.toNat) D rfl rfl (nz_cls H.2.1 kc2 (by decide)) rfl kc2 rfl fun D =>
          j_ine (pc := 36) D rfl (fun q D =>
            j_aldn (pc := 39) D rfl rfl rfl fun D =>
            j_gf (pc := 40) (a := x0.toNat) D rfl rfl (nz_cls H.2.1 hk (by decide)) rfl hk rfl fun D =>
            j_aldn (pc := 43) D rfl rfl rfl fun D =>
            j_gf (pc := 44) (a := x1.toNat) D rfl rfl (nz_cls H.2.1 kc2 (by decide)) rfl kc2 rfl fun D =>
            j_ivu (pc := 47) (dd := 212) (a := [(4, h3 359 x1.toNat 0)]) (rest := []) H.2.1 D rfl rfl rfl rfl rfl (fun m10 v8 h7 e1 D =>
              have T := fj_run_ok _ _ _ _ _ _ H.1 e1
              have ht360 := fin_st H.1 T.2 hk (by decide) (by decide +kernel) ht360 (by decide)
              have hk := cls_st H.1 T.2 hk (by decide)
              have kc2 := cls_st H.1 T.2 kc2 (by decide)
              have H := shp_st H T
              j_ifeq (pc := 50) D rfl (fun q =>
                have D : fk_D 67 [(57, none, .iconst 0, 1, 0, 0, 0), (58, none, .ireturn, 1, 0, 0, 0)] := fq_of2 cd_67 ow_67 cl_67 rfl (pc := 57) (by decide +kernel)
                j_ic (pc := 57) D rfl fun D =>
                j_zret D rt_67 (gy (by decide))) (fun q D =>
                have D : fk_D 67 [(53, none, .iconst 1, 1, 0, 1, 0), (54, none, .goto 4, 3, 58, 0, 0)] := fq_of2 cd_67 ow_67 cl_67 rfl (pc := 53) (by decide +kernel)
                j_ic (pc := 53) D rfl fun D =>
                j_goto (pc := 54) D rfl <|
                have D : fk_D 67 [(58, none, .ireturn, 1, 0, 0, 0)] := fq_of2 cd_67 ow_67 cl_67 rfl (pc := 58) (by decide +kernel)
                j_zret D rt_67 (gy (by decide)))) (fun m10 q9 h7 e1 =>
              j_tx (hx_67 _))) (fun q =>
            have D : fk_D 67 [(57, none, .iconst 0, 1, 0, 0, 0), (58, none, .ireturn, 1, 0, 0, 0)] := fq_of2 cd_67 ow_67 cl_67 rfl (pc := 57) (by decide +kernel)
            j_ic (pc := 57) D rfl fun D =>
            j_zret D rt_67 (gy (by decide))))) (fun m6 q5 h3 e1 =>
        j_tx (hx_67 _)))
/-! 68 StatuteHouse$Two.isLike(LStatuteHouse$Part;)Z -/
theorem cd_68 : fi_code 68 = prog_64_method_5_code := rfl
theorem hx_68 : ∀ pc, fi_hat 68 pc = none := fun pc => by unfold fi_hat; rw [show fi_hh 68 = [] from rfl]; rfl
theorem rt_68 : fi_ret 68 = some .boolean := rfl
theorem nl_68 : fi_nl 68 = 3 := rfl
theorem ow_68 : fi_ow 68 = 25 := rfl
theorem cl_68 : fj_cutT.getD 68 [] = [] := rfl
theorem m_68 (d : Nat) (x0 x1 : Int) {h : fi_H} (H : Shp h) (hk : h 0 x0.toNat 0 = 125) (ht369 : h 369 x0.toNat 0 = 303) : fj_run (d + 1) 68 h [(4, x0), (4, x1)] =
  ii_ x1 (h 0 x1.toNat 0) 125 fun v1 =>
  if v1 = 0 then
    some (.inl (some (0, 0)), h)
  else
    if x1 = 0 ∨ (fi_sup (h 0 x1.toNat 0)).contains 125 = true then
    if h 0 x1.toNat 0 = 125 then
    if h 366 x0.toNat 0 = h 366 x1.toNat 0 then
      dv_ (fi_vt 212 (h 0 (h 367 x0.toNat 0).toNat 0)) fun m6 => ca_ (fj_run d m6 h [(4, h 367 x0.toNat 0), (4, h 367 x1.toNat 0)]) 0
        (fun v4 h3 =>
        if v4 = 0 then
          some (.inl (some (0, 0)), h3)
        else
          dv_ (fi_vt 212 (h3 0 (h3 368 x0.toNat 0).toNat 0)) fun m10 => ca_ (fj_run d m10 h3 [(4, h3 368 x0.toNat 0), (4, h3 368 x1.toNat 0)]) 0
            (fun v8 h7 =>
            if v8 = 0 then
              some (.inl (some (0, 0)), h7)
            else
              some (.inl (some (0, 1)), h7))
            (fun q9 h7 => tx_ q9 h7))
        (fun q5 h3 => tx_ q5 h3)
    else
      some (.inl (some (0, 0)), h)
    else none
    else none := by
  rw [fj_run_eq d (by decide) h [(4, x0), (4, x1)] (Nat.le_of_ble_eq_true (by rw [nl_68]; rfl))]
  show gG (fj_run d) 68 0 [(0, (4, x0)), (1, (4, x1))] [] h = _
  exact
    have D : fk_D 68 [(0, none, .aload_n 1, 1, 0, 0, 0), (1, none, .instanceof 2, 3, 125, 0, 0), (4, none, .ifCond .ne 5, 3, 9, 0, 0), (7, none, .iconst 0, 1, 0, 0, 0), (8, none, .ireturn, 1, 0, 0, 0)] := fq_of2 cd_68 ow_68 cl_68 rfl (pc := 0) (by decide +kernel)
    j_aldn (pc := 0) D rfl rfl rfl fun D =>
    j_inst (pc := 1) D rfl fun v1 D =>
    j_ifne (pc := 4) D rfl (fun q D =>
      j_ic (pc := 7) D rfl fun D =>
      j_zret D rt_68 (gy (by decide))) (fun q =>
      have D : fk_D 68 [(9, none, .aload_n 1, 1, 0, 0, 0), (10, none, .checkcast 2, 3, 125, 0, 0), (13, none, .astore_n 2, 1, 0, 0, 0), (14, none, .aload_n 0, 1, 0, 0, 0), (15, none, .getfield 33, 3, 366, 125, 12), (18, none, .aload_n 2, 1, 0, 0, 0), (19, none, .getfield 33, 3, 366, (-125), 12), (22, none, .if_acmp .ne 35, 3, 57, 0, 0), (25, none, .aload_n 0, 1, 0, 0, 0), (26, none, .getfield 37, 3, 367, 125, 12), (29, none, .aload_n 2, 1, 0, 0, 0), (30, none, .getfield 37, 3, 367, 125, 12), (33, none, .invokevirtual 118, 3, 1, 212, 1), (36, none, .ifCond .eq 21, 3, 57, 0, 0), (39, none, .aload_n 0, 1, 0, 0, 0), (40, none, .getfield 41, 3, 368, 125, 12), (43, none, .aload_n 2, 1, 0, 0, 0), (44, none, .getfield 41, 3, 368, 125, 12), (47, none, .invokevirtual 118, 3, 1, 212, 1), (50, none, .ifCond .eq 7, 3, 57, 0, 0)] := fq_of2 cd_68 ow_68 cl_68 rfl (pc := 9) (by decide +kernel)
      j_aldn (pc := 9) D rfl rfl rfl fun D =>
      j_cast (pc := 10) D rfl gn fun D =>
      j_astn (pc := 13) (L' := [(2, (4, x1)), (0, (4, x0)), (1, (4, x1))]) D rfl nl_68 rfl rfl fun D =>
      j_aldn (pc := 14) D rfl rfl rfl fun D =>
      j_gf (pc := 15) (a := x0.toNat) D rfl rfl (nz_cls H.2.1 hk (by decide)) rfl hk rfl fun D =>
      j_aldn (pc := 18) D rfl rfl rfl fun D =>
      j_gfo (pc := 19) H.2.1 D rfl rfl rfl rfl fun kc2 D =>
      j_ane (pc := 22) D rfl (fun q D =>
        j_aldn (pc := 25) D rfl rfl rfl fun D =>
        j_gf (pc := 26) (a := x0.toNat) D rfl rfl (nz_cls H.2.1 hk (by decide)) rfl hk rfl fun D =>
        j_aldn (pc := 29) D rfl rfl rfl fun D =>
        j_gf (pc := 30) (a := x1.toNat) D rfl rfl (nz_cls H.2.1 kc2 (by decide)) rfl kc2 rfl fun D =>
        j_ivu (pc := 33) (dd := 212) (a := [(4, h 367 x1.toNat 0)]) (rest := []) H.2.1 D rfl rfl rfl rfl rfl (fun m6 v4 h3 e1 D =>
          have T := fj_run_ok _ _ _ _ _ _ H.1 e1
          have ht369 := fin_st H.1 T.2 hk (by decide) (by decide +kernel) ht369 (by decide)
          have hk := cls_st H.1 T.2 hk (by decide)
          have kc2 := cls_st H.1 T.2 kc2 (by decide)
          have H := shp_st H T
          j_ifeq (pc := 36) D rfl (fun q =>
            have D : fk_D 68 [(57, none, .iconst 0, 1, 0, 0, 0), (58, none, .ireturn, 1, 0, 0, 0)] := fq_of2 cd_68 ow_68 cl_68 rfl (pc := 57) (by decide +kernel)
            j_ic (pc := 57) D rfl fun D =>
            j_zret D rt_68 (gy (by decide))) (fun q D =>
            j_aldn (pc := 39) D rfl rfl rfl fun D =>
            j_gf (pc := 40) (a := x0.toNat) D rfl rfl (nz_cls H.2.1 hk (by decide)) rfl hk rfl fun D =>
            j_aldn (pc := 43) D rfl rfl rfl fun D =>
            j_gf (pc := 44) (a := x1.toNat) D rfl rfl (nz_cls H.2.1 kc2 (by decide)) rfl kc2 rfl fun D =>
            j_ivu (pc := 47) (dd := 212) (a := [(4, h3 368 x1.toNat 0)]) (rest := []) H.2.1 D rfl rfl rfl rfl rfl (fun m10 v8 h7 e1 D =>
              have T := fj_run_ok _ _ _ _ _ _ H.1 e1
              have ht369 := fin_st H.1 T.2 hk (by decide) (by decide +kernel) ht369 (by decide)
              have hk := cls_st H.1 T.2 hk (by decide)
              have kc2 := cls_st H.1 T.2 kc2 (by decide)
              have H := shp_st H T
              j_ifeq (pc := 50) D rfl (fun q =>
                have D : fk_D 68 [(57, none, .iconst 0, 1, 0, 0, 0), (58, none, .ireturn, 1, 0, 0, 0)] := fq_of2 cd_68 ow_68 cl_68 rfl (pc := 57) (by decide +kernel)
                j_ic (pc := 57) D rfl fun D =>
                j_zret D rt_68 (gy (by decide))) (fun q D =>
                have D : fk_D 68 [(53, none, .iconst 1, 1, 0, 1, 0), (54, none, .goto 4, 3, 58, 0, 0)] := fq_of2 cd_68 ow_68 cl_68 rfl (pc := 53) (by decide +kernel)
                j_ic (pc := 53) D rfl fun D =>
                j_goto (pc := 54) D rfl <|
                have D : fk_D 68 [(58, none, .ireturn, 1, 0, 0, 0)] := fq_of2 cd_68 ow_68 cl_68 rfl (pc := 58) (by decide +kernel)
                j_zret D rt_68 (gy (by decide)))) (fun m10 q9 h7 e1 =>
              j_tx (hx_68 _)))) (fun m6 q5 h3 e1 =>
          j_tx (hx_68 _))) (fun q =>
        have D : fk_D 68 [(57, none, .iconst 0, 1, 0, 0, 0), (58, none, .ireturn, 1, 0, 0, 0)] := fq_of2 cd_68 ow_68 cl_68 rfl (pc := 57) (by decide +kernel)
        j_ic (pc := 57) D rfl fun D =>
        j_zret D rt_68 (gy (by decide))))
/-! 69 StatuteHouse.differs(I)I -/
theorem cd_69 : fi_code 69 = prog_1_method_49_code := rfl
theorem hx_69 : ∀ pc, fi_hat 69 pc = none := fun pc => by unfold fi_hat; rw [show fi_hh 69 = [] from rfl]; rfl
theorem rt_69 : fi_ret 69 = some .int := rfl
theorem nl_69 : fi_nl 69 = 2 := rfl
theorem ow_69 : fi_ow 69 = 0 := rfl
theorem cl_69 : fj_cutT.getD 69 [] = [] := rfl
theorem m_69 (d : Nat) (x1 : Int) {h : fi_H} (H : Shp h) : fj_run (d + 1) 69 h [(4, 303), (0, x1)] =
  if x1 < 0 then
    some (.inl (some (0, (-1))), h)
  else
    if x1 < h 273 303 0 then
      if 0 ≤ x1 ∧ x1 < 400 then
      some (.inl (some (0, h 10 405 x1.toNat)), h)
      else none
    else
      some (.inl (some (0, (-1))), h) := by
  rw [fj_run_eq d (by decide) h [(4, 303), (0, x1)] (Nat.le_of_ble_eq_true (by rw [nl_69]; rfl))]
  show gG (fj_run d) 69 0 [(0, (4, 303)), (1, (0, x1))] [] h = _
  exact
    have D : fk_D 69 [(0, none, .iload_n 1, 1, 0, 0, 0), (1, none, .ifCond .lt 20, 3, 21, 0, 0), (4, none, .iload_n 1, 1, 0, 0, 0), (5, none, .aload_n 0, 1, 0, 0, 0), (6, none, .getfield 581, 3, 273, 100, 10), (9, none, .if_icmp .ge 12, 3, 21, 0, 0), (12, none, .aload_n 0, 1, 0, 0, 0), (13, none, .getfield 595, 3, 272, 100, 12), (16, none, .iload_n 1, 1, 0, 0, 0), (17, none, .iaload, 1, 0, 0, 0), (18, none, .goto 4, 3, 22, 0, 0)] := fq_of2 cd_69 ow_69 cl_69 rfl (pc := 0) (by decide +kernel)
    j_ildn (pc := 0) D rfl rfl rfl fun D =>
    j_iflt (pc := 1) D rfl (fun q =>
      have D : fk_D 69 [(21, none, .iconst (-1), 1, 0, (-1), 0), (22, none, .ireturn, 1, 0, 0, 0)] := fq_of2 cd_69 ow_69 cl_69 rfl (pc := 21) (by decide +kernel)
      j_ic (pc := 21) D rfl fun D =>
      j_iret D rt_69) (fun q D =>
      j_ildn (pc := 4) D rfl rfl rfl fun D =>
      j_aldn (pc := 5) D rfl rfl rfl fun D =>
      j_gf (pc := 6) (a := 303) D rfl rfl (by decide) rfl (s0_303 H) rfl fun D =>
      j_ige (pc := 9) D rfl (fun q D =>
        j_aldn (pc := 12) D rfl rfl rfl fun D =>
        j_gfc (pc := 13) (a := 303) D rfl rfl (by decide) rfl (s0_303 H) rfl (sf_272_303 H) fun D =>
        j_ildn (pc := 16) D rfl rfl rfl fun D =>
        j_al (pc := 17) (a := 405) (e := 10) D rfl rfl rfl (by decide) (s0_405 H) (s1_405 H) ⟨rfl, rfl, rfl⟩ rfl gn fun qb1 D =>
        j_goto (pc := 18) D rfl <|
        have D : fk_D 69 [(22, none, .ireturn, 1, 0, 0, 0)] := fq_of2 cd_69 ow_69 cl_69 rfl (pc := 22) (by decide +kernel)
        j_iret D rt_69) (fun q =>
        have D : fk_D 69 [(21, none, .iconst (-1), 1, 0, (-1), 0), (22, none, .ireturn, 1, 0, 0, 0)] := fq_of2 cd_69 ow_69 cl_69 rfl (pc := 21) (by decide +kernel)
        j_ic (pc := 21) D rfl fun D =>
        j_iret D rt_69))
