/-! forms of methods 498..525, printed by gen/forms.py -/
set_option maxRecDepth 100000
/-! 498 StatuteHouseModel.readNames()V -/
theorem cd_498 : fi_code 498 = prog_69_method_44_code := rfl
theorem hx_498 : ∀ pc, fi_hat 498 pc = none := fun pc => by unfold fi_hat; rw [show fi_hh 498 = [] from rfl]; rfl
theorem rt_498 : fi_ret 498 = none := rfl
theorem nl_498 : fi_nl 498 = 3 := rfl
theorem ow_498 : fi_ow 498 = 29 := rfl
theorem cl_498 : fj_cutT.getD 498 [] = [(0, [0]), (35, [0]), (40, [0]), (73, [0]), (112, [0, 2]), (117, [0, 2]), (153, [0])] := rfl
theorem cut_498_0 : fj_cut 498 0 = some [0] := by decide +kernel
noncomputable def c_498_0 (d : Nat) (h : fi_H) : fk_R := gG (fj_run d) 498 0 [(0, (4, 602))] [] h
theorem cut_498_35 : fj_cut 498 35 = some [0] := by decide +kernel
noncomputable def c_498_35 (d : Nat) (s0 : Int) (h : fi_H) : fk_R := gG (fj_run d) 498 35 [(0, (4, 602))] [(4, s0)] h
theorem cut_498_40 : fj_cut 498 40 = some [0] := by decide +kernel
noncomputable def c_498_40 (d : Nat) (s0 s1 : Int) (h : fi_H) : fk_R := gG (fj_run d) 498 40 [(0, (4, 602))] [(0, s1), (4, s0)] h
theorem cut_498_73 : fj_cut 498 73 = some [0] := by decide +kernel
noncomputable def c_498_73 (d : Nat) (s0 : Int) (h : fi_H) : fk_R := gG (fj_run d) 498 73 [(0, (4, 602))] [(0, s0)] h
theorem cut_498_112 : fj_cut 498 112 = some [0, 2] := by decide +kernel
noncomputable def c_498_112 (d : Nat) (x2 s0 : Int) (h : fi_H) : fk_R := gG (fj_run d) 498 112 [(0, (4, 602)), (2, (0, x2))] [(4, s0)] h
theorem cut_498_117 : fj_cut 498 117 = some [0, 2] := by decide +kernel
noncomputable def c_498_117 (d : Nat) (x2 s0 s1 : Int) (h : fi_H) : fk_R := gG (fj_run d) 498 117 [(0, (4, 602)), (2, (0, x2))] [(0, s1), (4, s0)] h
theorem cut_498_153 : fj_cut 498 153 = some [0] := by decide +kernel
noncomputable def c_498_153 (d : Nat) (h : fi_H) : fk_R := gG (fj_run d) 498 153 [(0, (4, 602))] [] h
theorem e_498_0 (d : Nat) {h : fi_H} (H : Shp h) : c_498_0 d h =
  if h 394 602 0 = 7 then
    some (.inl none, h)
  else
    ca_ (fj_run d 499 h [(4, 602), (0, 0)]) 0
      (fun v2 h1 =>
      if v2 = 0 then
        ca_ (fj_run d 499 h1 [(4, 602), (0, 1)]) 0
          (fun v5 h4 =>
          if v5 = 0 then
            ca_ (fj_run d 499 h4 [(4, 602), (0, 70)]) 0
              (fun v8 h7 =>
              if v8 = 0 then
                c_498_40 d 602 0 h7
              else
                c_498_35 d 602 h7)
              (fun q9 h7 => tx_ q9 h7)
          else
            c_498_35 d 602 h4)
          (fun q6 h4 => tx_ q6 h4)
      else
        c_498_35 d 602 h1)
      (fun q3 h1 => tx_ q3 h1) := by
  unfold c_498_0
  exact
    have D : fk_D 498 [(0, some [0], .aload_n 0, 1, 0, 0, 0), (1, none, .getfield 513, 3, 394, 129, 10), (4, none, .bipush 7, 2, 0, 7, 0), (6, none, .if_icmp .eq 156, 3, 162, 0, 0), (9, none, .aload_n 0, 1, 0, 0, 0), (10, none, .aload_n 0, 1, 0, 0, 0), (11, none, .iconst 0, 1, 0, 0, 0), (12, none, .invokevirtual 570, 3, 1, 352, 1), (15, none, .ifCond .ne 20, 3, 35, 0, 0), (18, none, .aload_n 0, 1, 0, 0, 0), (19, none, .iconst 1, 1, 0, 1, 0), (20, none, .invokevirtual 570, 3, 1, 352, 1), (23, none, .ifCond .ne 12, 3, 35, 0, 0), (26, none, .aload_n 0, 1, 0, 0, 0), (27, none, .bipush 70, 2, 0, 70, 0), (29, none, .invokevirtual 570, 3, 1, 352, 1), (32, none, .ifCond .eq 7, 3, 39, 0, 0)] := fq_of2 cd_498 ow_498 cl_498 rfl (pc := 0) (by decide +kernel)
    j_aldn (pc := 0) D rfl rfl rfl fun D =>
    j_gf (pc := 1) (a := 602) D rfl rfl (by decide) rfl (s0_602 H) rfl fun D =>
    j_bp (pc := 4) D rfl fun D =>
    j_ieq (pc := 6) D rfl (fun q =>
      have D : fk_D 498 [(162, none, .return_, 1, 0, 0, 0)] := fq_of2 cd_498 ow_498 cl_498 rfl (pc := 162) (by decide +kernel)
      j_vret D rt_498) (fun q D =>
      j_aldn (pc := 9) D rfl rfl rfl fun D =>
      j_aldn (pc := 10) D rfl rfl rfl fun D =>
      j_ic (pc := 11) D rfl fun D =>
      j_iv (pc := 12) (m := 499) (dd := 352) (a := [(0, 0)]) (rest := [(4, 602)]) D rfl rfl rfl rfl rfl (by decide) (s0_602 H) (by decide +kernel) (fun v2 h1 e1 D =>
        have T := fj_run_ok _ _ _ _ _ _ H.1 e1
        have H := shp_st H T
        j_ifne (pc := 15) D rfl (fun q D =>
          j_aldn (pc := 18) D rfl rfl rfl fun D =>
          j_ic (pc := 19) D rfl fun D =>
          j_iv (pc := 20) (m := 499) (dd := 352) (a := [(0, 1)]) (rest := [(4, 602)]) D rfl rfl rfl rfl rfl (by decide) (s0_602 H) (by decide +kernel) (fun v5 h4 e1 D =>
            have T := fj_run_ok _ _ _ _ _ _ H.1 e1
            have H := shp_st H T
            j_ifne (pc := 23) D rfl (fun q D =>
              j_aldn (pc := 26) D rfl rfl rfl fun D =>
              j_bp (pc := 27) D rfl fun D =>
              j_iv (pc := 29) (m := 499) (dd := 352) (a := [(0, 70)]) (rest := [(4, 602)]) D rfl rfl rfl rfl rfl (by decide) (s0_602 H) (by decide +kernel) (fun v8 h7 e1 D =>
                have T := fj_run_ok _ _ _ _ _ _ H.1 e1
                have H := shp_st H T
                j_ifeq (pc := 32) D rfl (fun q =>
                  have D : fk_D 498 [(39, none, .iconst 0, 1, 0, 0, 0)] := fq_of2 cd_498 ow_498 cl_498 rfl (pc := 39) (by decide +kernel)
                  j_ic (pc := 39) D rfl fun D =>
                  fk_jump cut_498_40 rfl rfl) (fun q D =>
                  fk_jump cut_498_35 rfl rfl)) (fun q9 h7 e1 =>
                j_tx (hx_498 _))) (fun q =>
              fk_jump cut_498_35 rfl rfl)) (fun q6 h4 e1 =>
            j_tx (hx_498 _))) (fun q =>
          fk_jump cut_498_35 rfl rfl)) (fun q3 h1 e1 =>
        j_tx (hx_498 _)))
theorem e_498_35 (d : Nat) (s0 : Int) {h : fi_H} (H : Shp h) : c_498_35 d s0 h =
  c_498_40 d s0 1 h := by
  unfold c_498_35
  exact
    have D : fk_D 498 [(35, some [0], .iconst 1, 1, 0, 1, 0), (36, none, .goto 4, 3, 40, 0, 0)] := fq_of2 cd_498 ow_498 cl_498 rfl (pc := 35) (by decide +kernel)
    j_ic (pc := 35) D rfl fun D =>
    j_goto (pc := 36) D rfl <|
    fk_jump cut_498_40 rfl rfl
theorem e_498_40 (d : Nat) (s0 s1 : Int) {h : fi_H} (H : Shp h) : c_498_40 d s0 s1 h =
  dv_ (fi_vt 348 (h 0 s0.toNat 0)) fun m4 => cv_ (fj_run d m4 h [(4, s0), (0, s1), (0, 1), (0, h 396 602 0)])
    (fun h1 =>
    ca_ (fj_run d 499 h1 [(4, 602), (0, 0)]) 0
      (fun v6 h5 =>
      if v6 = 0 then
        ca_ (fj_run d 499 h5 [(4, 602), (0, 1)]) 0
          (fun v9 h8 =>
          if v9 = 0 then
            c_498_73 d 2 h8
          else
            c_498_73 d 1 h8)
          (fun q10 h8 => tx_ q10 h8)
      else
        c_498_73 d 0 h5)
      (fun q7 h5 => tx_ q7 h5))
    (fun q3 h1 => tx_ q3 h1) := by
  unfold c_498_40
  exact
    have D : fk_D 498 [(40, some [0], .iconst 1, 1, 0, 1, 0), (41, none, .aload_n 0, 1, 0, 0, 0), (42, none, .getfield 507, 3, 396, 129, 10), (45, none, .invokevirtual 557, 3, 3, 348, 0), (48, none, .aload_n 0, 1, 0, 0, 0), (49, none, .iconst 0, 1, 0, 0, 0), (50, none, .invokevirtual 570, 3, 1, 352, 1), (53, none, .ifCond .eq 7, 3, 60, 0, 0), (56, none, .iconst 0, 1, 0, 0, 0), (57, none, .goto 16, 3, 73, 0, 0)] := fq_of2 cd_498 ow_498 cl_498 rfl (pc := 40) (by decide +kernel)
    j_ic (pc := 40) D rfl fun D =>
    j_aldn (pc := 41) D rfl rfl rfl fun D =>
    j_gf (pc := 42) (a := 602) D rfl rfl (by decide) rfl (s0_602 H) rfl fun D =>
    j_ivuv (pc := 45) (dd := 348) (a := [(0, s1), (0, 1), (0, h 396 602 0)]) (rest := []) H.2.1 D rfl rfl rfl rfl rfl (fun m4 h1 e1 D =>
      have T := fj_run_ok _ _ _ _ _ _ H.1 e1
      have H := shp_st H T
      j_aldn (pc := 48) D rfl rfl rfl fun D =>
      j_ic (pc := 49) D rfl fun D =>
      j_iv (pc := 50) (m := 499) (dd := 352) (a := [(0, 0)]) (rest := []) D rfl rfl rfl rfl rfl (by decide) (s0_602 H) (by decide +kernel) (fun v6 h5 e1 D =>
        have T := fj_run_ok _ _ _ _ _ _ H.1 e1
        have H := shp_st H T
        j_ifeq (pc := 53) D rfl (fun q =>
          have D : fk_D 498 [(60, none, .aload_n 0, 1, 0, 0, 0), (61, none, .iconst 1, 1, 0, 1, 0), (62, none, .invokevirtual 570, 3, 1, 352, 1), (65, none, .ifCond .eq 7, 3, 72, 0, 0), (68, none, .iconst 1, 1, 0, 1, 0), (69, none, .goto 4, 3, 73, 0, 0)] := fq_of2 cd_498 ow_498 cl_498 rfl (pc := 60) (by decide +kernel)
          j_aldn (pc := 60) D rfl rfl rfl fun D =>
          j_ic (pc := 61) D rfl fun D =>
          j_iv (pc := 62) (m := 499) (dd := 352) (a := [(0, 1)]) (rest := []) D rfl rfl rfl rfl rfl (by decide) (s0_602 H) (by decide +kernel) (fun v9 h8 e1 D =>
            have T := fj_run_ok _ _ _ _ _ _ H.1 e1
            have H := shp_st H T
            j_ifeq (pc := 65) D rfl (fun q =>
              have D : fk_D 498 [(72, none, .iconst 2, 1, 0, 2, 0)] := fq_of2 cd_498 ow_498 cl_498 rfl (pc := 72) (by decide +kernel)
              j_ic (pc := 72) D rfl fun D =>
              fk_jump cut_498_73 rfl rfl) (fun q D =>
              j_ic (pc := 68) D rfl fun D =>
              j_goto (pc := 69) D rfl <|
              fk_jump cut_498_73 rfl rfl)) (fun q10 h8 e1 =>
            j_tx (hx_498 _))) (fun q D =>
          j_ic (pc := 56) D rfl fun D =>
          j_goto (pc := 57) D rfl <|
          fk_jump cut_498_73 rfl rfl)) (fun q7 h5 e1 =>
        j_tx (hx_498 _))) (fun m4 q3 h1 e1 =>
      j_tx (hx_498 _))
theorem e_498_73 (d : Nat) (s0 : Int) {h : fi_H} (H : Shp h) : c_498_73 d s0 h =
  cv_ (fj_run d 502 h [(4, 602)])
    (fun h1 =>
    ca_ (fj_run d 503 h1 [(4, 602)]) 0
      (fun v5 h4 =>
      if 0 ≤ v5 ∧ v5 < 41 then
      lt_ (fi_upd h4 10 610 v5.toNat s0) fun h7 =>
      if s0 = 2 then
        ca_ (fj_run d 499 h7 [(4, 602), (0, 5)]) 0
          (fun v10 h9 =>
          if v10 = 0 then
            ca_ (fj_run d 499 h9 [(4, 602), (0, 4)]) 0
              (fun v13 h12 =>
              if v13 = 0 then
                c_498_117 d v5 602 0 h12
              else
                c_498_112 d v5 602 h12)
              (fun q14 h12 => tx_ q14 h12)
          else
            c_498_112 d v5 602 h9)
          (fun q11 h9 => tx_ q11 h9)
      else
        ca_ (fj_run d 507 h7 [(4, 602)]) 0
          (fun v16 h15 =>
          lt_ (fi_upd h15 10 611 v5.toNat v16) fun h18 =>
          cv_ (fj_run d 509 h18 [(4, 602), (0, v5)])
            (fun h19 =>
            c_498_153 d h19)
            (fun q21 h19 => tx_ q21 h19))
          (fun q17 h15 => tx_ q17 h15)
      else none)
      (fun q6 h4 => tx_ q6 h4))
    (fun q3 h1 => tx_ q3 h1) := by
  unfold c_498_73
  exact
    have D : fk_D 498 [(73, some [0], .istore_n 1, 1, 0, 0, 0), (74, none, .aload_n 0, 1, 0, 0, 0), (75, none, .invokevirtual 567, 3, 0, 351, 0), (78, none, .aload_n 0, 1, 0, 0, 0), (79, none, .invokevirtual 627, 3, 0, 357, 1), (82, none, .istore_n 2, 1, 0, 0, 0), (83, none, .aload_n 0, 1, 0, 0, 0), (84, none, .getfield 40, 3, 406, 129, 12), (87, none, .iload_n 2, 1, 0, 0, 0), (88, none, .iload_n 1, 1, 0, 0, 0), (89, none, .iastore, 1, 0, 0, 0), (90, none, .iload_n 1, 1, 0, 0, 0), (91, none, .iconst 2, 1, 0, 2, 0), (92, none, .if_icmp .ne 46, 3, 138, 0, 0), (95, none, .aload_n 0, 1, 0, 0, 0), (96, none, .aload_n 0, 1, 0, 0, 0), (97, none, .iconst 5, 1, 0, 5, 0), (98, none, .invokevirtual 570, 3, 1, 352, 1), (101, none, .ifCond .ne 11, 3, 112, 0, 0), (104, none, .aload_n 0, 1, 0, 0, 0)] := fq_of2 cd_498 ow_498 cl_498 rfl (pc := 73) (by decide +kernel)
    j_istn (pc := 73) (L' := [(1, (0, s0)), (0, (4, 602))]) D rfl nl_498 rfl rfl fun D =>
    j_aldn (pc := 74) D rfl rfl rfl fun D =>
    j_ivv (pc := 75) (m := 502) (dd := 351) (a := []) (rest := []) D rfl rfl rfl rfl rfl (by decide) (s0_602 H) (by decide +kernel) (fun h1 e1 D =>
      have T := fj_run_ok _ _ _ _ _ _ H.1 e1
      have H := shp_st H T
      j_aldn (pc := 78) D rfl rfl rfl fun D =>
      j_iv (pc := 79) (m := 503) (dd := 357) (a := []) (rest := []) D rfl rfl rfl rfl rfl (by decide) (s0_602 H) (by decide +kernel) (fun v5 h4 e1 D =>
        have T := fj_run_ok _ _ _ _ _ _ H.1 e1
        have H := shp_st H T
        j_istn (pc := 82) (L' := [(2, (0, v5)), (1, (0, s0)), (0, (4, 602))]) D rfl nl_498 rfl rfl fun D =>
        j_aldn (pc := 83) D rfl rfl rfl fun D =>
        j_gfc (pc := 84) (a := 602) D rfl rfl (by decide) rfl (s0_602 H) rfl (sf_406_602 H) fun D =>
        j_ildn (pc := 87) D rfl rfl rfl fun D =>
        j_ildn (pc := 88) D rfl rfl rfl fun D =>
        j_as (pc := 89) (a := 610) (e := 10) D rfl ⟨rfl, rfl⟩ rfl (by decide) (s0_610 H) (s1_610 H) ⟨rfl, rfl, rfl⟩ rfl gn (gy rfl) fun h7 eh7 S qb8 D =>
        have T := fj_hs_ok H.1 S
        have H := shp_st H T
        j_ildn (pc := 90) D rfl rfl rfl fun D =>
        j_ic (pc := 91) D rfl fun D =>
        j_ine (pc := 92) D rfl (fun q D =>
          j_aldn (pc := 95) D rfl rfl rfl fun D =>
          j_aldn (pc := 96) D rfl rfl rfl fun D =>
          j_ic (pc := 97) D rfl fun D =>
          j_iv (pc := 98) (m := 499) (dd := 352) (a := [(0, 5)]) (rest := [(4, 602)]) D rfl rfl rfl rfl rfl (by decide) (s0_602 H) (by decide +kernel) (fun v10 h9 e1 D =>
            have T := fj_run_ok _ _ _ _ _ _ H.1 e1
            have H := shp_st H T
            j_ifne (pc := 101) D rfl (fun q D =>
              j_aldn (pc := 104) D rfl rfl rfl fun D =>
              have D : fk_D 498 [(105, none, .iconst 4, 1, 0, 4, 0), (106, none, .invokevirtual 570, 3, 1, 352, 1), (109, none, .ifCond .eq 7, 3, 116, 0, 0)] := fq_of2 cd_498 ow_498 cl_498 rfl (pc := 105) (by decide +kernel)
              j_ic (pc := 105) D rfl fun D =>
              j_iv (pc := 106) (m := 499) (dd := 352) (a := [(0, 4)]) (rest := [(4, 602)]) D rfl rfl rfl rfl rfl (by decide) (s0_602 H) (by decide +kernel) (fun v13 h12 e1 D =>
                have T := fj_run_ok _ _ _ _ _ _ H.1 e1
                have H := shp_st H T
                j_ifeq (pc := 109) D rfl (fun q =>
                  have D : fk_D 498 [(116, none, .iconst 0, 1, 0, 0, 0)] := fq_of2 cd_498 ow_498 cl_498 rfl (pc := 116) (by decide +kernel)
                  j_ic (pc := 116) D rfl fun D =>
                  fk_jump cut_498_117 rfl rfl) (fun q D =>
                  fk_jump cut_498_112 rfl rfl)) (fun q14 h12 e1 =>
                j_tx (hx_498 _))) (fun q =>
              fk_jump cut_498_112 rfl rfl)) (fun q11 h9 e1 =>
            j_tx (hx_498 _))) (fun q =>
          have D : fk_D 498 [(138, none, .aload_n 0, 1, 0, 0, 0), (139, none, .getfield 43, 3, 407, 129, 12), (142, none, .iload_n 2, 1, 0, 0, 0), (143, none, .aload_n 0, 1, 0, 0, 0), (144, none, .invokevirtual 630, 3, 0, 358, 1), (147, none, .iastore, 1, 0, 0, 0), (148, none, .aload_n 0, 1, 0, 0, 0), (149, none, .iload_n 2, 1, 0, 0, 0), (150, none, .invokevirtual 633, 3, 1, 359, 0)] := fq_of2 cd_498 ow_498 cl_498 rfl (pc := 138) (by decide +kernel)
          j_aldn (pc := 138) D rfl rfl rfl fun D =>
          j_gfc (pc := 139) (a := 602) D rfl rfl (by decide) rfl (s0_602 H) rfl (sf_407_602 H) fun D =>
          j_ildn (pc := 142) D rfl rfl rfl fun D =>
          j_aldn (pc := 143) D rfl rfl rfl fun D =>
          j_iv (pc := 144) (m := 507) (dd := 358) (a := []) (rest := [(0, v5), (4, 611)]) D rfl rfl rfl rfl rfl (by decide) (s0_602 H) (by decide +kernel) (fun v16 h15 e1 D =>
            have T := fj_run_ok _ _ _ _ _ _ H.1 e1
            have H := shp_st H T
            j_as (pc := 147) (a := 611) (e := 10) D rfl ⟨rfl, rfl⟩ rfl (by decide) (s0_611 H) (s1_611 H) ⟨rfl, rfl, rfl⟩ rfl (gy qb8) (gy rfl) fun h18 eh18 S q D =>
            have T := fj_hs_ok H.1 S
            have H := shp_st H T
            j_aldn (pc := 148) D rfl rfl rfl fun D =>
            j_ildn (pc := 149) D rfl rfl rfl fun D =>
            j_ivv (pc := 150) (m := 509) (dd := 359) (a := [(0, v5)]) (rest := []) D rfl rfl rfl rfl rfl (by decide) (s0_602 H) (by decide +kernel) (fun h19 e1 D =>
              have T := fj_run_ok _ _ _ _ _ _ H.1 e1
              have H := shp_st H T
              fk_jump cut_498_153 rfl rfl) (fun q21 h19 e1 =>
              j_tx (hx_498 _))) (fun q17 h15 e1 =>
            j_tx (hx_498 _)))) (fun q6 h4 e1 =>
        j_tx (hx_498 _))) (fun q3 h1 e1 =>
      j_tx (hx_498 _))
theorem e_498_112 (d : Nat) (x2 s0 : Int) {h : fi_H} (H : Shp h) : c_498_112 d x2 s0 h =
  c_498_117 d x2 s0 1 h := by
  unfold c_498_112
  exact
    have D : fk_D 498 [(112, some [0, 2], .iconst 1, 1, 0, 1, 0), (113, none, .goto 4, 3, 117, 0, 0)] := fq_of2 cd_498 ow_498 cl_498 rfl (pc := 112) (by decide +kernel)
    j_ic (pc := 112) D rfl fun D =>
    j_goto (pc := 113) D rfl <|
    fk_jump cut_498_117 rfl rfl
theorem e_498_117 (d : Nat) (x2 s0 s1 : Int) {h : fi_H} (H : Shp h) : c_498_117 d x2 s0 s1 h =
  dv_ (fi_vt 348 (h 0 s0.toNat 0)) fun m4 => cv_ (fj_run d m4 h [(4, s0), (0, s1), (0, 1), (0, h 396 602 0)])
    (fun h1 =>
    ca_ (fj_run d 507 h1 [(4, 602)]) 0
      (fun v6 h5 =>
      if 0 ≤ x2 ∧ x2 < 41 then
      lt_ (fi_upd h5 10 611 x2.toNat v6) fun h8 =>
      c_498_153 d h8
      else none)
      (fun q7 h5 => tx_ q7 h5))
    (fun q3 h1 => tx_ q3 h1) := by
  unfold c_498_117
  exact
    have D : fk_D 498 [(117, some [0, 2], .iconst 1, 1, 0, 1, 0), (118, none, .aload_n 0, 1, 0, 0, 0), (119, none, .getfield 507, 3, 396, 129, 10), (122, none, .invokevirtual 557, 3, 3, 348, 0), (125, none, .aload_n 0, 1, 0, 0, 0), (126, none, .getfield 43, 3, 407, 129, 12), (129, none, .iload_n 2, 1, 0, 0, 0), (130, none, .aload_n 0, 1, 0, 0, 0), (131, none, .invokevirtual 630, 3, 0, 358, 1), (134, none, .iastore, 1, 0, 0, 0), (135, none, .goto 18, 3, 153, 0, 0)] := fq_of2 cd_498 ow_498 cl_498 rfl (pc := 117) (by decide +kernel)
    j_ic (pc := 117) D rfl fun D =>
    j_aldn (pc := 118) D rfl rfl rfl fun D =>
    j_gf (pc := 119) (a := 602) D rfl rfl (by decide) rfl (s0_602 H) rfl fun D =>
    j_ivuv (pc := 122) (dd := 348) (a := [(0, s1), (0, 1), (0, h 396 602 0)]) (rest := []) H.2.1 D rfl rfl rfl rfl rfl (fun m4 h1 e1 D =>
      have T := fj_run_ok _ _ _ _ _ _ H.1 e1
      have H := shp_st H T
      j_aldn (pc := 125) D rfl rfl rfl fun D =>
      j_gfc (pc := 126) (a := 602) D rfl rfl (by decide) rfl (s0_602 H) rfl (sf_407_602 H) fun D =>
      j_ildn (pc := 129) D rfl rfl rfl fun D =>
      j_aldn (pc := 130) D rfl rfl rfl fun D =>
      j_iv (pc := 131) (m := 507) (dd := 358) (a := []) (rest := [(0, x2), (4, 611)]) D rfl rfl rfl rfl rfl (by decide) (s0_602 H) (by decide +kernel) (fun v6 h5 e1 D =>
        have T := fj_run_ok _ _ _ _ _ _ H.1 e1
        have H := shp_st H T
        j_as (pc := 134) (a := 611) (e := 10) D rfl ⟨rfl, rfl⟩ rfl (by decide) (s0_611 H) (s1_611 H) ⟨rfl, rfl, rfl⟩ rfl gn (gy rfl) fun h8 eh8 S qb9 D =>
        have T := fj_hs_ok H.1 S
        have H := shp_st H T
        j_goto (pc := 135) D rfl <|
        fk_jump cut_498_153 rfl rfl) (fun q7 h5 e1 =>
        j_tx (hx_498 _))) (fun m4 q3 h1 e1 =>
      j_tx (hx_498 _))
theorem e_498_153 (d : Nat) {h : fi_H} (H : Shp h) : c_498_153 d h =
  cv_ (fj_run d 505 h [(4, 602), (0, 59)])
    (fun h1 =>
    c_498_0 d h1)
    (fun q3 h1 => tx_ q3 h1) := by
  unfold c_498_153
  exact
    have D : fk_D 498 [(153, some [0], .aload_n 0, 1, 0, 0, 0), (154, none, .bipush 59, 2, 0, 59, 0), (156, none, .invokevirtual 624, 3, 1, 356, 0), (159, none, .goto (-159), 3, 0, 0, 0)] := fq_of2 cd_498 ow_498 cl_498 rfl (pc := 153) (by decide +kernel)
    j_aldn (pc := 153) D rfl rfl rfl fun D =>
    j_bp (pc := 154) D rfl fun D =>
    j_ivv (pc := 156) (m := 505) (dd := 356) (a := [(0, 59)]) (rest := []) D rfl rfl rfl rfl rfl (by decide) (s0_602 H) (by decide +kernel) (fun h1 e1 D =>
      have T := fj_run_ok _ _ _ _ _ _ H.1 e1
      have H := shp_st H T
      j_goto (pc := 159) D rfl <|
      fk_jump cut_498_0 rfl rfl) (fun q3 h1 e1 =>
      j_tx (hx_498 _))
theorem m_498 (d : Nat) {h : fi_H} (H : Shp h) : fj_run (d + 1) 498 h [(4, 602)] =
  c_498_0 d h := by
  rw [fj_run_eq d (by decide) h [(4, 602)] (Nat.le_of_ble_eq_true (by rw [nl_498]; rfl))]
  show gG (fj_run d) 498 0 [(0, (4, 602))] [] h = _
  exact
    fk_jump cut_498_0 rfl rfl
/-! 499 StatuteHouseModel.isWord(I)Z -/
theorem cd_499 : fi_code 499 = prog_69_method_30_code := rfl
theorem hx_499 : ∀ pc, fi_hat 499 pc = none := fun pc => by unfold fi_hat; rw [show fi_hh 499 = [] from rfl]; rfl
theorem rt_499 : fi_ret 499 = some .boolean := rfl
theorem nl_499 : fi_nl 499 = 2 := rfl
theorem ow_499 : fi_ow 499 = 29 := rfl
theorem cl_499 : fj_cutT.getD 499 [] = [] := rfl
theorem m_499 (d : Nat) (x1 : Int) {h : fi_H} (H : Shp h) : fj_run (d + 1) 499 h [(4, 602), (0, x1)] =
  if h 394 602 0 = 2 then
    if h 395 602 0 = x1 then
      some (.inl (some (0, 1)), h)
    else
      some (.inl (some (0, 0)), h)
  else
    some (.inl (some (0, 0)), h) := by
  rw [fj_run_eq d (by decide) h [(4, 602), (0, x1)] (Nat.le_of_ble_eq_true (by rw [nl_499]; rfl))]
  show gG (fj_run d) 499 0 [(0, (4, 602)), (1, (0, x1))] [] h = _
  exact
    have D : fk_D 499 [(0, none, .aload_n 0, 1, 0, 0, 0), (1, none, .getfield 513, 3, 394, 129, 10), (4, none, .iconst 2, 1, 0, 2, 0), (5, none, .if_icmp .ne 15, 3, 20, 0, 0), (8, none, .aload_n 0, 1, 0, 0, 0), (9, none, .getfield 531, 3, 395, 129, 10), (12, none, .iload_n 1, 1, 0, 0, 0), (13, none, .if_icmp .ne 7, 3, 20, 0, 0), (16, none, .iconst 1, 1, 0, 1, 0), (17, none, .goto 4, 3, 21, 0, 0)] := fq_of2 cd_499 ow_499 cl_499 rfl (pc := 0) (by decide +kernel)
    j_aldn (pc := 0) D rfl rfl rfl fun D =>
    j_gf (pc := 1) (a := 602) D rfl rfl (by decide) rfl (s0_602 H) rfl fun D =>
    j_ic (pc := 4) D rfl fun D =>
    j_ine (pc := 5) D rfl (fun q D =>
      j_aldn (pc := 8) D rfl rfl rfl fun D =>
      j_gf (pc := 9) (a := 602) D rfl rfl (by decide) rfl (s0_602 H) rfl fun D =>
      j_ildn (pc := 12) D rfl rfl rfl fun D =>
      j_ine (pc := 13) D rfl (fun q D =>
        j_ic (pc := 16) D rfl fun D =>
        j_goto (pc := 17) D rfl <|
        have D : fk_D 499 [(21, none, .ireturn, 1, 0, 0, 0)] := fq_of2 cd_499 ow_499 cl_499 rfl (pc := 21) (by decide +kernel)
        j_zret D rt_499 (gy (by decide))) (fun q =>
        have D : fk_D 499 [(20, none, .iconst 0, 1, 0, 0, 0), (21, none, .ireturn, 1, 0, 0, 0)] := fq_of2 cd_499 ow_499 cl_499 rfl (pc := 20) (by decide +kernel)
        j_ic (pc := 20) D rfl fun D =>
        j_zret D rt_499 (gy (by decide)))) (fun q =>
      have D : fk_D 499 [(20, none, .iconst 0, 1, 0, 0, 0), (21, none, .ireturn, 1, 0, 0, 0)] := fq_of2 cd_499 ow_499 cl_499 rfl (pc := 20) (by decide +kernel)
      j_ic (pc := 20) D rfl fun D =>
      j_zret D rt_499 (gy (by decide)))
/-! 500 StatuteHouseModel.need(ZII)V -/
theorem cd_500 : fi_code 500 = prog_69_method_20_code := rfl
theorem hx_500 : ∀ pc, fi_hat 500 pc = none := fun pc => by unfold fi_hat; rw [show fi_hh 500 = [] from rfl]; rfl
theorem rt_500 : fi_ret 500 = none := rfl
theorem nl_500 : fi_nl 500 = 4 := rfl
theorem ow_500 : fi_ow 500 = 29 := rfl
theorem cl_500 : fj_cutT.getD 500 [] = [] := rfl
theorem m_500 (d : Nat) (x1 x2 x3 : Int) {h : fi_H} (H : Shp h) : fj_run (d + 1) 500 h [(4, 602), (0, x1), (0, x2), (0, x3)] =
  if x1 = 0 then
    cv_ (fj_run d 501 h [(4, 602), (0, x2), (0, x3)])
      (fun h1 =>
      some (.inl none, h1))
      (fun q3 h1 => tx_ q3 h1)
  else
    some (.inl none, h) := by
  rw [fj_run_eq d (by decide) h [(4, 602), (0, x1), (0, x2), (0, x3)] (Nat.le_of_ble_eq_true (by rw [nl_500]; rfl))]
  show gG (fj_run d) 500 0 [(0, (4, 602)), (1, (0, x1)), (2, (0, x2)), (3, (0, x3))] [] h = _
  exact
    have D : fk_D 500 [(0, none, .iload_n 1, 1, 0, 0, 0), (1, none, .ifCond .ne 9, 3, 10, 0, 0), (4, none, .aload_n 0, 1, 0, 0, 0), (5, none, .iload_n 2, 1, 0, 0, 0), (6, none, .iload_n 3, 1, 0, 0, 0), (7, none, .invokevirtual 479, 3, 2, 339, 0), (10, none, .return_, 1, 0, 0, 0)] := fq_of2 cd_500 ow_500 cl_500 rfl (pc := 0) (by decide +kernel)
    j_ildn (pc := 0) D rfl rfl rfl fun D =>
    j_ifne (pc := 1) D rfl (fun q D =>
      j_aldn (pc := 4) D rfl rfl rfl fun D =>
      j_ildn (pc := 5) D rfl rfl rfl fun D =>
      j_ildn (pc := 6) D rfl rfl rfl fun D =>
      j_ivv (pc := 7) (m := 501) (dd := 339) (a := [(0, x2), (0, x3)]) (rest := []) D rfl rfl rfl rfl rfl (by decide) (s0_602 H) (by decide +kernel) (fun h1 e1 D =>
        have T := fj_run_ok _ _ _ _ _ _ H.1 e1
        have H := shp_st H T
        j_vret D rt_500) (fun q3 h1 e1 =>
        j_tx (hx_500 _))) (fun q =>
      have D : fk_D 500 [(10, none, .return_, 1, 0, 0, 0)] := fq_of2 cd_500 ow_500 cl_500 rfl (pc := 10) (by decide +kernel)
      j_vret D rt_500)
/-! 501 StatuteHouseModel.wrong(II)V -/
theorem cd_501 : fi_code 501 = prog_69_method_19_code := rfl
theorem hx_501 : ∀ pc, fi_hat 501 pc = none := fun pc => by unfold fi_hat; rw [show fi_hh 501 = [] from rfl]; rfl
theorem rt_501 : fi_ret 501 = none := rfl
theorem nl_501 : fi_nl 501 = 3 := rfl
theorem ow_501 : fi_ow 501 = 29 := rfl
theorem cl_501 : fj_cutT.getD 501 [] = [] := rfl
theorem m_501 (d : Nat) (x1 x2 : Int) {h : fi_H} (H : Shp h) : fj_run (d + 1) 501 h [(4, 602), (0, x1), (0, x2)] =
  lt_ (fi_upd h 402 602 0 x1) fun h1 =>
  lt_ (fi_upd h1 403 602 0 x2) fun h2 =>
  tx_ 603 h2 := by
  rw [fj_run_eq d (by decide) h [(4, 602), (0, x1), (0, x2)] (Nat.le_of_ble_eq_true (by rw [nl_501]; rfl))]
  show gG (fj_run d) 501 0 [(0, (4, 602)), (1, (0, x1)), (2, (0, x2))] [] h = _
  exact
    have D : fk_D 501 [(0, none, .aload_n 0, 1, 0, 0, 0), (1, none, .iload_n 1, 1, 0, 0, 0), (2, none, .putfield 476, 3, 402, 129, 10), (5, none, .aload_n 0, 1, 0, 0, 0), (6, none, .iload_n 2, 1, 0, 0, 0), (7, none, .putfield 29, 3, 403, 129, 10), (10, none, .aload_n 0, 1, 0, 0, 0), (11, none, .getfield 12, 3, 383, 129, 12), (14, none, .athrow, 1, 0, 0, 0)] := fq_of2 cd_501 ow_501 cl_501 rfl (pc := 0) (by decide +kernel)
    j_aldn (pc := 0) D rfl rfl rfl fun D =>
    j_ildn (pc := 1) D rfl rfl rfl fun D =>
    j_pf (pc := 2) (a := 602) D rfl rfl rfl (s0_602 H) rfl rfl (gy (by decide)) (gy rfl) fun h1 eh1 S D =>
    have T := fj_hs_ok H.1 S
    have H := shp_st H T
    j_aldn (pc := 5) D rfl rfl rfl fun D =>
    j_ildn (pc := 6) D rfl rfl rfl fun D =>
    j_pf (pc := 7) (a := 602) D rfl rfl rfl (s0_602 H) rfl rfl (gy (by decide)) (gy rfl) fun h2 eh2 S D =>
    have T := fj_hs_ok H.1 S
    have H := shp_st H T
    j_aldn (pc := 10) D rfl rfl rfl fun D =>
    j_gfc (pc := 11) (a := 602) D rfl rfl (by decide) rfl (s0_602 H) rfl (sf_383_602 H) fun D =>
    j_at (pc := 14) D (gy (by decide)) <|
    j_tx (hx_501 _)
/-! 502 StatuteHouseModel.next()V -/
theorem cd_502 : fi_code 502 = prog_69_method_31_code := rfl
theorem hx_502 : ∀ pc, fi_hat 502 pc = none := fun pc => by unfold fi_hat; rw [show fi_hh 502 = [] from rfl]; rfl
theorem rt_502 : fi_ret 502 = none := rfl
theorem nl_502 : fi_nl 502 = 1 := rfl
theorem ow_502 : fi_ow 502 = 29 := rfl
theorem cl_502 : fj_cutT.getD 502 [] = [(16, [0])] := rfl
theorem cut_502_16 : fj_cut 502 16 = some [0] := by decide +kernel
noncomputable def c_502_16 (d : Nat) (s0 s1 : Int) (h : fi_H) : fk_R := gG (fj_run d) 502 16 [(0, (4, 602))] [(0, s1), (4, s0)] h
theorem e_502_16 (d : Nat) (s0 s1 : Int) {h : fi_H} (H : Shp h) : c_502_16 d s0 s1 h =
  dv_ (fi_vt 348 (h 0 s0.toNat 0)) fun m4 => cv_ (fj_run d m4 h [(4, s0), (0, s1), (0, 4), (0, h 396 602 0)])
    (fun h1 =>
    cv_ (fj_run d 487 h1 [(4, 602)])
      (fun h5 =>
      some (.inl none, h5))
      (fun q7 h5 => tx_ q7 h5))
    (fun q3 h1 => tx_ q3 h1) := by
  unfold c_502_16
  exact
    have D : fk_D 502 [(16, some [0], .iconst 4, 1, 0, 4, 0), (17, none, .aload_n 0, 1, 0, 0, 0), (18, none, .getfield 507, 3, 396, 129, 10), (21, none, .invokevirtual 557, 3, 3, 348, 0), (24, none, .aload_n 0, 1, 0, 0, 0), (25, none, .invokevirtual 561, 3, 0, 349, 0), (28, none, .return_, 1, 0, 0, 0)] := fq_of2 cd_502 ow_502 cl_502 rfl (pc := 16) (by decide +kernel)
    j_ic (pc := 16) D rfl fun D =>
    j_aldn (pc := 17) D rfl rfl rfl fun D =>
    j_gf (pc := 18) (a := 602) D rfl rfl (by decide) rfl (s0_602 H) rfl fun D =>
    j_ivuv (pc := 21) (dd := 348) (a := [(0, s1), (0, 4), (0, h 396 602 0)]) (rest := []) H.2.1 D rfl rfl rfl rfl rfl (fun m4 h1 e1 D =>
      have T := fj_run_ok _ _ _ _ _ _ H.1 e1
      have H := shp_st H T
      j_aldn (pc := 24) D rfl rfl rfl fun D =>
      j_ivv (pc := 25) (m := 487) (dd := 349) (a := []) (rest := []) D rfl rfl rfl rfl rfl (by decide) (s0_602 H) (by decide +kernel) (fun h5 e1 D =>
        have T := fj_run_ok _ _ _ _ _ _ H.1 e1
        have H := shp_st H T
        j_vret D rt_502) (fun q7 h5 e1 =>
        j_tx (hx_502 _))) (fun m4 q3 h1 e1 =>
      j_tx (hx_502 _))
theorem m_502 (d : Nat) {h : fi_H} (H : Shp h) : fj_run (d + 1) 502 h [(4, 602)] =
  if 1200 < h 398 602 0 then
    c_502_16 d 602 0 h
  else
    c_502_16 d 602 1 h := by
  rw [fj_run_eq d (by decide) h [(4, 602)] (Nat.le_of_ble_eq_true (by rw [nl_502]; rfl))]
  show gG (fj_run d) 502 0 [(0, (4, 602))] [] h = _
  exact
    have D : fk_D 502 [(0, none, .aload_n 0, 1, 0, 0, 0), (1, none, .aload_n 0, 1, 0, 0, 0), (2, none, .getfield 510, 3, 398, 129, 10), (5, none, .sipush 1200, 3, 0, 1200, 0), (8, none, .if_icmp .gt 7, 3, 15, 0, 0), (11, none, .iconst 1, 1, 0, 1, 0), (12, none, .goto 4, 3, 16, 0, 0)] := fq_of2 cd_502 ow_502 cl_502 rfl (pc := 0) (by decide +kernel)
    j_aldn (pc := 0) D rfl rfl rfl fun D =>
    j_aldn (pc := 1) D rfl rfl rfl fun D =>
    j_gf (pc := 2) (a := 602) D rfl rfl (by decide) rfl (s0_602 H) rfl fun D =>
    j_sp (pc := 5) D rfl fun D =>
    j_igt (pc := 8) D rfl (fun q =>
      have D : fk_D 502 [(15, none, .iconst 0, 1, 0, 0, 0)] := fq_of2 cd_502 ow_502 cl_502 rfl (pc := 15) (by decide +kernel)
      j_ic (pc := 15) D rfl fun D =>
      fk_jump cut_502_16 rfl rfl) (fun q D =>
      j_ic (pc := 11) D rfl fun D =>
      j_goto (pc := 12) D rfl <|
      fk_jump cut_502_16 rfl rfl)
/-! 503 StatuteHouseModel.newName()I -/
theorem cd_503 : fi_code 503 = prog_69_method_43_code := rfl
theorem hx_503 : ∀ pc, fi_hat 503 pc = none := fun pc => by unfold fi_hat; rw [show fi_hh 503 = [] from rfl]; rfl
theorem rt_503 : fi_ret 503 = some .int := rfl
theorem nl_503 : fi_nl 503 = 2 := rfl
theorem ow_503 : fi_ow 503 = 29 := rfl
theorem cl_503 : fj_cutT.getD 503 [] = [(14, [0]), (36, [0]), (59, [0]), (113, [0, 1])] := rfl
theorem cut_503_14 : fj_cut 503 14 = some [0] := by decide +kernel
noncomputable def c_503_14 (d : Nat) (s0 s1 : Int) (h : fi_H) : fk_R := gG (fj_run d) 503 14 [(0, (4, 602))] [(0, s1), (4, s0)] h
theorem cut_503_36 : fj_cut 503 36 = some [0] := by decide +kernel
noncomputable def c_503_36 (d : Nat) (s0 s1 : Int) (h : fi_H) : fk_R := gG (fj_run d) 503 36 [(0, (4, 602))] [(0, s1), (4, s0)] h
theorem cut_503_59 : fj_cut 503 59 = some [0] := by decide +kernel
noncomputable def c_503_59 (d : Nat) (s0 s1 : Int) (h : fi_H) : fk_R := gG (fj_run d) 503 59 [(0, (4, 602))] [(0, s1), (4, s0)] h
theorem cut_503_113 : fj_cut 503 113 = some [0, 1] := by decide +kernel
noncomputable def c_503_113 (d : Nat) (x1 : Int) (h : fi_H) : fk_R := gG (fj_run d) 503 113 [(0, (4, 602)), (1, (0, x1))] [] h
theorem e_503_14 (d : Nat) (s0 s1 : Int) {h : fi_H} (H : Shp h) : c_503_14 d s0 s1 h =
  dv_ (fi_vt 348 (h 0 s0.toNat 0)) fun m4 => cv_ (fj_run d m4 h [(4, s0), (0, s1), (0, 1), (0, h 396 602 0)])
    (fun h1 =>
    ca_ (fj_run d 504 h1 [(4, 602)]) 0
      (fun v6 h5 =>
      if v6 = (-1) then
        c_503_36 d 602 1 h5
      else
        c_503_36 d 602 0 h5)
      (fun q7 h5 => tx_ q7 h5))
    (fun q3 h1 => tx_ q3 h1) := by
  unfold c_503_14
  exact
    have D : fk_D 503 [(14, some [0], .iconst 1, 1, 0, 1, 0), (15, none, .aload_n 0, 1, 0, 0, 0), (16, none, .getfield 507, 3, 396, 129, 10), (19, none, .invokevirtual 557, 3, 3, 348, 0), (22, none, .aload_n 0, 1, 0, 0, 0), (23, none, .aload_n 0, 1, 0, 0, 0), (24, none, .invokevirtual 621, 3, 0, 355, 1), (27, none, .iconst (-1), 1, 0, (-1), 0), (28, none, .if_icmp .ne 7, 3, 35, 0, 0), (31, none, .iconst 1, 1, 0, 1, 0), (32, none, .goto 4, 3, 36, 0, 0)] := fq_of2 cd_503 ow_503 cl_503 rfl (pc := 14) (by decide +kernel)
    j_ic (pc := 14) D rfl fun D =>
    j_aldn (pc := 15) D rfl rfl rfl fun D =>
    j_gf (pc := 16) (a := 602) D rfl rfl (by decide) rfl (s0_602 H) rfl fun D =>
    j_ivuv (pc := 19) (dd := 348) (a := [(0, s1), (0, 1), (0, h 396 602 0)]) (rest := []) H.2.1 D rfl rfl rfl rfl rfl (fun m4 h1 e1 D =>
      have T := fj_run_ok _ _ _ _ _ _ H.1 e1
      have H := shp_st H T
      j_aldn (pc := 22) D rfl rfl rfl fun D =>
      j_aldn (pc := 23) D rfl rfl rfl fun D =>
      j_iv (pc := 24) (m := 504) (dd := 355) (a := []) (rest := [(4, 602)]) D rfl rfl rfl rfl rfl (by decide) (s0_602 H) (by decide +kernel) (fun v6 h5 e1 D =>
        have T := fj_run_ok _ _ _ _ _ _ H.1 e1
        have H := shp_st H T
        j_ic (pc := 27) D rfl fun D =>
        j_ine (pc := 28) D rfl (fun q D =>
          j_ic (pc := 31) D rfl fun D =>
          j_goto (pc := 32) D rfl <|
          fk_jump cut_503_36 rfl rfl) (fun q =>
          have D : fk_D 503 [(35, none, .iconst 0, 1, 0, 0, 0)] := fq_of2 cd_503 ow_503 cl_503 rfl (pc := 35) (by decide +kernel)
          j_ic (pc := 35) D rfl fun D =>
          fk_jump cut_503_36 rfl rfl)) (fun q7 h5 e1 =>
        j_tx (hx_503 _))) (fun m4 q3 h1 e1 =>
      j_tx (hx_503 _))
theorem e_503_36 (d : Nat) (s0 s1 : Int) {h : fi_H} (H : Shp h) : c_503_36 d s0 s1 h =
  dv_ (fi_vt 348 (h 0 s0.toNat 0)) fun m4 => cv_ (fj_run d m4 h [(4, s0), (0, s1), (0, 2), (0, h 396 602 0)])
    (fun h1 =>
    if h1 413 602 0 < 40 then
      c_503_59 d 602 1 h1
    else
      c_503_59 d 602 0 h1)
    (fun q3 h1 => tx_ q3 h1) := by
  unfold c_503_36
  exact
    have D : fk_D 503 [(36, some [0], .iconst 2, 1, 0, 2, 0), (37, none, .aload_n 0, 1, 0, 0, 0), (38, none, .getfield 507, 3, 396, 129, 10), (41, none, .invokevirtual 557, 3, 3, 348, 0), (44, none, .aload_n 0, 1, 0, 0, 0), (45, none, .aload_n 0, 1, 0, 0, 0), (46, none, .getfield 579, 3, 413, 129, 10), (49, none, .bipush 40, 2, 0, 40, 0), (51, none, .if_icmp .ge 7, 3, 58, 0, 0), (54, none, .iconst 1, 1, 0, 1, 0), (55, none, .goto 4, 3, 59, 0, 0)] := fq_of2 cd_503 ow_503 cl_503 rfl (pc := 36) (by decide +kernel)
    j_ic (pc := 36) D rfl fun D =>
    j_aldn (pc := 37) D rfl rfl rfl fun D =>
    j_gf (pc := 38) (a := 602) D rfl rfl (by decide) rfl (s0_602 H) rfl fun D =>
    j_ivuv (pc := 41) (dd := 348) (a := [(0, s1), (0, 2), (0, h 396 602 0)]) (rest := []) H.2.1 D rfl rfl rfl rfl rfl (fun m4 h1 e1 D =>
      have T := fj_run_ok _ _ _ _ _ _ H.1 e1
      have H := shp_st H T
      j_aldn (pc := 44) D rfl rfl rfl fun D =>
      j_aldn (pc := 45) D rfl rfl rfl fun D =>
      j_gf (pc := 46) (a := 602) D rfl rfl (by decide) rfl (s0_602 H) rfl fun D =>
      j_bp (pc := 49) D rfl fun D =>
      j_ige (pc := 51) D rfl (fun q D =>
        j_ic (pc := 54) D rfl fun D =>
        j_goto (pc := 55) D rfl <|
        fk_jump cut_503_59 rfl rfl) (fun q =>
        have D : fk_D 503 [(58, none, .iconst 0, 1, 0, 0, 0)] := fq_of2 cd_503 ow_503 cl_503 rfl (pc := 58) (by decide +kernel)
        j_ic (pc := 58) D rfl fun D =>
        fk_jump cut_503_59 rfl rfl)) (fun m4 q3 h1 e1 =>
      j_tx (hx_503 _))
theorem e_503_59 (d : Nat) (s0 s1 : Int) {h : fi_H} (H : Shp h) : c_503_59 d s0 s1 h =
  dv_ (fi_vt 348 (h 0 s0.toNat 0)) fun m4 => cv_ (fj_run d m4 h [(4, s0), (0, s1), (0, 4), (0, h 396 602 0)])
    (fun h1 =>
    if 0 ≤ h1 413 602 0 ∧ h1 413 602 0 < 41 then
    lt_ (fi_upd h1 11 608 (h1 413 602 0).toNat (h1 400 602 0)) fun h5 =>
    lt_ (fi_upd h5 11 609 (h1 413 602 0).toNat (h5 401 602 0)) fun h7 =>
    lt_ (fi_upd h7 10 612 (h1 413 602 0).toNat 0) fun h8 =>
    lt_ (fi_upd h8 10 613 (h1 413 602 0).toNat 0) fun h9 =>
    lt_ (fi_upd h9 4 614 (h1 413 602 0).toNat 0) fun h10 =>
    c_503_113 d (h1 413 602 0) h10
    else none)
    (fun q3 h1 => tx_ q3 h1) := by
  unfold c_503_59
  exact
    have D : fk_D 503 [(59, some [0], .iconst 4, 1, 0, 4, 0), (60, none, .aload_n 0, 1, 0, 0, 0), (61, none, .getfield 507, 3, 396, 129, 10), (64, none, .invokevirtual 557, 3, 3, 348, 0), (67, none, .aload_n 0, 1, 0, 0, 0), (68, none, .getfield 579, 3, 413, 129, 10), (71, none, .istore_n 1, 1, 0, 0, 0), (72, none, .aload_n 0, 1, 0, 0, 0), (73, none, .getfield 33, 3, 404, 129, 12), (76, none, .iload_n 1, 1, 0, 0, 0), (77, none, .aload_n 0, 1, 0, 0, 0), (78, none, .getfield 538, 3, 400, 129, 11), (81, none, .lastore, 1, 0, 0, 0), (82, none, .aload_n 0, 1, 0, 0, 0), (83, none, .getfield 37, 3, 405, 129, 12), (86, none, .iload_n 1, 1, 0, 0, 0), (87, none, .aload_n 0, 1, 0, 0, 0), (88, none, .getfield 541, 3, 401, 129, 11), (91, none, .lastore, 1, 0, 0, 0), (92, none, .aload_n 0, 1, 0, 0, 0)] := fq_of2 cd_503 ow_503 cl_503 rfl (pc := 59) (by decide +kernel)
    j_ic (pc := 59) D rfl fun D =>
    j_aldn (pc := 60) D rfl rfl rfl fun D =>
    j_gf (pc := 61) (a := 602) D rfl rfl (by decide) rfl (s0_602 H) rfl fun D =>
    j_ivuv (pc := 64) (dd := 348) (a := [(0, s1), (0, 4), (0, h 396 602 0)]) (rest := []) H.2.1 D rfl rfl rfl rfl rfl (fun m4 h1 e1 D =>
      have T := fj_run_ok _ _ _ _ _ _ H.1 e1
      have H := shp_st H T
      j_aldn (pc := 67) D rfl rfl rfl fun D =>
      j_gf (pc := 68) (a := 602) D rfl rfl (by decide) rfl (s0_602 H) rfl fun D =>
      j_istn (pc := 71) (L' := [(1, (0, h1 413 602 0)), (0, (4, 602))]) D rfl nl_503 rfl rfl fun D =>
      j_aldn (pc := 72) D rfl rfl rfl fun D =>
      j_gfc (pc := 73) (a := 602) D rfl rfl (by decide) rfl (s0_602 H) rfl (sf_404_602 H) fun D =>
      j_ildn (pc := 76) D rfl rfl rfl fun D =>
      j_aldn (pc := 77) D rfl rfl rfl fun D =>
      j_gf (pc := 78) (a := 602) D rfl rfl (by decide) rfl (s0_602 H) rfl fun D =>
      j_as (pc := 81) (a := 608) (e := 11) D rfl ⟨rfl, rfl⟩ rfl (by decide) (s0_608 H) (s1_608 H) ⟨rfl, rfl, rfl⟩ rfl gn (gy rfl) fun h5 eh5 S qb6 D =>
      have T := fj_hs_ok H.1 S
      have H := shp_st H T
      j_aldn (pc := 82) D rfl rfl rfl fun D =>
      j_gfc (pc := 83) (a := 602) D rfl rfl (by decide) rfl (s0_602 H) rfl (sf_405_602 H) fun D =>
      j_ildn (pc := 86) D rfl rfl rfl fun D =>
      j_aldn (pc := 87) D rfl rfl rfl fun D =>
      j_gf (pc := 88) (a := 602) D rfl rfl (by decide) rfl (s0_602 H) rfl fun D =>
      j_as (pc := 91) (a := 609) (e := 11) D rfl ⟨rfl, rfl⟩ rfl (by decide) (s0_609 H) (s1_609 H) ⟨rfl, rfl, rfl⟩ rfl (gy qb6) (gy rfl) fun h7 eh7 S q D =>
      have T := fj_hs_ok H.1 S
      have H := shp_st H T
      j_aldn (pc := 92) D rfl rfl rfl fun D =>
      have D : fk_D 503 [(93, none, .getfield 46, 3, 408, 129, 12), (96, none, .iload_n 1, 1, 0, 0, 0), (97, none, .iconst 0, 1, 0, 0, 0), (98, none, .iastore, 1, 0, 0, 0), (99, none, .aload_n 0, 1, 0, 0, 0), (100, none, .getfield 49, 3, 409, 129, 12), (103, none, .iload_n 1, 1, 0, 0, 0), (104, none, .iconst 0, 1, 0, 0, 0), (105, none, .iastore, 1, 0, 0, 0), (106, none, .aload_n 0, 1, 0, 0, 0), (107, none, .getfield 52, 3, 410, 129, 12), (110, none, .iload_n 1, 1, 0, 0, 0), (111, none, .iconst 0, 1, 0, 0, 0), (112, none, .bastore, 1, 0, 0, 0)] := fq_of2 cd_503 ow_503 cl_503 rfl (pc := 93) (by decide +kernel)
      j_gfc (pc := 93) (a := 602) D rfl rfl (by decide) rfl (s0_602 H) rfl (sf_408_602 H) fun D =>
      j_ildn (pc := 96) D rfl rfl rfl fun D =>
      j_ic (pc := 97) D rfl fun D =>
      j_as (pc := 98) (a := 612) (e := 10) D rfl ⟨rfl, rfl⟩ rfl (by decide) (s0_612 H) (s1_612 H) ⟨rfl, rfl, rfl⟩ rfl (gy qb6) (gy rfl) fun h8 eh8 S q D =>
      have T := fj_hs_ok H.1 S
      have H := shp_st H T
      j_aldn (pc := 99) D rfl rfl rfl fun D =>
      j_gfc (pc := 100) (a := 602) D rfl rfl (by decide) rfl (s0_602 H) rfl (sf_409_602 H) fun D =>
      j_ildn (pc := 103) D rfl rfl rfl fun D =>
      j_ic (pc := 104) D rfl fun D =>
      j_as (pc := 105) (a := 613) (e := 10) D rfl ⟨rfl, rfl⟩ rfl (by decide) (s0_613 H) (s1_613 H) ⟨rfl, rfl, rfl⟩ rfl (gy qb6) (gy rfl) fun h9 eh9 S q D =>
      have T := fj_hs_ok H.1 S
      have H := shp_st H T
      j_aldn (pc := 106) D rfl rfl rfl fun D =>
      j_gfc (pc := 107) (a := 602) D rfl rfl (by decide) rfl (s0_602 H) rfl (sf_410_602 H) fun D =>
      j_ildn (pc := 110) D rfl rfl rfl fun D =>
      j_ic (pc := 111) D rfl fun D =>
      j_as (pc := 112) (a := 614) (e := 4) D rfl ⟨rfl, rfl⟩ rfl (by decide) (s0_614 H) (s1_614 H) ⟨rfl, rfl, rfl⟩ rfl (gy qb6) (gy (by decide)) fun h10 eh10 S q D =>
      have T := fj_hs_ok H.1 S
      have H := shp_st H T
      fk_jump cut_503_113 rfl rfl) (fun m4 q3 h1 e1 =>
      j_tx (hx_503 _))
theorem e_503_113 (d : Nat) (x1 : Int) {h : fi_H} (H : Shp h) : c_503_113 d x1 h =
  cv_ (fj_run d 502 h [(4, 602)])
    (fun h1 =>
    lt_ (fi_upd h1 413 602 0 (wI ((h1 413 602 0) + 1))) fun h4 =>
    cv_ (fj_run d 505 h4 [(4, 602), (0, 58)])
      (fun h5 =>
      some (.inl (some (0, x1)), h5))
      (fun q7 h5 => tx_ q7 h5))
    (fun q3 h1 => tx_ q3 h1) := by
  unfold c_503_113
  exact
    have D : fk_D 503 [(113, some [0, 1], .aload_n 0, 1, 0, 0, 0), (114, none, .invokevirtual 567, 3, 0, 351, 0), (117, none, .aload_n 0, 1, 0, 0, 0), (118, none, .dup, 1, 0, 0, 0), (119, none, .getfield 579, 3, 413, 129, 10), (122, none, .iconst 1, 1, 0, 1, 0), (123, none, .iadd, 1, 0, 0, 0), (124, none, .putfield 579, 3, 413, 129, 10), (127, none, .aload_n 0, 1, 0, 0, 0), (128, none, .bipush 58, 2, 0, 58, 0), (130, none, .invokevirtual 624, 3, 1, 356, 0), (133, none, .iload_n 1, 1, 0, 0, 0), (134, none, .ireturn, 1, 0, 0, 0)] := fq_of2 cd_503 ow_503 cl_503 rfl (pc := 113) (by decide +kernel)
    j_aldn (pc := 113) D rfl rfl rfl fun D =>
    j_ivv (pc := 114) (m := 502) (dd := 351) (a := []) (rest := []) D rfl rfl rfl rfl rfl (by decide) (s0_602 H) (by decide +kernel) (fun h1 e1 D =>
      have T := fj_run_ok _ _ _ _ _ _ H.1 e1
      have H := shp_st H T
      j_aldn (pc := 117) D rfl rfl rfl fun D =>
      j_sh (pc := 118) D rfl rfl rfl fun D =>
      j_gf (pc := 119) (a := 602) D rfl rfl (by decide) rfl (s0_602 H) rfl fun D =>
      j_ic (pc := 122) D rfl fun D =>
      j_iadd (pc := 123) D rfl fun D =>
      j_pf (pc := 124) (a := 602) D rfl rfl rfl (s0_602 H) rfl rfl (gy (by decide)) (gy rfl) fun h4 eh4 S D =>
      have T := fj_hs_ok H.1 S
      have H := shp_st H T
      j_aldn (pc := 127) D rfl rfl rfl fun D =>
      j_bp (pc := 128) D rfl fun D =>
      j_ivv (pc := 130) (m := 505) (dd := 356) (a := [(0, 58)]) (rest := []) D rfl rfl rfl rfl rfl (by decide) (s0_602 H) (by decide +kernel) (fun h5 e1 D =>
        have T := fj_run_ok _ _ _ _ _ _ H.1 e1
        have H := shp_st H T
        j_ildn (pc := 133) D rfl rfl rfl fun D =>
        j_iret D rt_503) (fun q7 h5 e1 =>
        j_tx (hx_503 _))) (fun q3 h1 e1 =>
      j_tx (hx_503 _))
theorem m_503 (d : Nat) {h : fi_H} (H : Shp h) : fj_run (d + 1) 503 h [(4, 602)] =
  if h 394 602 0 = 1 then
    c_503_14 d 602 1 h
  else
    c_503_14 d 602 0 h := by
  rw [fj_run_eq d (by decide) h [(4, 602)] (Nat.le_of_ble_eq_true (by rw [nl_503]; rfl))]
  show gG (fj_run d) 503 0 [(0, (4, 602))] [] h = _
  exact
    have D : fk_D 503 [(0, none, .aload_n 0, 1, 0, 0, 0), (1, none, .aload_n 0, 1, 0, 0, 0), (2, none, .getfield 513, 3, 394, 129, 10), (5, none, .iconst 1, 1, 0, 1, 0), (6, none, .if_icmp .ne 7, 3, 13, 0, 0), (9, none, .iconst 1, 1, 0, 1, 0), (10, none, .goto 4, 3, 14, 0, 0)] := fq_of2 cd_503 ow_503 cl_503 rfl (pc := 0) (by decide +kernel)
    j_aldn (pc := 0) D rfl rfl rfl fun D =>
    j_aldn (pc := 1) D rfl rfl rfl fun D =>
    j_gf (pc := 2) (a := 602) D rfl rfl (by decide) rfl (s0_602 H) rfl fun D =>
    j_ic (pc := 5) D rfl fun D =>
    j_ine (pc := 6) D rfl (fun q D =>
      j_ic (pc := 9) D rfl fun D =>
      j_goto (pc := 10) D rfl <|
      fk_jump cut_503_14 rfl rfl) (fun q =>
      have D : fk_D 503 [(13, none, .iconst 0, 1, 0, 0, 0)] := fq_of2 cd_503 ow_503 cl_503 rfl (pc := 13) (by decide +kernel)
      j_ic (pc := 13) D rfl fun D =>
      fk_jump cut_503_14 rfl rfl)
/-! 504 StatuteHouseModel.named()I -/
theorem cd_504 : fi_code 504 = prog_69_method_37_code := rfl
theorem hx_504 : ∀ pc, fi_hat 504 pc = none := fun pc => by unfold fi_hat; rw [show fi_hh 504 = [] from rfl]; rfl
theorem rt_504 : fi_ret 504 = some .int := rfl
theorem nl_504 : fi_nl 504 = 2 := rfl
theorem ow_504 : fi_ow 504 = 29 := rfl
theorem cl_504 : fj_cutT.getD 504 [] = [(2, [0, 1]), (40, [0, 1])] := rfl
theorem cut_504_2 : fj_cut 504 2 = some [0, 1] := by decide +kernel
noncomputable def c_504_2 (d : Nat) (x1 : Int) (h : fi_H) : fk_R := gG (fj_run d) 504 2 [(0, (4, 602)), (1, (0, x1))] [] h
theorem cut_504_40 : fj_cut 504 40 = some [0, 1] := by decide +kernel
noncomputable def c_504_40 (d : Nat) (x1 : Int) (h : fi_H) : fk_R := gG (fj_run d) 504 40 [(0, (4, 602)), (1, (0, x1))] [] h
theorem e_504_2 (d : Nat) (x1 : Int) {h : fi_H} (H : Shp h) : c_504_2 d x1 h =
  if x1 < h 413 602 0 then
    if 0 ≤ x1 ∧ x1 < 41 then
    if lc_ (h 11 608 x1.toNat) (h 400 602 0) = 0 then
      if lc_ (h 11 609 x1.toNat) (h 401 602 0) = 0 then
        some (.inl (some (0, x1)), h)
      else
        c_504_40 d x1 h
    else
      c_504_40 d x1 h
    else none
  else
    some (.inl (some (0, (-1))), h) := by
  unfold c_504_2
  exact
    have D : fk_D 504 [(2, some [0, 1], .iload_n 1, 1, 0, 0, 0), (3, none, .aload_n 0, 1, 0, 0, 0), (4, none, .getfield 579, 3, 413, 129, 10), (7, none, .if_icmp .ge 39, 3, 46, 0, 0), (10, none, .aload_n 0, 1, 0, 0, 0), (11, none, .getfield 33, 3, 404, 129, 12), (14, none, .iload_n 1, 1, 0, 0, 0), (15, none, .laload, 1, 0, 0, 0), (16, none, .aload_n 0, 1, 0, 0, 0), (17, none, .getfield 538, 3, 400, 129, 11), (20, none, .lcmp, 1, 0, 0, 0), (21, none, .ifCond .ne 19, 3, 40, 0, 0), (24, none, .aload_n 0, 1, 0, 0, 0), (25, none, .getfield 37, 3, 405, 129, 12), (28, none, .iload_n 1, 1, 0, 0, 0), (29, none, .laload, 1, 0, 0, 0), (30, none, .aload_n 0, 1, 0, 0, 0), (31, none, .getfield 541, 3, 401, 129, 11), (34, none, .lcmp, 1, 0, 0, 0), (35, none, .ifCond .ne 5, 3, 40, 0, 0)] := fq_of2 cd_504 ow_504 cl_504 rfl (pc := 2) (by decide +kernel)
    j_ildn (pc := 2) D rfl rfl rfl fun D =>
    j_aldn (pc := 3) D rfl rfl rfl fun D =>
    j_gf (pc := 4) (a := 602) D rfl rfl (by decide) rfl (s0_602 H) rfl fun D =>
    j_ige (pc := 7) D rfl (fun q D =>
      j_aldn (pc := 10) D rfl rfl rfl fun D =>
      j_gfc (pc := 11) (a := 602) D rfl rfl (by decide) rfl (s0_602 H) rfl (sf_404_602 H) fun D =>
      j_ildn (pc := 14) D rfl rfl rfl fun D =>
      j_al (pc := 15) (a := 608) (e := 11) D rfl rfl rfl (by decide) (s0_608 H) (s1_608 H) ⟨rfl, rfl, rfl⟩ rfl gn fun qb1 D =>
      j_aldn (pc := 16) D rfl rfl rfl fun D =>
      j_gf (pc := 17) (a := 602) D rfl rfl (by decide) rfl (s0_602 H) rfl fun D =>
      j_lcmp (pc := 20) D rfl fun D =>
      j_ifne (pc := 21) D rfl (fun q D =>
        j_aldn (pc := 24) D rfl rfl rfl fun D =>
        j_gfc (pc := 25) (a := 602) D rfl rfl (by decide) rfl (s0_602 H) rfl (sf_405_602 H) fun D =>
        j_ildn (pc := 28) D rfl rfl rfl fun D =>
        j_al (pc := 29) (a := 609) (e := 11) D rfl rfl rfl (by decide) (s0_609 H) (s1_609 H) ⟨rfl, rfl, rfl⟩ rfl (gy qb1) fun q D =>
        j_aldn (pc := 30) D rfl rfl rfl fun D =>
        j_gf (pc := 31) (a := 602) D rfl rfl (by decide) rfl (s0_602 H) rfl fun D =>
        j_lcmp (pc := 34) D rfl fun D =>
        j_ifne (pc := 35) D rfl (fun q D =>
          have D : fk_D 504 [(38, none, .iload_n 1, 1, 0, 0, 0), (39, none, .ireturn, 1, 0, 0, 0)] := fq_of2 cd_504 ow_504 cl_504 rfl (pc := 38) (by decide +kernel)
          j_ildn (pc := 38) D rfl rfl rfl fun D =>
          j_iret D rt_504) (fun q =>
          fk_jump cut_504_40 rfl rfl)) (fun q =>
        fk_jump cut_504_40 rfl rfl)) (fun q =>
      have D : fk_D 504 [(46, none, .iconst (-1), 1, 0, (-1), 0), (47, none, .ireturn, 1, 0, 0, 0)] := fq_of2 cd_504 ow_504 cl_504 rfl (pc := 46) (by decide +kernel)
      j_ic (pc := 46) D rfl fun D =>
      j_iret D rt_504)
theorem e_504_40 (d : Nat) (x1 : Int) {h : fi_H} (H : Shp h) : c_504_40 d x1 h =
  c_504_2 d (wI (x1 + 1)) h := by
  unfold c_504_40
  exact
    have D : fk_D 504 [(40, some [0, 1], .iinc 1 1, 3, 0, 1, 0), (43, none, .goto (-41), 3, 2, 0, 0)] := fq_of2 cd_504 ow_504 cl_504 rfl (pc := 40) (by decide +kernel)
    j_inc (pc := 40) (L' := [(1, (0, wI (x1 + 1))), (0, (4, 602))]) D rfl rfl rfl (by decide +kernel) rfl fun D =>
    j_goto (pc := 43) D rfl <|
    fk_jump cut_504_2 rfl rfl
theorem m_504 (d : Nat) {h : fi_H} (H : Shp h) : fj_run (d + 1) 504 h [(4, 602)] =
  c_504_2 d 0 h := by
  rw [fj_run_eq d (by decide) h [(4, 602)] (Nat.le_of_ble_eq_true (by rw [nl_504]; rfl))]
  show gG (fj_run d) 504 0 [(0, (4, 602))] [] h = _
  exact
    have D : fk_D 504 [(0, none, .iconst 0, 1, 0, 0, 0), (1, none, .istore_n 1, 1, 0, 0, 0)] := fq_of2 cd_504 ow_504 cl_504 rfl (pc := 0) (by decide +kernel)
    j_ic (pc := 0) D rfl fun D =>
    j_istn (pc := 1) (L' := [(1, (0, 0)), (0, (4, 602))]) D rfl nl_504 rfl rfl fun D =>
    fk_jump cut_504_2 rfl rfl
/-! 505 StatuteHouseModel.sign(I)V -/
theorem cd_505 : fi_code 505 = prog_69_method_32_code := rfl
theorem hx_505 : ∀ pc, fi_hat 505 pc = none := fun pc => by unfold fi_hat; rw [show fi_hh 505 = [] from rfl]; rfl
theorem rt_505 : fi_ret 505 = none := rfl
theorem nl_505 : fi_nl 505 = 2 := rfl
theorem ow_505 : fi_ow 505 = 29 := rfl
theorem cl_505 : fj_cutT.getD 505 [] = [] := rfl
theorem m_505 (d : Nat) (x1 : Int) {h : fi_H} (H : Shp h) : fj_run (d + 1) 505 h [(4, 602), (0, x1)] =
  ca_ (fj_run d 506 h [(4, 602), (0, x1)]) 0
    (fun v2 h1 =>
    cv_ (fj_run d 500 h1 [(4, 602), (0, v2), (0, 1), (0, h1 396 602 0)])
      (fun h4 =>
      cv_ (fj_run d 502 h4 [(4, 602)])
        (fun h7 =>
        some (.inl none, h7))
        (fun q9 h7 => tx_ q9 h7))
      (fun q6 h4 => tx_ q6 h4))
    (fun q3 h1 => tx_ q3 h1) := by
  rw [fj_run_eq d (by decide) h [(4, 602), (0, x1)] (Nat.le_of_ble_eq_true (by rw [nl_505]; rfl))]
  show gG (fj_run d) 505 0 [(0, (4, 602)), (1, (0, x1))] [] h = _
  exact
    have D : fk_D 505 [(0, none, .aload_n 0, 1, 0, 0, 0), (1, none, .aload_n 0, 1, 0, 0, 0), (2, none, .iload_n 1, 1, 0, 0, 0), (3, none, .invokevirtual 564, 3, 1, 350, 1), (6, none, .iconst 1, 1, 0, 1, 0), (7, none, .aload_n 0, 1, 0, 0, 0), (8, none, .getfield 507, 3, 396, 129, 10), (11, none, .invokevirtual 557, 3, 3, 348, 0), (14, none, .aload_n 0, 1, 0, 0, 0), (15, none, .invokevirtual 567, 3, 0, 351, 0), (18, none, .return_, 1, 0, 0, 0)] := fq_of2 cd_505 ow_505 cl_505 rfl (pc := 0) (by decide +kernel)
    j_aldn (pc := 0) D rfl rfl rfl fun D =>
    j_aldn (pc := 1) D rfl rfl rfl fun D =>
    j_ildn (pc := 2) D rfl rfl rfl fun D =>
    j_iv (pc := 3) (m := 506) (dd := 350) (a := [(0, x1)]) (rest := [(4, 602)]) D rfl rfl rfl rfl rfl (by decide) (s0_602 H) (by decide +kernel) (fun v2 h1 e1 D =>
      have T := fj_run_ok _ _ _ _ _ _ H.1 e1
      have H := shp_st H T
      j_ic (pc := 6) D rfl fun D =>
      j_aldn (pc := 7) D rfl rfl rfl fun D =>
      j_gf (pc := 8) (a := 602) D rfl rfl (by decide) rfl (s0_602 H) rfl fun D =>
      j_ivv (pc := 11) (m := 500) (dd := 348) (a := [(0, v2), (0, 1), (0, h1 396 602 0)]) (rest := []) D rfl rfl rfl rfl rfl (by decide) (s0_602 H) (by decide +kernel) (fun h4 e1 D =>
        have T := fj_run_ok _ _ _ _ _ _ H.1 e1
        have H := shp_st H T
        j_aldn (pc := 14) D rfl rfl rfl fun D =>
        j_ivv (pc := 15) (m := 502) (dd := 351) (a := []) (rest := []) D rfl rfl rfl rfl rfl (by decide) (s0_602 H) (by decide +kernel) (fun h7 e1 D =>
          have T := fj_run_ok _ _ _ _ _ _ H.1 e1
          have H := shp_st H T
          j_vret D rt_505) (fun q9 h7 e1 =>
          j_tx (hx_505 _))) (fun q6 h4 e1 =>
        j_tx (hx_505 _))) (fun q3 h1 e1 =>
      j_tx (hx_505 _))
/-! 506 StatuteHouseModel.isSign(I)Z -/
theorem cd_506 : fi_code 506 = prog_69_method_29_code := rfl
theorem hx_506 : ∀ pc, fi_hat 506 pc = none := fun pc => by unfold fi_hat; rw [show fi_hh 506 = [] from rfl]; rfl
theorem rt_506 : fi_ret 506 = some .boolean := rfl
theorem nl_506 : fi_nl 506 = 2 := rfl
theorem ow_506 : fi_ow 506 = 29 := rfl
theorem cl_506 : fj_cutT.getD 506 [] = [] := rfl
theorem m_506 (d : Nat) (x1 : Int) {h : fi_H} (H : Shp h) : fj_run (d + 1) 506 h [(4, 602), (0, x1)] =
  if h 394 602 0 = 6 then
    if h 395 602 0 = x1 then
      some (.inl (some (0, 1)), h)
    else
      some (.inl (some (0, 0)), h)
  else
    some (.inl (some (0, 0)), h) := by
  rw [fj_run_eq d (by decide) h [(4, 602), (0, x1)] (Nat.le_of_ble_eq_true (by rw [nl_506]; rfl))]
  show gG (fj_run d) 506 0 [(0, (4, 602)), (1, (0, x1))] [] h = _
  exact
    have D : fk_D 506 [(0, none, .aload_n 0, 1, 0, 0, 0), (1, none, .getfield 513, 3, 394, 129, 10), (4, none, .bipush 6, 2, 0, 6, 0), (6, none, .if_icmp .ne 15, 3, 21, 0, 0), (9, none, .aload_n 0, 1, 0, 0, 0), (10, none, .getfield 531, 3, 395, 129, 10), (13, none, .iload_n 1, 1, 0, 0, 0), (14, none, .if_icmp .ne 7, 3, 21, 0, 0), (17, none, .iconst 1, 1, 0, 1, 0), (18, none, .goto 4, 3, 22, 0, 0)] := fq_of2 cd_506 ow_506 cl_506 rfl (pc := 0) (by decide +kernel)
    j_aldn (pc := 0) D rfl rfl rfl fun D =>
    j_gf (pc := 1) (a := 602) D rfl rfl (by decide) rfl (s0_602 H) rfl fun D =>
    j_bp (pc := 4) D rfl fun D =>
    j_ine (pc := 6) D rfl (fun q D =>
      j_aldn (pc := 9) D rfl rfl rfl fun D =>
      j_gf (pc := 10) (a := 602) D rfl rfl (by decide) rfl (s0_602 H) rfl fun D =>
      j_ildn (pc := 13) D rfl rfl rfl fun D =>
      j_ine (pc := 14) D rfl (fun q D =>
        j_ic (pc := 17) D rfl fun D =>
        j_goto (pc := 18) D rfl <|
        have D : fk_D 506 [(22, none, .ireturn, 1, 0, 0, 0)] := fq_of2 cd_506 ow_506 cl_506 rfl (pc := 22) (by decide +kernel)
        j_zret D rt_506 (gy (by decide))) (fun q =>
        have D : fk_D 506 [(21, none, .iconst 0, 1, 0, 0, 0), (22, none, .ireturn, 1, 0, 0, 0)] := fq_of2 cd_506 ow_506 cl_506 rfl (pc := 21) (by decide +kernel)
        j_ic (pc := 21) D rfl fun D =>
        j_zret D rt_506 (gy (by decide)))) (fun q =>
      have D : fk_D 506 [(21, none, .iconst 0, 1, 0, 0, 0), (22, none, .ireturn, 1, 0, 0, 0)] := fq_of2 cd_506 ow_506 cl_506 rfl (pc := 21) (by decide +kernel)
      j_ic (pc := 21) D rfl fun D =>
      j_zret D rt_506 (gy (by decide)))
/-! 507 StatuteHouseModel.kindHere()I -/
theorem cd_507 : fi_code 507 = prog_69_method_38_code := rfl
theorem hx_507 : ∀ pc, fi_hat 507 pc = none := fun pc => by unfold fi_hat; rw [show fi_hh 507 = [] from rfl]; rfl
theorem rt_507 : fi_ret 507 = some .int := rfl
theorem nl_507 : fi_nl 507 = 2 := rfl
theorem ow_507 : fi_ow 507 = 29 := rfl
theorem cl_507 : fj_cutT.getD 507 [] = [(30, [0]), (31, [0])] := rfl
theorem cut_507_30 : fj_cut 507 30 = some [0] := by decide +kernel
noncomputable def c_507_30 (d : Nat) (s0 : Int) (h : fi_H) : fk_R := gG (fj_run d) 507 30 [(0, (4, 602))] [(4, s0)] h
theorem cut_507_31 : fj_cut 507 31 = some [0] := by decide +kernel
noncomputable def c_507_31 (d : Nat) (s0 s1 : Int) (h : fi_H) : fk_R := gG (fj_run d) 507 31 [(0, (4, 602))] [(0, s1), (4, s0)] h
theorem e_507_30 (d : Nat) (s0 : Int) {h : fi_H} (H : Shp h) : c_507_30 d s0 h =
  c_507_31 d s0 0 h := by
  unfold c_507_30
  exact
    have D : fk_D 507 [(30, some [0], .iconst 0, 1, 0, 0, 0)] := fq_of2 cd_507 ow_507 cl_507 rfl (pc := 30) (by decide +kernel)
    j_ic (pc := 30) D rfl fun D =>
    fk_jump cut_507_31 rfl rfl
theorem e_507_31 (d : Nat) (s0 s1 : Int) {h : fi_H} (H : Shp h) : c_507_31 d s0 s1 h =
  dv_ (fi_vt 348 (h 0 s0.toNat 0)) fun m4 => cv_ (fj_run d m4 h [(4, s0), (0, s1), (0, 1), (0, h 396 602 0)])
    (fun h1 =>
    cv_ (fj_run d 502 h1 [(4, 602)])
      (fun h5 =>
      some (.inl (some (0, wI ((h1 395 602 0) - 2))), h5))
      (fun q7 h5 => tx_ q7 h5))
    (fun q3 h1 => tx_ q3 h1) := by
  unfold c_507_31
  exact
    have D : fk_D 507 [(31, some [0], .iconst 1, 1, 0, 1, 0), (32, none, .aload_n 0, 1, 0, 0, 0), (33, none, .getfield 507, 3, 396, 129, 10), (36, none, .invokevirtual 557, 3, 3, 348, 0), (39, none, .aload_n 0, 1, 0, 0, 0), (40, none, .getfield 531, 3, 395, 129, 10), (43, none, .iconst 2, 1, 0, 2, 0), (44, none, .isub, 1, 0, 0, 0), (45, none, .istore_n 1, 1, 0, 0, 0), (46, none, .aload_n 0, 1, 0, 0, 0), (47, none, .invokevirtual 567, 3, 0, 351, 0), (50, none, .iload_n 1, 1, 0, 0, 0), (51, none, .ireturn, 1, 0, 0, 0)] := fq_of2 cd_507 ow_507 cl_507 rfl (pc := 31) (by decide +kernel)
    j_ic (pc := 31) D rfl fun D =>
    j_aldn (pc := 32) D rfl rfl rfl fun D =>
    j_gf (pc := 33) (a := 602) D rfl rfl (by decide) rfl (s0_602 H) rfl fun D =>
    j_ivuv (pc := 36) (dd := 348) (a := [(0, s1), (0, 1), (0, h 396 602 0)]) (rest := []) H.2.1 D rfl rfl rfl rfl rfl (fun m4 h1 e1 D =>
      have T := fj_run_ok _ _ _ _ _ _ H.1 e1
      have H := shp_st H T
      j_aldn (pc := 39) D rfl rfl rfl fun D =>
      j_gf (pc := 40) (a := 602) D rfl rfl (by decide) rfl (s0_602 H) rfl fun D =>
      j_ic (pc := 43) D rfl fun D =>
      j_isub (pc := 44) D rfl fun D =>
      j_istn (pc := 45) (L' := [(1, (0, wI ((h1 395 602 0) - 2))), (0, (4, 602))]) D rfl nl_507 rfl rfl fun D =>
      j_aldn (pc := 46) D rfl rfl rfl fun D =>
      j_ivv (pc := 47) (m := 502) (dd := 351) (a := []) (rest := []) D rfl rfl rfl rfl rfl (by decide) (s0_602 H) (by decide +kernel) (fun h5 e1 D =>
        have T := fj_run_ok _ _ _ _ _ _ H.1 e1
        have H := shp_st H T
        j_ildn (pc := 50) D rfl rfl rfl fun D =>
        j_iret D rt_507) (fun q7 h5 e1 =>
        j_tx (hx_507 _))) (fun m4 q3 h1 e1 =>
      j_tx (hx_507 _))
theorem m_507 (d : Nat) {h : fi_H} (H : Shp h) : fj_run (d + 1) 507 h [(4, 602)] =
  if h 394 602 0 = 2 then
    ca_ (fj_run d 508 h [(1, wI (h 395 602 0)), (1, 2), (1, 9)]) 0
      (fun v2 h1 =>
      if v2 = 0 then
        c_507_30 d 602 h1
      else
        c_507_31 d 602 1 h1)
      (fun q3 h1 => tx_ q3 h1)
  else
    c_507_30 d 602 h := by
  rw [fj_run_eq d (by decide) h [(4, 602)] (Nat.le_of_ble_eq_true (by rw [nl_507]; rfl))]
  show gG (fj_run d) 507 0 [(0, (4, 602))] [] h = _
  exact
    have D : fk_D 507 [(0, none, .aload_n 0, 1, 0, 0, 0), (1, none, .aload_n 0, 1, 0, 0, 0), (2, none, .getfield 513, 3, 394, 129, 10), (5, none, .iconst 2, 1, 0, 2, 0), (6, none, .if_icmp .ne 24, 3, 30, 0, 0), (9, none, .aload_n 0, 1, 0, 0, 0), (10, none, .getfield 531, 3, 395, 129, 10), (13, none, .i2l, 1, 0, 0, 0), (14, none, .ldc2_w 582, 3, 1, 2, 0), (17, none, .ldc2_w 584, 3, 1, 9, 0), (20, none, .invokestatic 434, 3, 3, 508, 1), (23, none, .ifCond .eq 7, 3, 30, 0, 0), (26, none, .iconst 1, 1, 0, 1, 0), (27, none, .goto 4, 3, 31, 0, 0)] := fq_of2 cd_507 ow_507 cl_507 rfl (pc := 0) (by decide +kernel)
    j_aldn (pc := 0) D rfl rfl rfl fun D =>
    j_aldn (pc := 1) D rfl rfl rfl fun D =>
    j_gf (pc := 2) (a := 602) D rfl rfl (by decide) rfl (s0_602 H) rfl fun D =>
    j_ic (pc := 5) D rfl fun D =>
    j_ine (pc := 6) D rfl (fun q D =>
      j_aldn (pc := 9) D rfl rfl rfl fun D =>
      j_gf (pc := 10) (a := 602) D rfl rfl (by decide) rfl (s0_602 H) rfl fun D =>
      j_i2l (pc := 13) D rfl fun D =>
      j_ldc2 (pc := 14) D rfl fun D =>
      j_ldc2 (pc := 17) D rfl fun D =>
      j_is (pc := 20) (m := 508) (a := [(1, wI (h 395 602 0)), (1, 2), (1, 9)]) (rest := [(4, 602)]) D rfl rfl rfl rfl (fun v2 h1 e1 D =>
        have T := fj_run_ok _ _ _ _ _ _ H.1 e1
        have H := shp_st H T
        j_ifeq (pc := 23) D rfl (fun q =>
          fk_jump cut_507_30 rfl rfl) (fun q D =>
          j_ic (pc := 26) D rfl fun D =>
          j_goto (pc := 27) D rfl <|
          fk_jump cut_507_31 rfl rfl)) (fun q3 h1 e1 =>
        j_tx (hx_507 _))) (fun q =>
      fk_jump cut_507_30 rfl rfl)
/-! 508 StatuteHouseModel.in(JJJ)Z -/
theorem cd_508 : fi_code 508 = prog_69_method_3_code := rfl
theorem hx_508 : ∀ pc, fi_hat 508 pc = none := fun pc => by unfold fi_hat; rw [show fi_hh 508 = [] from rfl]; rfl
theorem rt_508 : fi_ret 508 = some .boolean := rfl
theorem nl_508 : fi_nl 508 = 6 := rfl
theorem ow_508 : fi_ow 508 = 29 := rfl
theorem cl_508 : fj_cutT.getD 508 [] = [] := rfl
theorem m_508 (d : Nat) (x0 x2 x4 : Int) {h : fi_H} (H : Shp h) : fj_run (d + 1) 508 h [(1, x0), (1, x2), (1, x4)] =
  if lc_ x0 x2 < 0 then
    some (.inl (some (0, 0)), h)
  else
    if 0 < lc_ x0 x4 then
      some (.inl (some (0, 0)), h)
    else
      some (.inl (some (0, 1)), h) := by
  rw [fj_run_eq d (by decide) h [(1, x0), (1, x2), (1, x4)] (Nat.le_of_ble_eq_true (by rw [nl_508]; rfl))]
  show gG (fj_run d) 508 0 [(0, (1, x0)), (2, (1, x2)), (4, (1, x4))] [] h = _
  exact
    have D : fk_D 508 [(0, none, .lload_n 0, 1, 0, 0, 0), (1, none, .lload_n 2, 1, 0, 0, 0), (2, none, .lcmp, 1, 0, 0, 0), (3, none, .ifCond .lt 14, 3, 17, 0, 0), (6, none, .lload_n 0, 1, 0, 0, 0), (7, none, .lload 4, 2, 0, 0, 0), (9, none, .lcmp, 1, 0, 0, 0), (10, none, .ifCond .gt 7, 3, 17, 0, 0), (13, none, .iconst 1, 1, 0, 1, 0), (14, none, .goto 4, 3, 18, 0, 0)] := fq_of2 cd_508 ow_508 cl_508 rfl (pc := 0) (by decide +kernel)
    j_lldn (pc := 0) D rfl rfl rfl fun D =>
    j_lldn (pc := 1) D rfl rfl rfl fun D =>
    j_lcmp (pc := 2) D rfl fun D =>
    j_iflt (pc := 3) D rfl (fun q =>
      have D : fk_D 508 [(17, none, .iconst 0, 1, 0, 0, 0), (18, none, .ireturn, 1, 0, 0, 0)] := fq_of2 cd_508 ow_508 cl_508 rfl (pc := 17) (by decide +kernel)
      j_ic (pc := 17) D rfl fun D =>
      j_zret D rt_508 (gy (by decide))) (fun q D =>
      j_lldn (pc := 6) D rfl rfl rfl fun D =>
      j_lld (pc := 7) D rfl rfl rfl fun D =>
      j_lcmp (pc := 9) D rfl fun D =>
      j_ifgt (pc := 10) D rfl (fun q =>
        have D : fk_D 508 [(17, none, .iconst 0, 1, 0, 0, 0), (18, none, .ireturn, 1, 0, 0, 0)] := fq_of2 cd_508 ow_508 cl_508 rfl (pc := 17) (by decide +kernel)
        j_ic (pc := 17) D rfl fun D =>
        j_zret D rt_508 (gy (by decide))) (fun q D =>
        j_ic (pc := 13) D rfl fun D =>
        j_goto (pc := 14) D rfl <|
        have D : fk_D 508 [(18, none, .ireturn, 1, 0, 0, 0)] := fq_of2 cd_508 ow_508 cl_508 rfl (pc := 18) (by decide +kernel)
        j_zret D rt_508 (gy (by decide))))
/-! 509 StatuteHouseModel.readRest(I)V -/
theorem cd_509 : fi_code 509 = prog_69_method_45_code := rfl
theorem hx_509 : ∀ pc, fi_hat 509 pc = none := fun pc => by unfold fi_hat; rw [show fi_hh 509 = [] from rfl]; rfl
theorem rt_509 : fi_ret 509 = none := rfl
theorem nl_509 : fi_nl 509 = 3 := rfl
theorem ow_509 : fi_ow 509 = 29 := rfl
theorem cl_509 : fj_cutT.getD 509 [] = [(50, [0, 1]), (51, [0, 1]), (93, [0, 1]), (130, [0, 1, 2]), (162, [0, 1]), (196, [0, 1]), (197, [0, 1])] := rfl
theorem cut_509_50 : fj_cut 509 50 = some [0, 1] := by decide +kernel
noncomputable def c_509_50 (d : Nat) (x1 s0 : Int) (h : fi_H) : fk_R := gG (fj_run d) 509 50 [(0, (4, 602)), (1, (0, x1))] [(4, s0)] h
theorem cut_509_51 : fj_cut 509 51 = some [0, 1] := by decide +kernel
noncomputable def c_509_51 (d : Nat) (x1 s0 s1 : Int) (h : fi_H) : fk_R := gG (fj_run d) 509 51 [(0, (4, 602)), (1, (0, x1))] [(0, s1), (4, s0)] h
theorem cut_509_93 : fj_cut 509 93 = some [0, 1] := by decide +kernel
noncomputable def c_509_93 (d : Nat) (x1 : Int) (h : fi_H) : fk_R := gG (fj_run d) 509 93 [(0, (4, 602)), (1, (0, x1))] [] h
theorem cut_509_130 : fj_cut 509 130 = some [0, 1, 2] := by decide +kernel
noncomputable def c_509_130 (d : Nat) (x1 x2 s0 s1 : Int) (h : fi_H) : fk_R := gG (fj_run d) 509 130 [(0, (4, 602)), (1, (0, x1)), (2, (0, x2))] [(0, s1), (4, s0)] h
theorem cut_509_162 : fj_cut 509 162 = some [0, 1] := by decide +kernel
noncomputable def c_509_162 (d : Nat) (x1 : Int) (h : fi_H) : fk_R := gG (fj_run d) 509 162 [(0, (4, 602)), (1, (0, x1))] [] h
theorem cut_509_196 : fj_cut 509 196 = some [0, 1] := by decide +kernel
noncomputable def c_509_196 (d : Nat) (x1 s0 : Int) (h : fi_H) : fk_R := gG (fj_run d) 509 196 [(0, (4, 602)), (1, (0, x1))] [(4, s0)] h
theorem cut_509_197 : fj_cut 509 197 = some [0, 1] := by decide +kernel
noncomputable def c_509_197 (d : Nat) (x1 s0 s1 : Int) (h : fi_H) : fk_R := gG (fj_run d) 509 197 [(0, (4, 602)), (1, (0, x1))] [(0, s1), (4, s0)] h
theorem e_509_50 (d : Nat) (x1 s0 : Int) {h : fi_H} (H : Shp h) : c_509_50 d x1 s0 h =
  c_509_51 d x1 s0 0 h := by
  unfold c_509_50
  exact
    have D : fk_D 509 [(50, some [0, 1], .iconst 0, 1, 0, 0, 0)] := fq_of2 cd_509 ow_509 cl_509 rfl (pc := 50) (by decide +kernel)
    j_ic (pc := 50) D rfl fun D =>
    fk_jump cut_509_51 rfl rfl
theorem e_509_51 (d : Nat) (x1 s0 s1 : Int) {h : fi_H} (H : Shp h) : c_509_51 d x1 s0 s1 h =
  dv_ (fi_vt 348 (h 0 s0.toNat 0)) fun m4 => cv_ (fj_run d m4 h [(4, s0), (0, s1), (0, 5), (0, h 396 602 0)])
    (fun h1 =>
    if 0 ≤ x1 ∧ x1 < 41 then
    lt_ (fi_upd h1 10 612 x1.toNat (wI ((wI ((h1 395 602 0) - 10)) + 1))) fun h5 =>
    cv_ (fj_run d 502 h5 [(4, 602)])
      (fun h7 =>
      ca_ (fj_run d 510 h7 [(4, 602), (1, 1), (1, 999999999)]) 1
        (fun v11 h10 =>
        lt_ (fi_upd h10 10 613 x1.toNat (wI v11)) fun h13 =>
        c_509_93 d x1 h13)
        (fun q12 h10 => tx_ q12 h10))
      (fun q9 h7 => tx_ q9 h7)
    else none)
    (fun q3 h1 => tx_ q3 h1) := by
  unfold c_509_51
  exact
    have D : fk_D 509 [(51, some [0, 1], .iconst 5, 1, 0, 5, 0), (52, none, .aload_n 0, 1, 0, 0, 0), (53, none, .getfield 507, 3, 396, 129, 10), (56, none, .invokevirtual 557, 3, 3, 348, 0), (59, none, .aload_n 0, 1, 0, 0, 0), (60, none, .getfield 46, 3, 408, 129, 12), (63, none, .iload_n 1, 1, 0, 0, 0), (64, none, .aload_n 0, 1, 0, 0, 0), (65, none, .getfield 531, 3, 395, 129, 10), (68, none, .bipush 10, 2, 0, 10, 0), (70, none, .isub, 1, 0, 0, 0), (71, none, .iconst 1, 1, 0, 1, 0), (72, none, .iadd, 1, 0, 0, 0), (73, none, .iastore, 1, 0, 0, 0), (74, none, .aload_n 0, 1, 0, 0, 0), (75, none, .invokevirtual 567, 3, 0, 351, 0), (78, none, .aload_n 0, 1, 0, 0, 0), (79, none, .getfield 49, 3, 409, 129, 12), (82, none, .iload_n 1, 1, 0, 0, 0), (83, none, .aload_n 0, 1, 0, 0, 0)] := fq_of2 cd_509 ow_509 cl_509 rfl (pc := 51) (by decide +kernel)
    j_ic (pc := 51) D rfl fun D =>
    j_aldn (pc := 52) D rfl rfl rfl fun D =>
    j_gf (pc := 53) (a := 602) D rfl rfl (by decide) rfl (s0_602 H) rfl fun D =>
    j_ivuv (pc := 56) (dd := 348) (a := [(0, s1), (0, 5), (0, h 396 602 0)]) (rest := []) H.2.1 D rfl rfl rfl rfl rfl (fun m4 h1 e1 D =>
      have T := fj_run_ok _ _ _ _ _ _ H.1 e1
      have H := shp_st H T
      j_aldn (pc := 59) D rfl rfl rfl fun D =>
      j_gfc (pc := 60) (a := 602) D rfl rfl (by decide) rfl (s0_602 H) rfl (sf_408_602 H) fun D =>
      j_ildn (pc := 63) D rfl rfl rfl fun D =>
      j_aldn (pc := 64) D rfl rfl rfl fun D =>
      j_gf (pc := 65) (a := 602) D rfl rfl (by decide) rfl (s0_602 H) rfl fun D =>
      j_bp (pc := 68) D rfl fun D =>
      j_isub (pc := 70) D rfl fun D =>
      j_ic (pc := 71) D rfl fun D =>
      j_iadd (pc := 72) D rfl fun D =>
      j_as (pc := 73) (a := 612) (e := 10) D rfl ⟨rfl, rfl⟩ rfl (by decide) (s0_612 H) (s1_612 H) ⟨rfl, rfl, rfl⟩ rfl gn (gy rfl) fun h5 eh5 S qb6 D =>
      have T := fj_hs_ok H.1 S
      have H := shp_st H T
      j_aldn (pc := 74) D rfl rfl rfl fun D =>
      j_ivv (pc := 75) (m := 502) (dd := 351) (a := []) (rest := []) D rfl rfl rfl rfl rfl (by decide) (s0_602 H) (by decide +kernel) (fun h7 e1 D =>
        have T := fj_run_ok _ _ _ _ _ _ H.1 e1
        have H := shp_st H T
        j_aldn (pc := 78) D rfl rfl rfl fun D =>
        j_gfc (pc := 79) (a := 602) D rfl rfl (by decide) rfl (s0_602 H) rfl (sf_409_602 H) fun D =>
        j_ildn (pc := 82) D rfl rfl rfl fun D =>
        j_aldn (pc := 83) D rfl rfl rfl fun D =>
        have D : fk_D 509 [(84, none, .lconst 1, 1, 0, 0, 0), (85, none, .ldc2_w 638, 3, 1, 999999999, 0), (88, none, .invokevirtual 640, 3, 2, 360, 2), (91, none, .l2i, 1, 0, 0, 0), (92, none, .iastore, 1, 0, 0, 0)] := fq_of2 cd_509 ow_509 cl_509 rfl (pc := 84) (by decide +kernel)
        j_c0 (pc := 84) (v := (1, 1)) D rfl rfl (by decide +kernel) fun D =>
        j_ldc2 (pc := 85) D rfl fun D =>
        j_iv (pc := 88) (m := 510) (dd := 360) (a := [(1, 1), (1, 999999999)]) (rest := [(0, x1), (4, 613)]) D rfl rfl rfl rfl rfl (by decide) (s0_602 H) (by decide +kernel) (fun v11 h10 e1 D =>
          have T := fj_run_ok _ _ _ _ _ _ H.1 e1
          have H := shp_st H T
          j_l2i (pc := 91) D rfl fun D =>
          j_as (pc := 92) (a := 613) (e := 10) D rfl ⟨rfl, rfl⟩ rfl (by decide) (s0_613 H) (s1_613 H) ⟨rfl, rfl, rfl⟩ rfl (gy qb6) (gy rfl) fun h13 eh13 S q D =>
          have T := fj_hs_ok H.1 S
          have H := shp_st H T
          fk_jump cut_509_93 rfl rfl) (fun q12 h10 e1 =>
          j_tx (hx_509 _))) (fun q9 h7 e1 =>
        j_tx (hx_509 _))) (fun m4 q3 h1 e1 =>
      j_tx (hx_509 _))
theorem e_509_93 (d : Nat) (x1 : Int) {h : fi_H} (H : Shp h) : c_509_93 d x1 h =
  ca_ (fj_run d 511 h [(4, 602), (0, 14)]) 0
    (fun v2 h1 =>
    if v2 = 0 then
      c_509_162 d x1 h1
    else
      cv_ (fj_run d 512 h1 [(4, 602)])
        (fun h4 =>
        if 0 ≤ x1 ∧ x1 < 41 then
        if h4 414 602 0 = h4 10 611 x1.toNat then
          c_509_130 d x1 (h1 396 602 0) 602 1 h4
        else
          c_509_130 d x1 (h1 396 602 0) 602 0 h4
        else none)
        (fun q6 h4 => tx_ q6 h4))
    (fun q3 h1 => tx_ q3 h1) := by
  unfold c_509_93
  exact
    have D : fk_D 509 [(93, some [0, 1], .aload_n 0, 1, 0, 0, 0), (94, none, .bipush 14, 2, 0, 14, 0), (96, none, .invokevirtual 643, 3, 1, 361, 1), (99, none, .ifCond .eq 63, 3, 162, 0, 0), (102, none, .aload_n 0, 1, 0, 0, 0), (103, none, .getfield 507, 3, 396, 129, 10), (106, none, .istore_n 2, 1, 0, 0, 0), (107, none, .aload_n 0, 1, 0, 0, 0), (108, none, .invokevirtual 646, 3, 0, 362, 0), (111, none, .aload_n 0, 1, 0, 0, 0), (112, none, .aload_n 0, 1, 0, 0, 0), (113, none, .getfield 592, 3, 414, 129, 10), (116, none, .aload_n 0, 1, 0, 0, 0), (117, none, .getfield 43, 3, 407, 129, 12), (120, none, .iload_n 1, 1, 0, 0, 0), (121, none, .iaload, 1, 0, 0, 0), (122, none, .if_icmp .ne 7, 3, 129, 0, 0), (125, none, .iconst 1, 1, 0, 1, 0), (126, none, .goto 4, 3, 130, 0, 0)] := fq_of2 cd_509 ow_509 cl_509 rfl (pc := 93) (by decide +kernel)
    j_aldn (pc := 93) D rfl rfl rfl fun D =>
    j_bp (pc := 94) D rfl fun D =>
    j_iv (pc := 96) (m := 511) (dd := 361) (a := [(0, 14)]) (rest := []) D rfl rfl rfl rfl rfl (by decide) (s0_602 H) (by decide +kernel) (fun v2 h1 e1 D =>
      have T := fj_run_ok _ _ _ _ _ _ H.1 e1
      have H := shp_st H T
      j_ifeq (pc := 99) D rfl (fun q =>
        fk_jump cut_509_162 rfl rfl) (fun q D =>
        j_aldn (pc := 102) D rfl rfl rfl fun D =>
        j_gf (pc := 103) (a := 602) D rfl rfl (by decide) rfl (s0_602 H) rfl fun D =>
        j_istn (pc := 106) (L' := [(2, (0, h1 396 602 0)), (0, (4, 602)), (1, (0, x1))]) D rfl nl_509 rfl rfl fun D =>
        j_aldn (pc := 107) D rfl rfl rfl fun D =>
        j_ivv (pc := 108) (m := 512) (dd := 362) (a := []) (rest := []) D rfl rfl rfl rfl rfl (by decide) (s0_602 H) (by decide +kernel) (fun h4 e1 D =>
          have T := fj_run_ok _ _ _ _ _ _ H.1 e1
          have H := shp_st H T
          j_aldn (pc := 111) D rfl rfl rfl fun D =>
          j_aldn (pc := 112) D rfl rfl rfl fun D =>
          j_gf (pc := 113) (a := 602) D rfl rfl (by decide) rfl (s0_602 H) rfl fun D =>
          j_aldn (pc := 116) D rfl rfl rfl fun D =>
          j_gfc (pc := 117) (a := 602) D rfl rfl (by decide) rfl (s0_602 H) rfl (sf_407_602 H) fun D =>
          j_ildn (pc := 120) D rfl rfl rfl fun D =>
          j_al (pc := 121) (a := 611) (e := 10) D rfl rfl rfl (by decide) (s0_611 H) (s1_611 H) ⟨rfl, rfl, rfl⟩ rfl gn fun qb7 D =>
          j_ine (pc := 122) D rfl (fun q D =>
            j_ic (pc := 125) D rfl fun D =>
            j_goto (pc := 126) D rfl <|
            fk_jump cut_509_130 rfl rfl) (fun q =>
            have D : fk_D 509 [(129, none, .iconst 0, 1, 0, 0, 0)] := fq_of2 cd_509 ow_509 cl_509 rfl (pc := 129) (by decide +kernel)
            j_ic (pc := 129) D rfl fun D =>
            fk_jump cut_509_130 rfl rfl)) (fun q6 h4 e1 =>
          j_tx (hx_509 _)))) (fun q3 h1 e1 =>
      j_tx (hx_509 _))
theorem e_509_130 (d : Nat) (x1 x2 s0 s1 : Int) {h : fi_H} (H : Shp h) : c_509_130 d x1 x2 s0 s1 h =
  dv_ (fi_vt 348 (h 0 s0.toNat 0)) fun m4 => cv_ (fj_run d m4 h [(4, s0), (0, s1), (0, 5), (0, x2)])
    (fun h1 =>
    if 0 ≤ x1 ∧ x1 < 41 then
    lt_ (fi_upd h1 4 614 x1.toNat 1) fun h5 =>
    lt_ (fi_upd h5 11 615 x1.toNat (h5 415 602 0)) fun h7 =>
    lt_ (fi_upd h7 11 616 x1.toNat (h7 416 602 0)) fun h8 =>
    c_509_162 d x1 h8
    else none)
    (fun q3 h1 => tx_ q3 h1) := by
  unfold c_509_130
  exact
    have D : fk_D 509 [(130, some [0, 1, 2], .iconst 5, 1, 0, 5, 0), (131, none, .iload_n 2, 1, 0, 0, 0), (132, none, .invokevirtual 557, 3, 3, 348, 0), (135, none, .aload_n 0, 1, 0, 0, 0), (136, none, .getfield 52, 3, 410, 129, 12), (139, none, .iload_n 1, 1, 0, 0, 0), (140, none, .iconst 1, 1, 0, 1, 0), (141, none, .bastore, 1, 0, 0, 0), (142, none, .aload_n 0, 1, 0, 0, 0), (143, none, .getfield 56, 3, 411, 129, 12), (146, none, .iload_n 1, 1, 0, 0, 0), (147, none, .aload_n 0, 1, 0, 0, 0), (148, none, .getfield 595, 3, 415, 129, 11), (151, none, .lastore, 1, 0, 0, 0), (152, none, .aload_n 0, 1, 0, 0, 0), (153, none, .getfield 59, 3, 412, 129, 12), (156, none, .iload_n 1, 1, 0, 0, 0), (157, none, .aload_n 0, 1, 0, 0, 0), (158, none, .getfield 598, 3, 416, 129, 11), (161, none, .lastore, 1, 0, 0, 0)] := fq_of2 cd_509 ow_509 cl_509 rfl (pc := 130) (by decide +kernel)
    j_ic (pc := 130) D rfl fun D =>
    j_ildn (pc := 131) D rfl rfl rfl fun D =>
    j_ivuv (pc := 132) (dd := 348) (a := [(0, s1), (0, 5), (0, x2)]) (rest := []) H.2.1 D rfl rfl rfl rfl rfl (fun m4 h1 e1 D =>
      have T := fj_run_ok _ _ _ _ _ _ H.1 e1
      have H := shp_st H T
      j_aldn (pc := 135) D rfl rfl rfl fun D =>
      j_gfc (pc := 136) (a := 602) D rfl rfl (by decide) rfl (s0_602 H) rfl (sf_410_602 H) fun D =>
      j_ildn (pc := 139) D rfl rfl rfl fun D =>
      j_ic (pc := 140) D rfl fun D =>
      j_as (pc := 141) (a := 614) (e := 4) D rfl ⟨rfl, rfl⟩ rfl (by decide) (s0_614 H) (s1_614 H) ⟨rfl, rfl, rfl⟩ rfl gn (gy (by decide)) fun h5 eh5 S qb6 D =>
      have T := fj_hs_ok H.1 S
      have H := shp_st H T
      j_aldn (pc := 142) D rfl rfl rfl fun D =>
      j_gfc (pc := 143) (a := 602) D rfl rfl (by decide) rfl (s0_602 H) rfl (sf_411_602 H) fun D =>
      j_ildn (pc := 146) D rfl rfl rfl fun D =>
      j_aldn (pc := 147) D rfl rfl rfl fun D =>
      j_gf (pc := 148) (a := 602) D rfl rfl (by decide) rfl (s0_602 H) rfl fun D =>
      j_as (pc := 151) (a := 615) (e := 11) D rfl ⟨rfl, rfl⟩ rfl (by decide) (s0_615 H) (s1_615 H) ⟨rfl, rfl, rfl⟩ rfl (gy qb6) (gy rfl) fun h7 eh7 S q D =>
      have T := fj_hs_ok H.1 S
      have H := shp_st H T
      j_aldn (pc := 152) D rfl rfl rfl fun D =>
      j_gfc (pc := 153) (a := 602) D rfl rfl (by decide) rfl (s0_602 H) rfl (sf_412_602 H) fun D =>
      j_ildn (pc := 156) D rfl rfl rfl fun D =>
      j_aldn (pc := 157) D rfl rfl rfl fun D =>
      j_gf (pc := 158) (a := 602) D rfl rfl (by decide) rfl (s0_602 H) rfl fun D =>
      j_as (pc := 161) (a := 616) (e := 11) D rfl ⟨rfl, rfl⟩ rfl (by decide) (s0_616 H) (s1_616 H) ⟨rfl, rfl, rfl⟩ rfl (gy qb6) (gy rfl) fun h8 eh8 S q D =>
      have T := fj_hs_ok H.1 S
      have H := shp_st H T
      fk_jump cut_509_162 rfl rfl) (fun m4 q3 h1 e1 =>
      j_tx (hx_509 _))
theorem e_509_162 (d : Nat) (x1 : Int) {h : fi_H} (H : Shp h) : c_509_162 d x1 h =
  ca_ (fj_run d 499 h [(4, 602), (0, 69)]) 0
    (fun v2 h1 =>
    if v2 = 0 then
      some (.inl none, h1)
    else
      if 0 ≤ x1 ∧ x1 < 41 then
      if h1 10 610 x1.toNat = 0 then
        if h1 10 611 x1.toNat = 7 then
          c_509_197 d x1 602 1 h1
        else
          c_509_196 d x1 602 h1
      else
        c_509_196 d x1 602 h1
      else none)
    (fun q3 h1 => tx_ q3 h1) := by
  unfold c_509_162
  exact
    have D : fk_D 509 [(162, some [0, 1], .aload_n 0, 1, 0, 0, 0), (163, none, .bipush 69, 2, 0, 69, 0), (165, none, .invokevirtual 570, 3, 1, 352, 1), (168, none, .ifCond .eq 48, 3, 216, 0, 0), (171, none, .aload_n 0, 1, 0, 0, 0), (172, none, .aload_n 0, 1, 0, 0, 0), (173, none, .getfield 40, 3, 406, 129, 12), (176, none, .iload_n 1, 1, 0, 0, 0), (177, none, .iaload, 1, 0, 0, 0), (178, none, .ifCond .ne 18, 3, 196, 0, 0), (181, none, .aload_n 0, 1, 0, 0, 0), (182, none, .getfield 43, 3, 407, 129, 12), (185, none, .iload_n 1, 1, 0, 0, 0), (186, none, .iaload, 1, 0, 0, 0), (187, none, .bipush 7, 2, 0, 7, 0), (189, none, .if_icmp .ne 7, 3, 196, 0, 0), (192, none, .iconst 1, 1, 0, 1, 0), (193, none, .goto 4, 3, 197, 0, 0)] := fq_of2 cd_509 ow_509 cl_509 rfl (pc := 162) (by decide +kernel)
    j_aldn (pc := 162) D rfl rfl rfl fun D =>
    j_bp (pc := 163) D rfl fun D =>
    j_iv (pc := 165) (m := 499) (dd := 352) (a := [(0, 69)]) (rest := []) D rfl rfl rfl rfl rfl (by decide) (s0_602 H) (by decide +kernel) (fun v2 h1 e1 D =>
      have T := fj_run_ok _ _ _ _ _ _ H.1 e1
      have H := shp_st H T
      j_ifeq (pc := 168) D rfl (fun q =>
        have D : fk_D 509 [(216, none, .return_, 1, 0, 0, 0)] := fq_of2 cd_509 ow_509 cl_509 rfl (pc := 216) (by decide +kernel)
        j_vret D rt_509) (fun q D =>
        j_aldn (pc := 171) D rfl rfl rfl fun D =>
        j_aldn (pc := 172) D rfl rfl rfl fun D =>
        j_gfc (pc := 173) (a := 602) D rfl rfl (by decide) rfl (s0_602 H) rfl (sf_406_602 H) fun D =>
        j_ildn (pc := 176) D rfl rfl rfl fun D =>
        j_al (pc := 177) (a := 610) (e := 10) D rfl rfl rfl (by decide) (s0_610 H) (s1_610 H) ⟨rfl, rfl, rfl⟩ rfl gn fun qb4 D =>
        j_ifne (pc := 178) D rfl (fun q D =>
          j_aldn (pc := 181) D rfl rfl rfl fun D =>
          j_gfc (pc := 182) (a := 602) D rfl rfl (by decide) rfl (s0_602 H) rfl (sf_407_602 H) fun D =>
          j_ildn (pc := 185) D rfl rfl rfl fun D =>
          j_al (pc := 186) (a := 611) (e := 10) D rfl rfl rfl (by decide) (s0_611 H) (s1_611 H) ⟨rfl, rfl, rfl⟩ rfl (gy qb4) fun q D =>
          j_bp (pc := 187) D rfl fun D =>
          j_ine (pc := 189) D rfl (fun q D =>
            j_ic (pc := 192) D rfl fun D =>
            j_goto (pc := 193) D rfl <|
            fk_jump cut_509_197 rfl rfl) (fun q =>
            fk_jump cut_509_196 rfl rfl)) (fun q =>
          fk_jump cut_509_196 rfl rfl))) (fun q3 h1 e1 =>
      j_tx (hx_509 _))
theorem e_509_196 (d : Nat) (x1 s0 : Int) {h : fi_H} (H : Shp h) : c_509_196 d x1 s0 h =
  c_509_197 d x1 s0 0 h := by
  unfold c_509_196
  exact
    have D : fk_D 509 [(196, some [0, 1], .iconst 0, 1, 0, 0, 0)] := fq_of2 cd_509 ow_509 cl_509 rfl (pc := 196) (by decide +kernel)
    j_ic (pc := 196) D rfl fun D =>
    fk_jump cut_509_197 rfl rfl
theorem e_509_197 (d : Nat) (x1 s0 s1 : Int) {h : fi_H} (H : Shp h) : c_509_197 d x1 s0 s1 h =
  dv_ (fi_vt 348 (h 0 s0.toNat 0)) fun m4 => cv_ (fj_run d m4 h [(4, s0), (0, s1), (0, 5), (0, h 396 602 0)])
    (fun h1 =>
    if 0 ≤ x1 ∧ x1 < 41 then
    lt_ (fi_upd h1 10 610 x1.toNat 3) fun h5 =>
    cv_ (fj_run d 502 h5 [(4, 602)])
      (fun h7 =>
      some (.inl none, h7))
      (fun q9 h7 => tx_ q9 h7)
    else none)
    (fun q3 h1 => tx_ q3 h1) := by
  unfold c_509_197
  exact
    have D : fk_D 509 [(197, some [0, 1], .iconst 5, 1, 0, 5, 0), (198, none, .aload_n 0, 1, 0, 0, 0), (199, none, .getfield 507, 3, 396, 129, 10), (202, none, .invokevirtual 557, 3, 3, 348, 0), (205, none, .aload_n 0, 1, 0, 0, 0), (206, none, .getfield 40, 3, 406, 129, 12), (209, none, .iload_n 1, 1, 0, 0, 0), (210, none, .iconst 3, 1, 0, 3, 0), (211, none, .iastore, 1, 0, 0, 0), (212, none, .aload_n 0, 1, 0, 0, 0), (213, none, .invokevirtual 567, 3, 0, 351, 0), (216, none, .return_, 1, 0, 0, 0)] := fq_of2 cd_509 ow_509 cl_509 rfl (pc := 197) (by decide +kernel)
    j_ic (pc := 197) D rfl fun D =>
    j_aldn (pc := 198) D rfl rfl rfl fun D =>
    j_gf (pc := 199) (a := 602) D rfl rfl (by decide) rfl (s0_602 H) rfl fun D =>
    j_ivuv (pc := 202) (dd := 348) (a := [(0, s1), (0, 5), (0, h 396 602 0)]) (rest := []) H.2.1 D rfl rfl rfl rfl rfl (fun m4 h1 e1 D =>
      have T := fj_run_ok _ _ _ _ _ _ H.1 e1
      have H := shp_st H T
      j_aldn (pc := 205) D rfl rfl rfl fun D =>
      j_gfc (pc := 206) (a := 602) D rfl rfl (by decide) rfl (s0_602 H) rfl (sf_406_602 H) fun D =>
      j_ildn (pc := 209) D rfl rfl rfl fun D =>
      j_ic (pc := 210) D rfl fun D =>
      j_as (pc := 211) (a := 610) (e := 10) D rfl ⟨rfl, rfl⟩ rfl (by decide) (s0_610 H) (s1_610 H) ⟨rfl, rfl, rfl⟩ rfl gn (gy rfl) fun h5 eh5 S qb6 D =>
      have T := fj_hs_ok H.1 S
      have H := shp_st H T
      j_aldn (pc := 212) D rfl rfl rfl fun D =>
      j_ivv (pc := 213) (m := 502) (dd := 351) (a := []) (rest := []) D rfl rfl rfl rfl rfl (by decide) (s0_602 H) (by decide +kernel) (fun h7 e1 D =>
        have T := fj_run_ok _ _ _ _ _ _ H.1 e1
        have H := shp_st H T
        j_vret D rt_509) (fun q9 h7 e1 =>
        j_tx (hx_509 _))) (fun m4 q3 h1 e1 =>
      j_tx (hx_509 _))
theorem m_509 (d : Nat) (x1 : Int) {h : fi_H} (H : Shp h) : fj_run (d + 1) 509 h [(4, 602), (0, x1)] =
  if h 394 602 0 = 2 then
    ca_ (fj_run d 508 h [(1, wI (h 395 602 0)), (1, 10), (1, 13)]) 0
      (fun v2 h1 =>
      if v2 = 0 then
        c_509_93 d x1 h1
      else
        if 0 ≤ x1 ∧ x1 < 41 then
        if h1 10 610 x1.toNat = 1 then
          if h1 10 611 x1.toNat = 2 then
            c_509_51 d x1 602 1 h1
          else
            c_509_50 d x1 602 h1
        else
          c_509_50 d x1 602 h1
        else none)
      (fun q3 h1 => tx_ q3 h1)
  else
    c_509_93 d x1 h := by
  rw [fj_run_eq d (by decide) h [(4, 602), (0, x1)] (Nat.le_of_ble_eq_true (by rw [nl_509]; rfl))]
  show gG (fj_run d) 509 0 [(0, (4, 602)), (1, (0, x1))] [] h = _
  exact
    have D : fk_D 509 [(0, none, .aload_n 0, 1, 0, 0, 0), (1, none, .getfield 513, 3, 394, 129, 10), (4, none, .iconst 2, 1, 0, 2, 0), (5, none, .if_icmp .ne 88, 3, 93, 0, 0), (8, none, .aload_n 0, 1, 0, 0, 0), (9, none, .getfield 531, 3, 395, 129, 10), (12, none, .i2l, 1, 0, 0, 0), (13, none, .ldc2_w 489, 3, 1, 10, 0), (16, none, .ldc2_w 636, 3, 1, 13, 0), (19, none, .invokestatic 434, 3, 3, 508, 1), (22, none, .ifCond .eq 71, 3, 93, 0, 0), (25, none, .aload_n 0, 1, 0, 0, 0), (26, none, .aload_n 0, 1, 0, 0, 0), (27, none, .getfield 40, 3, 406, 129, 12), (30, none, .iload_n 1, 1, 0, 0, 0), (31, none, .iaload, 1, 0, 0, 0), (32, none, .iconst 1, 1, 0, 1, 0), (33, none, .if_icmp .ne 17, 3, 50, 0, 0), (36, none, .aload_n 0, 1, 0, 0, 0), (37, none, .getfield 43, 3, 407, 129, 12)] := fq_of2 cd_509 ow_509 cl_509 rfl (pc := 0) (by decide +kernel)
    j_aldn (pc := 0) D rfl rfl rfl fun D =>
    j_gf (pc := 1) (a := 602) D rfl rfl (by decide) rfl (s0_602 H) rfl fun D =>
    j_ic (pc := 4) D rfl fun D =>
    j_ine (pc := 5) D rfl (fun q D =>
      j_aldn (pc := 8) D rfl rfl rfl fun D =>
      j_gf (pc := 9) (a := 602) D rfl rfl (by decide) rfl (s0_602 H) rfl fun D =>
      j_i2l (pc := 12) D rfl fun D =>
      j_ldc2 (pc := 13) D rfl fun D =>
      j_ldc2 (pc := 16) D rfl fun D =>
      j_is (pc := 19) (m := 508) (a := [(1, wI (h 395 602 0)), (1, 10), (1, 13)]) (rest := []) D rfl rfl rfl rfl (fun v2 h1 e1 D =>
        have T := fj_run_ok _ _ _ _ _ _ H.1 e1
        have H := shp_st H T
        j_ifeq (pc := 22) D rfl (fun q =>
          fk_jump cut_509_93 rfl rfl) (fun q D =>
          j_aldn (pc := 25) D rfl rfl rfl fun D =>
          j_aldn (pc := 26) D rfl rfl rfl fun D =>
          j_gfc (pc := 27) (a := 602) D rfl rfl (by decide) rfl (s0_602 H) rfl (sf_406_602 H) fun D =>
          j_ildn (pc := 30) D rfl rfl rfl fun D =>
          j_al (pc := 31) (a := 610) (e := 10) D rfl rfl rfl (by decide) (s0_610 H) (s1_610 H) ⟨rfl, rfl, rfl⟩ rfl gn fun qb4 D =>
          j_ic (pc := 32) D rfl fun D =>
          j_ine (pc := 33) D rfl (fun q D =>
            j_aldn (pc := 36) D rfl rfl rfl fun D =>
            j_gfc (pc := 37) (a := 602) D rfl rfl (by decide) rfl (s0_602 H) rfl (sf_407_602 H) fun D =>
            have D : fk_D 509 [(40, none, .iload_n 1, 1, 0, 0, 0), (41, none, .iaload, 1, 0, 0, 0), (42, none, .iconst 2, 1, 0, 2, 0), (43, none, .if_icmp .ne 7, 3, 50, 0, 0), (46, none, .iconst 1, 1, 0, 1, 0), (47, none, .goto 4, 3, 51, 0, 0)] := fq_of2 cd_509 ow_509 cl_509 rfl (pc := 40) (by decide +kernel)
            j_ildn (pc := 40) D rfl rfl rfl fun D =>
            j_al (pc := 41) (a := 611) (e := 10) D rfl rfl rfl (by decide) (s0_611 H) (s1_611 H) ⟨rfl, rfl, rfl⟩ rfl (gy qb4) fun q D =>
            j_ic (pc := 42) D rfl fun D =>
            j_ine (pc := 43) D rfl (fun q D =>
              j_ic (pc := 46) D rfl fun D =>
              j_goto (pc := 47) D rfl <|
              fk_jump cut_509_51 rfl rfl) (fun q =>
              fk_jump cut_509_50 rfl rfl)) (fun q =>
            fk_jump cut_509_50 rfl rfl))) (fun q3 h1 e1 =>
        j_tx (hx_509 _))) (fun q =>
      fk_jump cut_509_93 rfl rfl)
/-! 510 StatuteHouseModel.within(JJ)J -/
theorem cd_510 : fi_code 510 = prog_69_method_35_code := rfl
theorem hx_510 : ∀ pc, fi_hat 510 pc = none := fun pc => by unfold fi_hat; rw [show fi_hh 510 = [] from rfl]; rfl
theorem rt_510 : fi_ret 510 = some .long := rfl
theorem nl_510 : fi_nl 510 = 7 := rfl
theorem ow_510 : fi_ow 510 = 29 := rfl
theorem cl_510 : fj_cutT.getD 510 [] = [(14, [0, 1, 3])] := rfl
theorem cut_510_14 : fj_cut 510 14 = some [0, 1, 3] := by decide +kernel
noncomputable def c_510_14 (d : Nat) (x1 x3 s0 s1 : Int) (h : fi_H) : fk_R := gG (fj_run d) 510 14 [(0, (4, 602)), (1, (1, x1)), (3, (1, x3))] [(0, s1), (4, s0)] h
theorem e_510_14 (d : Nat) (x1 x3 s0 s1 : Int) {h : fi_H} (H : Shp h) : c_510_14 d x1 x3 s0 s1 h =
  dv_ (fi_vt 348 (h 0 s0.toNat 0)) fun m4 => cv_ (fj_run d m4 h [(4, s0), (0, s1), (0, 1), (0, h 396 602 0)])
    (fun h1 =>
    ca_ (fj_run d 508 h1 [(1, h1 399 602 0), (1, x1), (1, x3)]) 0
      (fun v6 h5 =>
      cv_ (fj_run d 500 h5 [(4, 602), (0, v6), (0, 3), (0, h5 396 602 0)])
        (fun h8 =>
        cv_ (fj_run d 502 h8 [(4, 602)])
          (fun h11 =>
          some (.inl (some (1, h8 399 602 0)), h11))
          (fun q13 h11 => tx_ q13 h11))
        (fun q10 h8 => tx_ q10 h8))
      (fun q7 h5 => tx_ q7 h5))
    (fun q3 h1 => tx_ q3 h1) := by
  unfold c_510_14
  exact
    have D : fk_D 510 [(14, some [0, 1, 3], .iconst 1, 1, 0, 1, 0), (15, none, .aload_n 0, 1, 0, 0, 0), (16, none, .getfield 507, 3, 396, 129, 10), (19, none, .invokevirtual 557, 3, 3, 348, 0), (22, none, .aload_n 0, 1, 0, 0, 0), (23, none, .aload_n 0, 1, 0, 0, 0), (24, none, .getfield 550, 3, 399, 129, 11), (27, none, .lload_n 1, 1, 0, 0, 0), (28, none, .lload_n 3, 1, 0, 0, 0), (29, none, .invokestatic 434, 3, 3, 508, 1), (32, none, .iconst 3, 1, 0, 3, 0), (33, none, .aload_n 0, 1, 0, 0, 0), (34, none, .getfield 507, 3, 396, 129, 10), (37, none, .invokevirtual 557, 3, 3, 348, 0), (40, none, .aload_n 0, 1, 0, 0, 0), (41, none, .getfield 550, 3, 399, 129, 11), (44, none, .lstore 5, 2, 0, 0, 0), (46, none, .aload_n 0, 1, 0, 0, 0), (47, none, .invokevirtual 567, 3, 0, 351, 0), (50, none, .lload 5, 2, 0, 0, 0)] := fq_of2 cd_510 ow_510 cl_510 rfl (pc := 14) (by decide +kernel)
    j_ic (pc := 14) D rfl fun D =>
    j_aldn (pc := 15) D rfl rfl rfl fun D =>
    j_gf (pc := 16) (a := 602) D rfl rfl (by decide) rfl (s0_602 H) rfl fun D =>
    j_ivuv (pc := 19) (dd := 348) (a := [(0, s1), (0, 1), (0, h 396 602 0)]) (rest := []) H.2.1 D rfl rfl rfl rfl rfl (fun m4 h1 e1 D =>
      have T := fj_run_ok _ _ _ _ _ _ H.1 e1
      have H := shp_st H T
      j_aldn (pc := 22) D rfl rfl rfl fun D =>
      j_aldn (pc := 23) D rfl rfl rfl fun D =>
      j_gf (pc := 24) (a := 602) D rfl rfl (by decide) rfl (s0_602 H) rfl fun D =>
      j_lldn (pc := 27) D rfl rfl rfl fun D =>
      j_lldn (pc := 28) D rfl rfl rfl fun D =>
      j_is (pc := 29) (m := 508) (a := [(1, h1 399 602 0), (1, x1), (1, x3)]) (rest := [(4, 602)]) D rfl rfl rfl rfl (fun v6 h5 e1 D =>
        have T := fj_run_ok _ _ _ _ _ _ H.1 e1
        have H := shp_st H T
        j_ic (pc := 32) D rfl fun D =>
        j_aldn (pc := 33) D rfl rfl rfl fun D =>
        j_gf (pc := 34) (a := 602) D rfl rfl (by decide) rfl (s0_602 H) rfl fun D =>
        j_ivv (pc := 37) (m := 500) (dd := 348) (a := [(0, v6), (0, 3), (0, h5 396 602 0)]) (rest := []) D rfl rfl rfl rfl rfl (by decide) (s0_602 H) (by decide +kernel) (fun h8 e1 D =>
          have T := fj_run_ok _ _ _ _ _ _ H.1 e1
          have H := shp_st H T
          j_aldn (pc := 40) D rfl rfl rfl fun D =>
          j_gf (pc := 41) (a := 602) D rfl rfl (by decide) rfl (s0_602 H) rfl fun D =>
          j_lst (pc := 44) (L' := [(5, (1, h8 399 602 0)), (0, (4, 602)), (1, (1, x1)), (3, (1, x3))]) D rfl nl_510 rfl rfl fun D =>
          j_aldn (pc := 46) D rfl rfl rfl fun D =>
          j_ivv (pc := 47) (m := 502) (dd := 351) (a := []) (rest := []) D rfl rfl rfl rfl rfl (by decide) (s0_602 H) (by decide +kernel) (fun h11 e1 D =>
            have T := fj_run_ok _ _ _ _ _ _ H.1 e1
            have H := shp_st H T
            j_lld (pc := 50) D rfl rfl rfl fun D =>
            have D : fk_D 510 [(52, none, .lreturn, 1, 0, 0, 0)] := fq_of2 cd_510 ow_510 cl_510 rfl (pc := 52) (by decide +kernel)
            j_lret D rt_510) (fun q13 h11 e1 =>
            j_tx (hx_510 _))) (fun q10 h8 e1 =>
          j_tx (hx_510 _))) (fun q7 h5 e1 =>
        j_tx (hx_510 _))) (fun m4 q3 h1 e1 =>
      j_tx (hx_510 _))
theorem m_510 (d : Nat) (x1 x3 : Int) {h : fi_H} (H : Shp h) : fj_run (d + 1) 510 h [(4, 602), (1, x1), (1, x3)] =
  if h 394 602 0 = 3 then
    c_510_14 d x1 x3 602 1 h
  else
    c_510_14 d x1 x3 602 0 h := by
  rw [fj_run_eq d (by decide) h [(4, 602), (1, x1), (1, x3)] (Nat.le_of_ble_eq_true (by rw [nl_510]; rfl))]
  show gG (fj_run d) 510 0 [(0, (4, 602)), (1, (1, x1)), (3, (1, x3))] [] h = _
  exact
    have D : fk_D 510 [(0, none, .aload_n 0, 1, 0, 0, 0), (1, none, .aload_n 0, 1, 0, 0, 0), (2, none, .getfield 513, 3, 394, 129, 10), (5, none, .iconst 3, 1, 0, 3, 0), (6, none, .if_icmp .ne 7, 3, 13, 0, 0), (9, none, .iconst 1, 1, 0, 1, 0), (10, none, .goto 4, 3, 14, 0, 0)] := fq_of2 cd_510 ow_510 cl_510 rfl (pc := 0) (by decide +kernel)
    j_aldn (pc := 0) D rfl rfl rfl fun D =>
    j_aldn (pc := 1) D rfl rfl rfl fun D =>
    j_gf (pc := 2) (a := 602) D rfl rfl (by decide) rfl (s0_602 H) rfl fun D =>
    j_ic (pc := 5) D rfl fun D =>
    j_ine (pc := 6) D rfl (fun q D =>
      j_ic (pc := 9) D rfl fun D =>
      j_goto (pc := 10) D rfl <|
      fk_jump cut_510_14 rfl rfl) (fun q =>
      have D : fk_D 510 [(13, none, .iconst 0, 1, 0, 0, 0)] := fq_of2 cd_510 ow_510 cl_510 rfl (pc := 13) (by decide +kernel)
      j_ic (pc := 13) D rfl fun D =>
      fk_jump cut_510_14 rfl rfl)
/-! 511 StatuteHouseModel.takes(I)Z -/
theorem cd_511 : fi_code 511 = prog_69_method_34_code := rfl
theorem hx_511 : ∀ pc, fi_hat 511 pc = none := fun pc => by unfold fi_hat; rw [show fi_hh 511 = [] from rfl]; rfl
theorem rt_511 : fi_ret 511 = some .boolean := rfl
theorem nl_511 : fi_nl 511 = 3 := rfl
theorem ow_511 : fi_ow 511 = 29 := rfl
theorem cl_511 : fj_cutT.getD 511 [] = [] := rfl
theorem m_511 (d : Nat) (x1 : Int) {h : fi_H} (H : Shp h) : fj_run (d + 1) 511 h [(4, 602), (0, x1)] =
  ca_ (fj_run d 499 h [(4, 602), (0, x1)]) 0
    (fun v2 h1 =>
    if v2 = 0 then
      if v2 = 0 ∨ v2 = 1 then some (.inl (some (0, v2)), h1) else none
    else
      cv_ (fj_run d 502 h1 [(4, 602)])
        (fun h4 =>
        if v2 = 0 ∨ v2 = 1 then some (.inl (some (0, v2)), h4) else none)
        (fun q6 h4 => tx_ q6 h4))
    (fun q3 h1 => tx_ q3 h1) := by
  rw [fj_run_eq d (by decide) h [(4, 602), (0, x1)] (Nat.le_of_ble_eq_true (by rw [nl_511]; rfl))]
  show gG (fj_run d) 511 0 [(0, (4, 602)), (1, (0, x1))] [] h = _
  exact
    have D : fk_D 511 [(0, none, .aload_n 0, 1, 0, 0, 0), (1, none, .iload_n 1, 1, 0, 0, 0), (2, none, .invokevirtual 570, 3, 1, 352, 1), (5, none, .istore_n 2, 1, 0, 0, 0), (6, none, .iload_n 2, 1, 0, 0, 0), (7, none, .ifCond .eq 7, 3, 14, 0, 0), (10, none, .aload_n 0, 1, 0, 0, 0), (11, none, .invokevirtual 567, 3, 0, 351, 0), (14, none, .iload_n 2, 1, 0, 0, 0), (15, none, .ireturn, 1, 0, 0, 0)] := fq_of2 cd_511 ow_511 cl_511 rfl (pc := 0) (by decide +kernel)
    j_aldn (pc := 0) D rfl rfl rfl fun D =>
    j_ildn (pc := 1) D rfl rfl rfl fun D =>
    j_iv (pc := 2) (m := 499) (dd := 352) (a := [(0, x1)]) (rest := []) D rfl rfl rfl rfl rfl (by decide) (s0_602 H) (by decide +kernel) (fun v2 h1 e1 D =>
      have T := fj_run_ok _ _ _ _ _ _ H.1 e1
      have H := shp_st H T
      j_istn (pc := 5) (L' := [(2, (0, v2)), (0, (4, 602)), (1, (0, x1))]) D rfl nl_511 rfl rfl fun D =>
      j_ildn (pc := 6) D rfl rfl rfl fun D =>
      j_ifeq (pc := 7) D rfl (fun q =>
        have D : fk_D 511 [(14, none, .iload_n 2, 1, 0, 0, 0), (15, none, .ireturn, 1, 0, 0, 0)] := fq_of2 cd_511 ow_511 cl_511 rfl (pc := 14) (by decide +kernel)
        j_ildn (pc := 14) D rfl rfl rfl fun D =>
        j_zret D rt_511 gn) (fun q D =>
        j_aldn (pc := 10) D rfl rfl rfl fun D =>
        j_ivv (pc := 11) (m := 502) (dd := 351) (a := []) (rest := []) D rfl rfl rfl rfl rfl (by decide) (s0_602 H) (by decide +kernel) (fun h4 e1 D =>
          have T := fj_run_ok _ _ _ _ _ _ H.1 e1
          have H := shp_st H T
          j_ildn (pc := 14) D rfl rfl rfl fun D =>
          j_zret D rt_511 gn) (fun q6 h4 e1 =>
          j_tx (hx_511 _)))) (fun q3 h1 e1 =>
      j_tx (hx_511 _))
/-! 512 StatuteHouseModel.constant()V -/
theorem cd_512 : fi_code 512 = prog_69_method_42_code := rfl
theorem hx_512 : ∀ pc, fi_hat 512 pc = none := fun pc => by unfold fi_hat; rw [show fi_hh 512 = [] from rfl]; rfl
theorem rt_512 : fi_ret 512 = none := rfl
theorem nl_512 : fi_nl 512 = 2 := rfl
theorem ow_512 : fi_ow 512 = 29 := rfl
theorem cl_512 : fj_cutT.getD 512 [] = [(15, [0, 1]), (94, [0, 1]), (98, [0, 1]), (99, [0, 1]), (121, [0, 1]), (163, [0, 1]), (170, [0, 1]), (204, [])] := rfl
theorem cut_512_15 : fj_cut 512 15 = some [0, 1] := by decide +kernel
noncomputable def c_512_15 (d : Nat) (x1 : Int) (h : fi_H) : fk_R := gG (fj_run d) 512 15 [(0, (4, 602)), (1, (0, x1))] [] h
theorem cut_512_94 : fj_cut 512 94 = some [0, 1] := by decide +kernel
noncomputable def c_512_94 (d : Nat) (x1 s0 : Int) (h : fi_H) : fk_R := gG (fj_run d) 512 94 [(0, (4, 602)), (1, (0, x1))] [(4, s0)] h
theorem cut_512_98 : fj_cut 512 98 = some [0, 1] := by decide +kernel
noncomputable def c_512_98 (d : Nat) (x1 s0 : Int) (h : fi_H) : fk_R := gG (fj_run d) 512 98 [(0, (4, 602)), (1, (0, x1))] [(4, s0)] h
theorem cut_512_99 : fj_cut 512 99 = some [0, 1] := by decide +kernel
noncomputable def c_512_99 (d : Nat) (x1 s0 s1 : Int) (h : fi_H) : fk_R := gG (fj_run d) 512 99 [(0, (4, 602)), (1, (0, x1))] [(0, s1), (4, s0)] h
theorem cut_512_121 : fj_cut 512 121 = some [0, 1] := by decide +kernel
noncomputable def c_512_121 (d : Nat) (x1 s0 s1 : Int) (h : fi_H) : fk_R := gG (fj_run d) 512 121 [(0, (4, 602)), (1, (0, x1))] [(0, s1), (4, s0)] h
theorem cut_512_163 : fj_cut 512 163 = some [0, 1] := by decide +kernel
noncomputable def c_512_163 (d : Nat) (x1 s0 s1 : Int) (h : fi_H) : fk_R := gG (fj_run d) 512 163 [(0, (4, 602)), (1, (0, x1))] [(1, s1), (4, s0)] h
theorem cut_512_170 : fj_cut 512 170 = some [0, 1] := by decide +kernel
noncomputable def c_512_170 (d : Nat) (x1 : Int) (h : fi_H) : fk_R := gG (fj_run d) 512 170 [(0, (4, 602)), (1, (0, x1))] [] h
theorem cut_512_204 : fj_cut 512 204 = some [] := by decide +kernel
noncomputable def c_512_204 (d : Nat) (s0 s1 : Int) (h : fi_H) : fk_R := gG (fj_run d) 512 204 [] [(1, s1), (4, s0)] h
theorem e_512_15 (d : Nat) (x1 : Int) {h : fi_H} (H : Shp h) : c_512_15 d x1 h =
  if h 394 602 0 = 3 then
    cv_ (fj_run d 513 h [(4, 602)])
      (fun h1 =>
      c_512_170 d x1 h1)
      (fun q3 h1 => tx_ q3 h1)
  else
    if h 394 602 0 = 4 then
      lt_ (fi_upd h 414 602 0 2) fun h4 =>
      lt_ (fi_upd h4 415 602 0 (h4 399 602 0)) fun h5 =>
      lt_ (fi_upd h5 416 602 0 0) fun h6 =>
      cv_ (fj_run d 502 h6 [(4, 602)])
        (fun h7 =>
        c_512_170 d x1 h7)
        (fun q9 h7 => tx_ q9 h7)
    else
      if x1 = 0 then
        if h 394 602 0 = 5 then
          c_512_94 d x1 602 h
        else
          ca_ (fj_run d 499 h [(4, 602), (0, 18)]) 0
            (fun v11 h10 =>
            if v11 = 0 then
              ca_ (fj_run d 499 h10 [(4, 602), (0, 19)]) 0
                (fun v14 h13 =>
                if v14 = 0 then
                  c_512_98 d x1 602 h13
                else
                  c_512_94 d x1 602 h13)
                (fun q15 h13 => tx_ q15 h13)
            else
              c_512_94 d x1 602 h10)
            (fun q12 h10 => tx_ q12 h10)
      else
        c_512_98 d x1 602 h := by
  unfold c_512_15
  exact
    have D : fk_D 512 [(15, some [0, 1], .aload_n 0, 1, 0, 0, 0), (16, none, .getfield 513, 3, 394, 129, 10), (19, none, .iconst 3, 1, 0, 3, 0), (20, none, .if_icmp .ne 10, 3, 30, 0, 0), (23, none, .aload_n 0, 1, 0, 0, 0), (24, none, .invokevirtual 614, 3, 0, 353, 0), (27, none, .goto 143, 3, 170, 0, 0)] := fq_of2 cd_512 ow_512 cl_512 rfl (pc := 15) (by decide +kernel)
    j_aldn (pc := 15) D rfl rfl rfl fun D =>
    j_gf (pc := 16) (a := 602) D rfl rfl (by decide) rfl (s0_602 H) rfl fun D =>
    j_ic (pc := 19) D rfl fun D =>
    j_ine (pc := 20) D rfl (fun q D =>
      j_aldn (pc := 23) D rfl rfl rfl fun D =>
      j_ivv (pc := 24) (m := 513) (dd := 353) (a := []) (rest := []) D rfl rfl rfl rfl rfl (by decide) (s0_602 H) (by decide +kernel) (fun h1 e1 D =>
        have T := fj_run_ok _ _ _ _ _ _ H.1 e1
        have H := shp_st H T
        j_goto (pc := 27) D rfl <|
        fk_jump cut_512_170 rfl rfl) (fun q3 h1 e1 =>
        j_tx (hx_512 _))) (fun q =>
      have D : fk_D 512 [(30, none, .aload_n 0, 1, 0, 0, 0), (31, none, .getfield 513, 3, 394, 129, 10), (34, none, .iconst 4, 1, 0, 4, 0), (35, none, .if_icmp .ne 28, 3, 63, 0, 0), (38, none, .aload_n 0, 1, 0, 0, 0), (39, none, .iconst 2, 1, 0, 2, 0), (40, none, .putfield 592, 3, 414, 129, 10), (43, none, .aload_n 0, 1, 0, 0, 0), (44, none, .aload_n 0, 1, 0, 0, 0), (45, none, .getfield 550, 3, 399, 129, 11), (48, none, .putfield 595, 3, 415, 129, 11), (51, none, .aload_n 0, 1, 0, 0, 0), (52, none, .lconst 0, 1, 0, 0, 0), (53, none, .putfield 598, 3, 416, 129, 11), (56, none, .aload_n 0, 1, 0, 0, 0), (57, none, .invokevirtual 567, 3, 0, 351, 0), (60, none, .goto 110, 3, 170, 0, 0)] := fq_of2 cd_512 ow_512 cl_512 rfl (pc := 30) (by decide +kernel)
      j_aldn (pc := 30) D rfl rfl rfl fun D =>
      j_gf (pc := 31) (a := 602) D rfl rfl (by decide) rfl (s0_602 H) rfl fun D =>
      j_ic (pc := 34) D rfl fun D =>
      j_ine (pc := 35) D rfl (fun q D =>
        j_aldn (pc := 38) D rfl rfl rfl fun D =>
        j_ic (pc := 39) D rfl fun D =>
        j_pf (pc := 40) (a := 602) D rfl rfl rfl (s0_602 H) rfl rfl (gy (by decide)) (gy rfl) fun h4 eh4 S D =>
        have T := fj_hs_ok H.1 S
        have H := shp_st H T
        j_aldn (pc := 43) D rfl rfl rfl fun D =>
        j_aldn (pc := 44) D rfl rfl rfl fun D =>
        j_gf (pc := 45) (a := 602) D rfl rfl (by decide) rfl (s0_602 H) rfl fun D =>
        j_pf (pc := 48) (a := 602) D rfl rfl rfl (s0_602 H) rfl rfl (gy (by decide)) (gy rfl) fun h5 eh5 S D =>
        have T := fj_hs_ok H.1 S
        have H := shp_st H T
        j_aldn (pc := 51) D rfl rfl rfl fun D =>
        j_c0 (pc := 52) (v := (1, 0)) D rfl rfl (by decide +kernel) fun D =>
        j_pf (pc := 53) (a := 602) D rfl rfl rfl (s0_602 H) rfl rfl (gy (by decide)) (gy rfl) fun h6 eh6 S D =>
        have T := fj_hs_ok H.1 S
        have H := shp_st H T
        j_aldn (pc := 56) D rfl rfl rfl fun D =>
        j_ivv (pc := 57) (m := 502) (dd := 351) (a := []) (rest := []) D rfl rfl rfl rfl rfl (by decide) (s0_602 H) (by decide +kernel) (fun h7 e1 D =>
          have T := fj_run_ok _ _ _ _ _ _ H.1 e1
          have H := shp_st H T
          j_goto (pc := 60) D rfl <|
          fk_jump cut_512_170 rfl rfl) (fun q9 h7 e1 =>
          j_tx (hx_512 _))) (fun q =>
        have D : fk_D 512 [(63, none, .aload_n 0, 1, 0, 0, 0), (64, none, .iload_n 1, 1, 0, 0, 0), (65, none, .ifCond .ne 33, 3, 98, 0, 0), (68, none, .aload_n 0, 1, 0, 0, 0), (69, none, .getfield 513, 3, 394, 129, 10), (72, none, .iconst 5, 1, 0, 5, 0), (73, none, .if_icmp .eq 21, 3, 94, 0, 0), (76, none, .aload_n 0, 1, 0, 0, 0), (77, none, .bipush 18, 2, 0, 18, 0), (79, none, .invokevirtual 570, 3, 1, 352, 1), (82, none, .ifCond .ne 12, 3, 94, 0, 0), (85, none, .aload_n 0, 1, 0, 0, 0), (86, none, .bipush 19, 2, 0, 19, 0), (88, none, .invokevirtual 570, 3, 1, 352, 1), (91, none, .ifCond .eq 7, 3, 98, 0, 0)] := fq_of2 cd_512 ow_512 cl_512 rfl (pc := 63) (by decide +kernel)
        j_aldn (pc := 63) D rfl rfl rfl fun D =>
        j_ildn (pc := 64) D rfl rfl rfl fun D =>
        j_ifne (pc := 65) D rfl (fun q D =>
          j_aldn (pc := 68) D rfl rfl rfl fun D =>
          j_gf (pc := 69) (a := 602) D rfl rfl (by decide) rfl (s0_602 H) rfl fun D =>
          j_ic (pc := 72) D rfl fun D =>
          j_ieq (pc := 73) D rfl (fun q =>
            fk_jump cut_512_94 rfl rfl) (fun q D =>
            j_aldn (pc := 76) D rfl rfl rfl fun D =>
            j_bp (pc := 77) D rfl fun D =>
            j_iv (pc := 79) (m := 499) (dd := 352) (a := [(0, 18)]) (rest := [(4, 602)]) D rfl rfl rfl rfl rfl (by decide) (s0_602 H) (by decide +kernel) (fun v11 h10 e1 D =>
              have T := fj_run_ok _ _ _ _ _ _ H.1 e1
              have H := shp_st H T
              j_ifne (pc := 82) D rfl (fun q D =>
                j_aldn (pc := 85) D rfl rfl rfl fun D =>
                j_bp (pc := 86) D rfl fun D =>
                j_iv (pc := 88) (m := 499) (dd := 352) (a := [(0, 19)]) (rest := [(4, 602)]) D rfl rfl rfl rfl rfl (by decide) (s0_602 H) (by decide +kernel) (fun v14 h13 e1 D =>
                  have T := fj_run_ok _ _ _ _ _ _ H.1 e1
                  have H := shp_st H T
                  j_ifeq (pc := 91) D rfl (fun q =>
                    fk_jump cut_512_98 rfl rfl) (fun q D =>
                    fk_jump cut_512_94 rfl rfl)) (fun q15 h13 e1 =>
                  j_tx (hx_512 _))) (fun q =>
                fk_jump cut_512_94 rfl rfl)) (fun q12 h10 e1 =>
              j_tx (hx_512 _)))) (fun q =>
          fk_jump cut_512_98 rfl rfl)))
theorem e_512_94 (d : Nat) (x1 s0 : Int) {h : fi_H} (H : Shp h) : c_512_94 d x1 s0 h =
  c_512_99 d x1 s0 1 h := by
  unfold c_512_94
  exact
    have D : fk_D 512 [(94, some [0, 1], .iconst 1, 1, 0, 1, 0), (95, none, .goto 4, 3, 99, 0, 0)] := fq_of2 cd_512 ow_512 cl_512 rfl (pc := 94) (by decide +kernel)
    j_ic (pc := 94) D rfl fun D =>
    j_goto (pc := 95) D rfl <|
    fk_jump cut_512_99 rfl rfl
theorem e_512_98 (d : Nat) (x1 s0 : Int) {h : fi_H} (H : Shp h) : c_512_98 d x1 s0 h =
  c_512_99 d x1 s0 0 h := by
  unfold c_512_98
  exact
    have D : fk_D 512 [(98, some [0, 1], .iconst 0, 1, 0, 0, 0)] := fq_of2 cd_512 ow_512 cl_512 rfl (pc := 98) (by decide +kernel)
    j_ic (pc := 98) D rfl fun D =>
    fk_jump cut_512_99 rfl rfl
theorem e_512_99 (d : Nat) (x1 s0 s1 : Int) {h : fi_H} (H : Shp h) : c_512_99 d x1 s0 s1 h =
  dv_ (fi_vt 348 (h 0 s0.toNat 0)) fun m4 => cv_ (fj_run d m4 h [(4, s0), (0, s1), (0, 1), (0, h 396 602 0)])
    (fun h1 =>
    if h1 394 602 0 = 5 then
      c_512_121 d x1 602 4 h1
    else
      c_512_121 d x1 602 0 h1)
    (fun q3 h1 => tx_ q3 h1) := by
  unfold c_512_99
  exact
    have D : fk_D 512 [(99, some [0, 1], .iconst 1, 1, 0, 1, 0), (100, none, .aload_n 0, 1, 0, 0, 0), (101, none, .getfield 507, 3, 396, 129, 10), (104, none, .invokevirtual 557, 3, 3, 348, 0), (107, none, .aload_n 0, 1, 0, 0, 0), (108, none, .aload_n 0, 1, 0, 0, 0), (109, none, .getfield 513, 3, 394, 129, 10), (112, none, .iconst 5, 1, 0, 5, 0), (113, none, .if_icmp .ne 7, 3, 120, 0, 0), (116, none, .iconst 4, 1, 0, 4, 0), (117, none, .goto 4, 3, 121, 0, 0)] := fq_of2 cd_512 ow_512 cl_512 rfl (pc := 99) (by decide +kernel)
    j_ic (pc := 99) D rfl fun D =>
    j_aldn (pc := 100) D rfl rfl rfl fun D =>
    j_gf (pc := 101) (a := 602) D rfl rfl (by decide) rfl (s0_602 H) rfl fun D =>
    j_ivuv (pc := 104) (dd := 348) (a := [(0, s1), (0, 1), (0, h 396 602 0)]) (rest := []) H.2.1 D rfl rfl rfl rfl rfl (fun m4 h1 e1 D =>
      have T := fj_run_ok _ _ _ _ _ _ H.1 e1
      have H := shp_st H T
      j_aldn (pc := 107) D rfl rfl rfl fun D =>
      j_aldn (pc := 108) D rfl rfl rfl fun D =>
      j_gf (pc := 109) (a := 602) D rfl rfl (by decide) rfl (s0_602 H) rfl fun D =>
      j_ic (pc := 112) D rfl fun D =>
      j_ine (pc := 113) D rfl (fun q D =>
        j_ic (pc := 116) D rfl fun D =>
        j_goto (pc := 117) D rfl <|
        fk_jump cut_512_121 rfl rfl) (fun q =>
        have D : fk_D 512 [(120, none, .iconst 0, 1, 0, 0, 0)] := fq_of2 cd_512 ow_512 cl_512 rfl (pc := 120) (by decide +kernel)
        j_ic (pc := 120) D rfl fun D =>
        fk_jump cut_512_121 rfl rfl)) (fun m4 q3 h1 e1 =>
      j_tx (hx_512 _))
theorem e_512_121 (d : Nat) (x1 s0 s1 : Int) {h : fi_H} (H : Shp h) : c_512_121 d x1 s0 s1 h =
  if h 0 s0.toNat 0 = 129 then
  if 302 < s0 then
  lt_ (fi_upd h 414 s0.toNat 0 s1) fun h1 =>
  lt_ (fi_upd h1 416 602 0 0) fun h3 =>
  if h3 394 602 0 = 5 then
    ca_ (fj_run d 515 h3 [(4, 602)]) 1
      (fun v5 h4 =>
      lt_ (fi_upd h4 415 602 0 v5) fun h7 =>
      c_512_170 d x1 h7)
      (fun q6 h4 => tx_ q6 h4)
  else
    ca_ (fj_run d 499 h3 [(4, 602), (0, 18)]) 0
      (fun v9 h8 =>
      if v9 = 0 then
        c_512_163 d x1 602 0 h8
      else
        c_512_163 d x1 602 1 h8)
      (fun q10 h8 => tx_ q10 h8)
  else none
  else none := by
  unfold c_512_121
  exact
    have D : fk_D 512 [(121, some [0, 1], .putfield 592, 3, 414, (-129), 10), (124, none, .aload_n 0, 1, 0, 0, 0), (125, none, .lconst 0, 1, 0, 0, 0), (126, none, .putfield 598, 3, 416, 129, 11), (129, none, .aload_n 0, 1, 0, 0, 0), (130, none, .getfield 513, 3, 394, 129, 10), (133, none, .iconst 5, 1, 0, 5, 0), (134, none, .if_icmp .ne 14, 3, 148, 0, 0), (137, none, .aload_n 0, 1, 0, 0, 0), (138, none, .aload_n 0, 1, 0, 0, 0), (139, none, .invokevirtual 617, 3, 0, 354, 2), (142, none, .putfield 595, 3, 415, 129, 11), (145, none, .goto 25, 3, 170, 0, 0)] := fq_of2 cd_512 ow_512 cl_512 rfl (pc := 121) (by decide +kernel)
    j_pfo (pc := 121) D rfl rfl rfl rfl rfl gn gn (gy rfl) fun h1 eh1 S kc2 D =>
    have T := fj_hs_ok H.1 S
    have H := shp_st H T
    j_aldn (pc := 124) D rfl rfl rfl fun D =>
    j_c0 (pc := 125) (v := (1, 0)) D rfl rfl (by decide +kernel) fun D =>
    j_pf (pc := 126) (a := 602) D rfl rfl rfl (s0_602 H) rfl rfl (gy (by decide)) (gy rfl) fun h3 eh3 S D =>
    have T := fj_hs_ok H.1 S
    have H := shp_st H T
    j_aldn (pc := 129) D rfl rfl rfl fun D =>
    j_gf (pc := 130) (a := 602) D rfl rfl (by decide) rfl (s0_602 H) rfl fun D =>
    j_ic (pc := 133) D rfl fun D =>
    j_ine (pc := 134) D rfl (fun q D =>
      j_aldn (pc := 137) D rfl rfl rfl fun D =>
      j_aldn (pc := 138) D rfl rfl rfl fun D =>
      j_iv (pc := 139) (m := 515) (dd := 354) (a := []) (rest := [(4, 602)]) D rfl rfl rfl rfl rfl (by decide) (s0_602 H) (by decide +kernel) (fun v5 h4 e1 D =>
        have T := fj_run_ok _ _ _ _ _ _ H.1 e1
        have H := shp_st H T
        j_pf (pc := 142) (a := 602) D rfl rfl rfl (s0_602 H) rfl rfl (gy (by decide)) (gy rfl) fun h7 eh7 S D =>
        have T := fj_hs_ok H.1 S
        have H := shp_st H T
        j_goto (pc := 145) D rfl <|
        fk_jump cut_512_170 rfl rfl) (fun q6 h4 e1 =>
        j_tx (hx_512 _))) (fun q =>
      have D : fk_D 512 [(148, none, .aload_n 0, 1, 0, 0, 0), (149, none, .aload_n 0, 1, 0, 0, 0), (150, none, .bipush 18, 2, 0, 18, 0), (152, none, .invokevirtual 570, 3, 1, 352, 1), (155, none, .ifCond .eq 7, 3, 162, 0, 0), (158, none, .lconst 1, 1, 0, 0, 0), (159, none, .goto 4, 3, 163, 0, 0)] := fq_of2 cd_512 ow_512 cl_512 rfl (pc := 148) (by decide +kernel)
      j_aldn (pc := 148) D rfl rfl rfl fun D =>
      j_aldn (pc := 149) D rfl rfl rfl fun D =>
      j_bp (pc := 150) D rfl fun D =>
      j_iv (pc := 152) (m := 499) (dd := 352) (a := [(0, 18)]) (rest := [(4, 602)]) D rfl rfl rfl rfl rfl (by decide) (s0_602 H) (by decide +kernel) (fun v9 h8 e1 D =>
        have T := fj_run_ok _ _ _ _ _ _ H.1 e1
        have H := shp_st H T
        j_ifeq (pc := 155) D rfl (fun q =>
          have D : fk_D 512 [(162, none, .lconst 0, 1, 0, 0, 0)] := fq_of2 cd_512 ow_512 cl_512 rfl (pc := 162) (by decide +kernel)
          j_c0 (pc := 162) (v := (1, 0)) D rfl rfl (by decide +kernel) fun D =>
          fk_jump cut_512_163 rfl rfl) (fun q D =>
          j_c0 (pc := 158) (v := (1, 1)) D rfl rfl (by decide +kernel) fun D =>
          j_goto (pc := 159) D rfl <|
          fk_jump cut_512_163 rfl rfl)) (fun q10 h8 e1 =>
        j_tx (hx_512 _)))
theorem e_512_163 (d : Nat) (x1 s0 s1 : Int) {h : fi_H} (H : Shp h) : c_512_163 d x1 s0 s1 h =
  if h 0 s0.toNat 0 = 129 then
  if 302 < s0 then
  lt_ (fi_upd h 415 s0.toNat 0 s1) fun h1 =>
  cv_ (fj_run d 502 h1 [(4, 602)])
    (fun h3 =>
    c_512_170 d x1 h3)
    (fun q5 h3 => tx_ q5 h3)
  else none
  else none := by
  unfold c_512_163
  exact
    have D : fk_D 512 [(163, some [0, 1], .putfield 595, 3, 415, (-129), 11), (166, none, .aload_n 0, 1, 0, 0, 0), (167, none, .invokevirtual 567, 3, 0, 351, 0)] := fq_of2 cd_512 ow_512 cl_512 rfl (pc := 163) (by decide +kernel)
    j_pfo (pc := 163) D rfl rfl rfl rfl rfl gn gn (gy rfl) fun h1 eh1 S kc2 D =>
    have T := fj_hs_ok H.1 S
    have H := shp_st H T
    j_aldn (pc := 166) D rfl rfl rfl fun D =>
    j_ivv (pc := 167) (m := 502) (dd := 351) (a := []) (rest := []) D rfl rfl rfl rfl rfl (by decide) (s0_602 H) (by decide +kernel) (fun h3 e1 D =>
      have T := fj_run_ok _ _ _ _ _ _ H.1 e1
      have H := shp_st H T
      fk_jump cut_512_170 rfl rfl) (fun q5 h3 e1 =>
      j_tx (hx_512 _))
theorem e_512_170 (d : Nat) (x1 : Int) {h : fi_H} (H : Shp h) : c_512_170 d x1 h =
  if x1 = 0 then
    some (.inl none, h)
  else
    lt_ (fi_upd h 415 602 0 (wJ (-(h 415 602 0)))) fun h1 =>
    if h1 414 602 0 = 5 then
      c_512_204 d 602 (wJ (-(h1 416 602 0))) h1
    else
      c_512_204 d 602 (h1 416 602 0) h1 := by
  unfold c_512_170
  exact
    have D : fk_D 512 [(170, some [0, 1], .iload_n 1, 1, 0, 0, 0), (171, none, .ifCond .eq 36, 3, 207, 0, 0), (174, none, .aload_n 0, 1, 0, 0, 0), (175, none, .aload_n 0, 1, 0, 0, 0), (176, none, .getfield 595, 3, 415, 129, 11), (179, none, .lneg, 1, 0, 0, 0), (180, none, .putfield 595, 3, 415, 129, 11), (183, none, .aload_n 0, 1, 0, 0, 0), (184, none, .aload_n 0, 1, 0, 0, 0), (185, none, .getfield 592, 3, 414, 129, 10), (188, none, .iconst 5, 1, 0, 5, 0), (189, none, .if_icmp .ne 11, 3, 200, 0, 0), (192, none, .aload_n 0, 1, 0, 0, 0), (193, none, .getfield 598, 3, 416, 129, 11), (196, none, .lneg, 1, 0, 0, 0), (197, none, .goto 7, 3, 204, 0, 0)] := fq_of2 cd_512 ow_512 cl_512 rfl (pc := 170) (by decide +kernel)
    j_ildn (pc := 170) D rfl rfl rfl fun D =>
    j_ifeq (pc := 171) D rfl (fun q =>
      have D : fk_D 512 [(207, none, .return_, 1, 0, 0, 0)] := fq_of2 cd_512 ow_512 cl_512 rfl (pc := 207) (by decide +kernel)
      j_vret D rt_512) (fun q D =>
      j_aldn (pc := 174) D rfl rfl rfl fun D =>
      j_aldn (pc := 175) D rfl rfl rfl fun D =>
      j_gf (pc := 176) (a := 602) D rfl rfl (by decide) rfl (s0_602 H) rfl fun D =>
      j_lneg (pc := 179) D rfl fun D =>
      j_pf (pc := 180) (a := 602) D rfl rfl rfl (s0_602 H) rfl rfl (gy (by decide)) (gy rfl) fun h1 eh1 S D =>
      have T := fj_hs_ok H.1 S
      have H := shp_st H T
      j_aldn (pc := 183) D rfl rfl rfl fun D =>
      j_aldn (pc := 184) D rfl rfl rfl fun D =>
      j_gf (pc := 185) (a := 602) D rfl rfl (by decide) rfl (s0_602 H) rfl fun D =>
      j_ic (pc := 188) D rfl fun D =>
      j_ine (pc := 189) D rfl (fun q D =>
        j_aldn (pc := 192) D rfl rfl rfl fun D =>
        j_gf (pc := 193) (a := 602) D rfl rfl (by decide) rfl (s0_602 H) rfl fun D =>
        j_lneg (pc := 196) D rfl fun D =>
        j_goto (pc := 197) D rfl <|
        fk_jump cut_512_204 rfl rfl) (fun q =>
        have D : fk_D 512 [(200, none, .aload_n 0, 1, 0, 0, 0), (201, none, .getfield 598, 3, 416, 129, 11)] := fq_of2 cd_512 ow_512 cl_512 rfl (pc := 200) (by decide +kernel)
        j_aldn (pc := 200) D rfl rfl rfl fun D =>
        j_gf (pc := 201) (a := 602) D rfl rfl (by decide) rfl (s0_602 H) rfl fun D =>
        fk_jump cut_512_204 rfl rfl))
theorem e_512_204 (d : Nat) (s0 s1 : Int) {h : fi_H} (H : Shp h) : c_512_204 d s0 s1 h =
  if h 0 s0.toNat 0 = 129 then
  if 302 < s0 then
  lt_ (fi_upd h 416 s0.toNat 0 s1) fun h1 =>
  some (.inl none, h1)
  else none
  else none := by
  unfold c_512_204
  exact
    have D : fk_D 512 [(204, some [], .putfield 598, 3, 416, (-129), 11), (207, none, .return_, 1, 0, 0, 0)] := fq_of2 cd_512 ow_512 cl_512 rfl (pc := 204) (by decide +kernel)
    j_pfo (pc := 204) D rfl rfl rfl rfl rfl gn gn (gy rfl) fun h1 eh1 S kc2 D =>
    have T := fj_hs_ok H.1 S
    have H := shp_st H T
    j_vret D rt_512
theorem m_512 (d : Nat) {h : fi_H} (H : Shp h) : fj_run (d + 1) 512 h [(4, 602)] =
  ca_ (fj_run d 506 h [(4, 602), (0, 45)]) 0
    (fun v2 h1 =>
    if v2 = 0 then
      c_512_15 d v2 h1
    else
      cv_ (fj_run d 502 h1 [(4, 602)])
        (fun h4 =>
        c_512_15 d v2 h4)
        (fun q6 h4 => tx_ q6 h4))
    (fun q3 h1 => tx_ q3 h1) := by
  rw [fj_run_eq d (by decide) h [(4, 602)] (Nat.le_of_ble_eq_true (by rw [nl_512]; rfl))]
  show gG (fj_run d) 512 0 [(0, (4, 602))] [] h = _
  exact
    have D : fk_D 512 [(0, none, .aload_n 0, 1, 0, 0, 0), (1, none, .bipush 45, 2, 0, 45, 0), (3, none, .invokevirtual 564, 3, 1, 350, 1), (6, none, .istore_n 1, 1, 0, 0, 0), (7, none, .iload_n 1, 1, 0, 0, 0), (8, none, .ifCond .eq 7, 3, 15, 0, 0), (11, none, .aload_n 0, 1, 0, 0, 0), (12, none, .invokevirtual 567, 3, 0, 351, 0)] := fq_of2 cd_512 ow_512 cl_512 rfl (pc := 0) (by decide +kernel)
    j_aldn (pc := 0) D rfl rfl rfl fun D =>
    j_bp (pc := 1) D rfl fun D =>
    j_iv (pc := 3) (m := 506) (dd := 350) (a := [(0, 45)]) (rest := []) D rfl rfl rfl rfl rfl (by decide) (s0_602 H) (by decide +kernel) (fun v2 h1 e1 D =>
      have T := fj_run_ok _ _ _ _ _ _ H.1 e1
      have H := shp_st H T
      j_istn (pc := 6) (L' := [(1, (0, v2)), (0, (4, 602))]) D rfl nl_512 rfl rfl fun D =>
      j_ildn (pc := 7) D rfl rfl rfl fun D =>
      j_ifeq (pc := 8) D rfl (fun q =>
        fk_jump cut_512_15 rfl rfl) (fun q D =>
        j_aldn (pc := 11) D rfl rfl rfl fun D =>
        j_ivv (pc := 12) (m := 502) (dd := 351) (a := []) (rest := []) D rfl rfl rfl rfl rfl (by decide) (s0_602 H) (by decide +kernel) (fun h4 e1 D =>
          have T := fj_run_ok _ _ _ _ _ _ H.1 e1
          have H := shp_st H T
          fk_jump cut_512_15 rfl rfl) (fun q6 h4 e1 =>
          j_tx (hx_512 _)))) (fun q3 h1 e1 =>
      j_tx (hx_512 _))
/-! 513 StatuteHouseModel.numberHere()V -/
theorem cd_513 : fi_code 513 = prog_69_method_40_code := rfl
theorem hx_513 : ∀ pc, fi_hat 513 pc = none := fun pc => by unfold fi_hat; rw [show fi_hh 513 = [] from rfl]; rfl
theorem rt_513 : fi_ret 513 = none := rfl
theorem nl_513 : fi_nl 513 = 6 := rfl
theorem ow_513 : fi_ow 513 = 29 := rfl
theorem cl_513 : fj_cutT.getD 513 [] = [(52, [0, 1, 2]), (163, [0, 1, 2, 4]), (172, [0, 1, 2, 4]), (214, [0, 2, 4]), (230, [])] := rfl
theorem cut_513_52 : fj_cut 513 52 = some [0, 1, 2] := by decide +kernel
noncomputable def c_513_52 (d : Nat) (x1 x2 s0 s1 : Int) (h : fi_H) : fk_R := gG (fj_run d) 513 52 [(0, (4, 602)), (1, (0, x1)), (2, (1, x2))] [(0, s1), (4, s0)] h
theorem cut_513_163 : fj_cut 513 163 = some [0, 1, 2, 4] := by decide +kernel
noncomputable def c_513_163 (d : Nat) (x1 x2 x4 s0 s1 s2 : Int) (h : fi_H) : fk_R := gG (fj_run d) 513 163 [(0, (4, 602)), (1, (0, x1)), (2, (1, x2)), (4, (0, x4))] [(1, s2), (1, s1), (4, s0)] h
theorem cut_513_172 : fj_cut 513 172 = some [0, 1, 2, 4] := by decide +kernel
noncomputable def c_513_172 (d : Nat) (x1 x2 x4 s0 s1 : Int) (h : fi_H) : fk_R := gG (fj_run d) 513 172 [(0, (4, 602)), (1, (0, x1)), (2, (1, x2)), (4, (0, x4))] [(0, s1), (4, s0)] h
theorem cut_513_214 : fj_cut 513 214 = some [0, 2, 4] := by decide +kernel
noncomputable def c_513_214 (d : Nat) (x2 x4 s0 s1 : Int) (h : fi_H) : fk_R := gG (fj_run d) 513 214 [(0, (4, 602)), (2, (1, x2)), (4, (0, x4))] [(1, s1), (4, s0)] h
theorem cut_513_230 : fj_cut 513 230 = some [] := by decide +kernel
noncomputable def c_513_230 (d : Nat) (s0 s1 : Int) (h : fi_H) : fk_R := gG (fj_run d) 513 230 [] [(1, s1), (4, s0)] h
theorem e_513_52 (d : Nat) (x1 x2 s0 s1 : Int) {h : fi_H} (H : Shp h) : c_513_52 d x1 x2 s0 s1 h =
  dv_ (fi_vt 348 (h 0 s0.toNat 0)) fun m4 => cv_ (fj_run d m4 h [(4, s0), (0, s1), (0, 3), (0, x1)])
    (fun h1 =>
    cv_ (fj_run d 502 h1 [(4, 602)])
      (fun h5 =>
      lt_ (fi_upd h5 414 602 0 3) fun h8 =>
      lt_ (fi_upd h8 417 602 0 x2) fun h9 =>
      ca_ (fj_run d 514 h9 [(1, x2), (1, 100)]) 1
        (fun v11 h10 =>
        if v11 = 0 then none else
        lt_ (fi_upd h10 415 602 0 (lq_ x2 v11)) fun h13 =>
        if v11 = 0 then none else
        lt_ (fi_upd h13 416 602 0 (lq_ 100 v11)) fun h14 =>
        some (.inl none, h14))
        (fun q12 h10 => tx_ q12 h10))
      (fun q7 h5 => tx_ q7 h5))
    (fun q3 h1 => tx_ q3 h1) := by
  unfold c_513_52
  exact
    have D : fk_D 513 [(52, some [0, 1, 2], .iconst 3, 1, 0, 3, 0), (53, none, .iload_n 1, 1, 0, 0, 0), (54, none, .invokevirtual 557, 3, 3, 348, 0), (57, none, .aload_n 0, 1, 0, 0, 0), (58, none, .invokevirtual 567, 3, 0, 351, 0), (61, none, .aload_n 0, 1, 0, 0, 0), (62, none, .iconst 3, 1, 0, 3, 0), (63, none, .putfield 592, 3, 414, 129, 10), (66, none, .aload_n 0, 1, 0, 0, 0), (67, none, .lload_n 2, 1, 0, 0, 0), (68, none, .putfield 601, 3, 417, 129, 11), (71, none, .lload_n 2, 1, 0, 0, 0), (72, none, .ldc2_w 555, 3, 1, 100, 0), (75, none, .invokestatic 604, 3, 2, 514, 2), (78, none, .lstore 4, 2, 0, 0, 0), (80, none, .aload_n 0, 1, 0, 0, 0), (81, none, .lload_n 2, 1, 0, 0, 0), (82, none, .lload 4, 2, 0, 0, 0), (84, none, .ldiv, 1, 0, 0, 0), (85, none, .putfield 595, 3, 415, 129, 11)] := fq_of2 cd_513 ow_513 cl_513 rfl (pc := 52) (by decide +kernel)
    j_ic (pc := 52) D rfl fun D =>
    j_ildn (pc := 53) D rfl rfl rfl fun D =>
    j_ivuv (pc := 54) (dd := 348) (a := [(0, s1), (0, 3), (0, x1)]) (rest := []) H.2.1 D rfl rfl rfl rfl rfl (fun m4 h1 e1 D =>
      have T := fj_run_ok _ _ _ _ _ _ H.1 e1
      have H := shp_st H T
      j_aldn (pc := 57) D rfl rfl rfl fun D =>
      j_ivv (pc := 58) (m := 502) (dd := 351) (a := []) (rest := []) D rfl rfl rfl rfl rfl (by decide) (s0_602 H) (by decide +kernel) (fun h5 e1 D =>
        have T := fj_run_ok _ _ _ _ _ _ H.1 e1
        have H := shp_st H T
        j_aldn (pc := 61) D rfl rfl rfl fun D =>
        j_ic (pc := 62) D rfl fun D =>
        j_pf (pc := 63) (a := 602) D rfl rfl rfl (s0_602 H) rfl rfl (gy (by decide)) (gy rfl) fun h8 eh8 S D =>
        have T := fj_hs_ok H.1 S
        have H := shp_st H T
        j_aldn (pc := 66) D rfl rfl rfl fun D =>
        j_lldn (pc := 67) D rfl rfl rfl fun D =>
        j_pf (pc := 68) (a := 602) D rfl rfl rfl (s0_602 H) rfl rfl (gy (by decide)) (gy rfl) fun h9 eh9 S D =>
        have T := fj_hs_ok H.1 S
        have H := shp_st H T
        j_lldn (pc := 71) D rfl rfl rfl fun D =>
        j_ldc2 (pc := 72) D rfl fun D =>
        j_is (pc := 75) (m := 514) (a := [(1, x2), (1, 100)]) (rest := []) D rfl rfl rfl rfl (fun v11 h10 e1 D =>
          have T := fj_run_ok _ _ _ _ _ _ H.1 e1
          have H := shp_st H T
          j_lst (pc := 78) (L' := [(4, (1, v11)), (0, (4, 602)), (1, (0, x1)), (2, (1, x2))]) D rfl nl_513 rfl rfl fun D =>
          j_aldn (pc := 80) D rfl rfl rfl fun D =>
          j_lldn (pc := 81) D rfl rfl rfl fun D =>
          j_lld (pc := 82) D rfl rfl rfl fun D =>
          j_ldiv (pc := 84) D rfl fun q D =>
          j_pf (pc := 85) (a := 602) D rfl rfl rfl (s0_602 H) rfl rfl (gy (by decide)) (gy rfl) fun h13 eh13 S D =>
          have T := fj_hs_ok H.1 S
          have H := shp_st H T
          have D : fk_D 513 [(88, none, .aload_n 0, 1, 0, 0, 0), (89, none, .ldc2_w 555, 3, 1, 100, 0), (92, none, .lload 4, 2, 0, 0, 0), (94, none, .ldiv, 1, 0, 0, 0), (95, none, .putfield 598, 3, 416, 129, 11), (98, none, .goto 135, 3, 233, 0, 0)] := fq_of2 cd_513 ow_513 cl_513 rfl (pc := 88) (by decide +kernel)
          j_aldn (pc := 88) D rfl rfl rfl fun D =>
          j_ldc2 (pc := 89) D rfl fun D =>
          j_lld (pc := 92) D rfl rfl rfl fun D =>
          j_ldiv (pc := 94) D rfl fun q D =>
          j_pf (pc := 95) (a := 602) D rfl rfl rfl (s0_602 H) rfl rfl (gy (by decide)) (gy rfl) fun h14 eh14 S D =>
          have T := fj_hs_ok H.1 S
          have H := shp_st H T
          j_goto (pc := 98) D rfl <|
          have D : fk_D 513 [(233, none, .return_, 1, 0, 0, 0)] := fq_of2 cd_513 ow_513 cl_513 rfl (pc := 233) (by decide +kernel)
          j_vret D rt_513) (fun q12 h10 e1 =>
          j_tx (hx_513 _))) (fun q7 h5 e1 =>
        j_tx (hx_513 _))) (fun m4 q3 h1 e1 =>
      j_tx (hx_513 _))
theorem e_513_163 (d : Nat) (x1 x2 x4 s0 s1 s2 : Int) {h : fi_H} (H : Shp h) : c_513_163 d x1 x2 x4 s0 s1 s2 h =
  if 0 < lc_ s1 s2 then
    c_513_172 d x1 x2 x4 s0 0 h
  else
    c_513_172 d x1 x2 x4 s0 1 h := by
  unfold c_513_163
  exact
    have D : fk_D 513 [(163, some [0, 1, 2, 4], .lcmp, 1, 0, 0, 0), (164, none, .ifCond .gt 7, 3, 171, 0, 0), (167, none, .iconst 1, 1, 0, 1, 0), (168, none, .goto 4, 3, 172, 0, 0)] := fq_of2 cd_513 ow_513 cl_513 rfl (pc := 163) (by decide +kernel)
    j_lcmp (pc := 163) D rfl fun D =>
    j_ifgt (pc := 164) D rfl (fun q =>
      have D : fk_D 513 [(171, none, .iconst 0, 1, 0, 0, 0)] := fq_of2 cd_513 ow_513 cl_513 rfl (pc := 171) (by decide +kernel)
      j_ic (pc := 171) D rfl fun D =>
      fk_jump cut_513_172 rfl rfl) (fun q D =>
      j_ic (pc := 167) D rfl fun D =>
      j_goto (pc := 168) D rfl <|
      fk_jump cut_513_172 rfl rfl)
theorem e_513_172 (d : Nat) (x1 x2 x4 s0 s1 : Int) {h : fi_H} (H : Shp h) : c_513_172 d x1 x2 x4 s0 s1 h =
  dv_ (fi_vt 348 (h 0 s0.toNat 0)) fun m4 => cv_ (fj_run d m4 h [(4, s0), (0, s1), (0, 3), (0, x1)])
    (fun h1 =>
    cv_ (fj_run d 502 h1 [(4, 602)])
      (fun h5 =>
      lt_ (fi_upd h5 414 602 0 5) fun h8 =>
      if x4 = 15 then
        c_513_214 d x2 x4 602 0 h8
      else
        if x4 = 16 then
          c_513_214 d x2 x4 602 x2 h8
        else
          c_513_214 d x2 x4 602 (wJ (12 * x2)) h8)
      (fun q7 h5 => tx_ q7 h5))
    (fun q3 h1 => tx_ q3 h1) := by
  unfold c_513_172
  exact
    have D : fk_D 513 [(172, some [0, 1, 2, 4], .iconst 3, 1, 0, 3, 0), (173, none, .iload_n 1, 1, 0, 0, 0), (174, none, .invokevirtual 557, 3, 3, 348, 0), (177, none, .aload_n 0, 1, 0, 0, 0), (178, none, .invokevirtual 567, 3, 0, 351, 0), (181, none, .aload_n 0, 1, 0, 0, 0), (182, none, .iconst 5, 1, 0, 5, 0), (183, none, .putfield 592, 3, 414, 129, 10), (186, none, .aload_n 0, 1, 0, 0, 0), (187, none, .iload 4, 2, 0, 0, 0), (189, none, .bipush 15, 2, 0, 15, 0), (191, none, .if_icmp .ne 7, 3, 198, 0, 0), (194, none, .lconst 0, 1, 0, 0, 0), (195, none, .goto 19, 3, 214, 0, 0)] := fq_of2 cd_513 ow_513 cl_513 rfl (pc := 172) (by decide +kernel)
    j_ic (pc := 172) D rfl fun D =>
    j_ildn (pc := 173) D rfl rfl rfl fun D =>
    j_ivuv (pc := 174) (dd := 348) (a := [(0, s1), (0, 3), (0, x1)]) (rest := []) H.2.1 D rfl rfl rfl rfl rfl (fun m4 h1 e1 D =>
      have T := fj_run_ok _ _ _ _ _ _ H.1 e1
      have H := shp_st H T
      j_aldn (pc := 177) D rfl rfl rfl fun D =>
      j_ivv (pc := 178) (m := 502) (dd := 351) (a := []) (rest := []) D rfl rfl rfl rfl rfl (by decide) (s0_602 H) (by decide +kernel) (fun h5 e1 D =>
        have T := fj_run_ok _ _ _ _ _ _ H.1 e1
        have H := shp_st H T
        j_aldn (pc := 181) D rfl rfl rfl fun D =>
        j_ic (pc := 182) D rfl fun D =>
        j_pf (pc := 183) (a := 602) D rfl rfl rfl (s0_602 H) rfl rfl (gy (by decide)) (gy rfl) fun h8 eh8 S D =>
        have T := fj_hs_ok H.1 S
        have H := shp_st H T
        j_aldn (pc := 186) D rfl rfl rfl fun D =>
        j_ild (pc := 187) D rfl rfl rfl fun D =>
        j_bp (pc := 189) D rfl fun D =>
        j_ine (pc := 191) D rfl (fun q D =>
          j_c0 (pc := 194) (v := (1, 0)) D rfl rfl (by decide +kernel) fun D =>
          j_goto (pc := 195) D rfl <|
          fk_jump cut_513_214 rfl rfl) (fun q =>
          have D : fk_D 513 [(198, none, .iload 4, 2, 0, 0, 0), (200, none, .bipush 16, 2, 0, 16, 0), (202, none, .if_icmp .ne 7, 3, 209, 0, 0), (205, none, .lload_n 2, 1, 0, 0, 0), (206, none, .goto 8, 3, 214, 0, 0)] := fq_of2 cd_513 ow_513 cl_513 rfl (pc := 198) (by decide +kernel)
          j_ild (pc := 198) D rfl rfl rfl fun D =>
          j_bp (pc := 200) D rfl fun D =>
          j_ine (pc := 202) D rfl (fun q D =>
            j_lldn (pc := 205) D rfl rfl rfl fun D =>
            j_goto (pc := 206) D rfl <|
            fk_jump cut_513_214 rfl rfl) (fun q =>
            have D : fk_D 513 [(209, none, .ldc2_w 590, 3, 1, 12, 0), (212, none, .lload_n 2, 1, 0, 0, 0), (213, none, .lmul, 1, 0, 0, 0)] := fq_of2 cd_513 ow_513 cl_513 rfl (pc := 209) (by decide +kernel)
            j_ldc2 (pc := 209) D rfl fun D =>
            j_lldn (pc := 212) D rfl rfl rfl fun D =>
            j_lmul (pc := 213) D rfl fun D =>
            fk_jump cut_513_214 rfl rfl))) (fun q7 h5 e1 =>
        j_tx (hx_513 _))) (fun m4 q3 h1 e1 =>
      j_tx (hx_513 _))
theorem e_513_214 (d : Nat) (x2 x4 s0 s1 : Int) {h : fi_H} (H : Shp h) : c_513_214 d x2 x4 s0 s1 h =
  if h 0 s0.toNat 0 = 129 then
  if 302 < s0 then
  lt_ (fi_upd h 415 s0.toNat 0 s1) fun h1 =>
  if x4 = 15 then
    c_513_230 d 602 x2 h1
  else
    c_513_230 d 602 0 h1
  else none
  else none := by
  unfold c_513_214
  exact
    have D : fk_D 513 [(214, some [0, 2, 4], .putfield 595, 3, 415, (-129), 11), (217, none, .aload_n 0, 1, 0, 0, 0), (218, none, .iload 4, 2, 0, 0, 0), (220, none, .bipush 15, 2, 0, 15, 0), (222, none, .if_icmp .ne 7, 3, 229, 0, 0), (225, none, .lload_n 2, 1, 0, 0, 0), (226, none, .goto 4, 3, 230, 0, 0)] := fq_of2 cd_513 ow_513 cl_513 rfl (pc := 214) (by decide +kernel)
    j_pfo (pc := 214) D rfl rfl rfl rfl rfl gn gn (gy rfl) fun h1 eh1 S kc2 D =>
    have T := fj_hs_ok H.1 S
    have H := shp_st H T
    j_aldn (pc := 217) D rfl rfl rfl fun D =>
    j_ild (pc := 218) D rfl rfl rfl fun D =>
    j_bp (pc := 220) D rfl fun D =>
    j_ine (pc := 222) D rfl (fun q D =>
      j_lldn (pc := 225) D rfl rfl rfl fun D =>
      j_goto (pc := 226) D rfl <|
      fk_jump cut_513_230 rfl rfl) (fun q =>
      have D : fk_D 513 [(229, none, .lconst 0, 1, 0, 0, 0)] := fq_of2 cd_513 ow_513 cl_513 rfl (pc := 229) (by decide +kernel)
      j_c0 (pc := 229) (v := (1, 0)) D rfl rfl (by decide +kernel) fun D =>
      fk_jump cut_513_230 rfl rfl)
theorem e_513_230 (d : Nat) (s0 s1 : Int) {h : fi_H} (H : Shp h) : c_513_230 d s0 s1 h =
  if h 0 s0.toNat 0 = 129 then
  if 302 < s0 then
  lt_ (fi_upd h 416 s0.toNat 0 s1) fun h1 =>
  some (.inl none, h1)
  else none
  else none := by
  unfold c_513_230
  exact
    have D : fk_D 513 [(230, some [], .putfield 598, 3, 416, (-129), 11), (233, none, .return_, 1, 0, 0, 0)] := fq_of2 cd_513 ow_513 cl_513 rfl (pc := 230) (by decide +kernel)
    j_pfo (pc := 230) D rfl rfl rfl rfl rfl gn gn (gy rfl) fun h1 eh1 S kc2 D =>
    have T := fj_hs_ok H.1 S
    have H := shp_st H T
    j_vret D rt_513
theorem m_513 (d : Nat) {h : fi_H} (H : Shp h) : fj_run (d + 1) 513 h [(4, 602)] =
  cv_ (fj_run d 502 h [(4, 602)])
    (fun h1 =>
    lt_ (fi_upd h1 414 602 0 1) fun h4 =>
    lt_ (fi_upd h4 415 602 0 (h 399 602 0)) fun h5 =>
    lt_ (fi_upd h5 416 602 0 0) fun h6 =>
    ca_ (fj_run d 506 h6 [(4, 602), (0, 37)]) 0
      (fun v8 h7 =>
      if v8 = 0 then
        if h7 394 602 0 = 2 then
          ca_ (fj_run d 508 h7 [(1, wI (h7 395 602 0)), (1, 15), (1, 17)]) 0
            (fun v11 h10 =>
            if v11 = 0 then
              some (.inl none, h10)
            else
              if h10 395 602 0 = 15 then
                c_513_163 d (h 396 602 0) (h 399 602 0) (h10 395 602 0) 602 (h 399 602 0) 65535 h10
              else
                if h10 395 602 0 = 16 then
                  c_513_163 d (h 396 602 0) (h 399 602 0) (h10 395 602 0) 602 (h 399 602 0) 2400 h10
                else
                  c_513_163 d (h 396 602 0) (h 399 602 0) (h10 395 602 0) 602 (h 399 602 0) 200 h10)
            (fun q12 h10 => tx_ q12 h10)
        else
          some (.inl none, h7)
      else
        if 0 < lc_ (h 399 602 0) 10000 then
          c_513_52 d (h 396 602 0) (h 399 602 0) 602 0 h7
        else
          c_513_52 d (h 396 602 0) (h 399 602 0) 602 1 h7)
      (fun q9 h7 => tx_ q9 h7))
    (fun q3 h1 => tx_ q3 h1) := by
  rw [fj_run_eq d (by decide) h [(4, 602)] (Nat.le_of_ble_eq_true (by rw [nl_513]; rfl))]
  show gG (fj_run d) 513 0 [(0, (4, 602))] [] h = _
  exact
    have D : fk_D 513 [(0, none, .aload_n 0, 1, 0, 0, 0), (1, none, .getfield 507, 3, 396, 129, 10), (4, none, .istore_n 1, 1, 0, 0, 0), (5, none, .aload_n 0, 1, 0, 0, 0), (6, none, .getfield 550, 3, 399, 129, 11), (9, none, .lstore_n 2, 1, 0, 0, 0), (10, none, .aload_n 0, 1, 0, 0, 0), (11, none, .invokevirtual 567, 3, 0, 351, 0), (14, none, .aload_n 0, 1, 0, 0, 0), (15, none, .iconst 1, 1, 0, 1, 0), (16, none, .putfield 592, 3, 414, 129, 10), (19, none, .aload_n 0, 1, 0, 0, 0), (20, none, .lload_n 2, 1, 0, 0, 0), (21, none, .putfield 595, 3, 415, 129, 11), (24, none, .aload_n 0, 1, 0, 0, 0), (25, none, .lconst 0, 1, 0, 0, 0), (26, none, .putfield 598, 3, 416, 129, 11), (29, none, .aload_n 0, 1, 0, 0, 0), (30, none, .bipush 37, 2, 0, 37, 0), (32, none, .invokevirtual 564, 3, 1, 350, 1)] := fq_of2 cd_513 ow_513 cl_513 rfl (pc := 0) (by decide +kernel)
    j_aldn (pc := 0) D rfl rfl rfl fun D =>
    j_gf (pc := 1) (a := 602) D rfl rfl (by decide) rfl (s0_602 H) rfl fun D =>
    j_istn (pc := 4) (L' := [(1, (0, h 396 602 0)), (0, (4, 602))]) D rfl nl_513 rfl rfl fun D =>
    j_aldn (pc := 5) D rfl rfl rfl fun D =>
    j_gf (pc := 6) (a := 602) D rfl rfl (by decide) rfl (s0_602 H) rfl fun D =>
    j_lstn (pc := 9) (L' := [(2, (1, h 399 602 0)), (1, (0, h 396 602 0)), (0, (4, 602))]) D rfl nl_513 rfl rfl fun D =>
    j_aldn (pc := 10) D rfl rfl rfl fun D =>
    j_ivv (pc := 11) (m := 502) (dd := 351) (a := []) (rest := []) D rfl rfl rfl rfl rfl (by decide) (s0_602 H) (by decide +kernel) (fun h1 e1 D =>
      have T := fj_run_ok _ _ _ _ _ _ H.1 e1
      have H := shp_st H T
      j_aldn (pc := 14) D rfl rfl rfl fun D =>
      j_ic (pc := 15) D rfl fun D =>
      j_pf (pc := 16) (a := 602) D rfl rfl rfl (s0_602 H) rfl rfl (gy (by decide)) (gy rfl) fun h4 eh4 S D =>
      have T := fj_hs_ok H.1 S
      have H := shp_st H T
      j_aldn (pc := 19) D rfl rfl rfl fun D =>
      j_lldn (pc := 20) D rfl rfl rfl fun D =>
      j_pf (pc := 21) (a := 602) D rfl rfl rfl (s0_602 H) rfl rfl (gy (by decide)) (gy rfl) fun h5 eh5 S D =>
      have T := fj_hs_ok H.1 S
      have H := shp_st H T
      j_aldn (pc := 24) D rfl rfl rfl fun D =>
      j_c0 (pc := 25) (v := (1, 0)) D rfl rfl (by decide +kernel) fun D =>
      j_pf (pc := 26) (a := 602) D rfl rfl rfl (s0_602 H) rfl rfl (gy (by decide)) (gy rfl) fun h6 eh6 S D =>
      have T := fj_hs_ok H.1 S
      have H := shp_st H T
      j_aldn (pc := 29) D rfl rfl rfl fun D =>
      j_bp (pc := 30) D rfl fun D =>
      j_iv (pc := 32) (m := 506) (dd := 350) (a := [(0, 37)]) (rest := []) D rfl rfl rfl rfl rfl (by decide) (s0_602 H) (by decide +kernel) (fun v8 h7 e1 D =>
        have T := fj_run_ok _ _ _ _ _ _ H.1 e1
        have H := shp_st H T
        have D : fk_D 513 [(35, none, .ifCond .eq 66, 3, 101, 0, 0), (38, none, .aload_n 0, 1, 0, 0, 0), (39, none, .lload_n 2, 1, 0, 0, 0), (40, none, .ldc2_w 553, 3, 1, 10000, 0), (43, none, .lcmp, 1, 0, 0, 0), (44, none, .ifCond .gt 7, 3, 51, 0, 0), (47, none, .iconst 1, 1, 0, 1, 0), (48, none, .goto 4, 3, 52, 0, 0)] := fq_of2 cd_513 ow_513 cl_513 rfl (pc := 35) (by decide +kernel)
        j_ifeq (pc := 35) D rfl (fun q =>
          have D : fk_D 513 [(101, none, .aload_n 0, 1, 0, 0, 0), (102, none, .getfield 513, 3, 394, 129, 10), (105, none, .iconst 2, 1, 0, 2, 0), (106, none, .if_icmp .ne 127, 3, 233, 0, 0), (109, none, .aload_n 0, 1, 0, 0, 0), (110, none, .getfield 531, 3, 395, 129, 10), (113, none, .i2l, 1, 0, 0, 0), (114, none, .ldc2_w 608, 3, 1, 15, 0), (117, none, .ldc2_w 610, 3, 1, 17, 0), (120, none, .invokestatic 434, 3, 3, 508, 1), (123, none, .ifCond .eq 110, 3, 233, 0, 0), (126, none, .aload_n 0, 1, 0, 0, 0), (127, none, .getfield 531, 3, 395, 129, 10), (130, none, .istore 4, 2, 0, 0, 0), (132, none, .aload_n 0, 1, 0, 0, 0), (133, none, .lload_n 2, 1, 0, 0, 0), (134, none, .iload 4, 2, 0, 0, 0), (136, none, .bipush 15, 2, 0, 15, 0), (138, none, .if_icmp .ne 9, 3, 147, 0, 0), (141, none, .ldc2_w 432, 3, 1, 65535, 0)] := fq_of2 cd_513 ow_513 cl_513 rfl (pc := 101) (by decide +kernel)
          j_aldn (pc := 101) D rfl rfl rfl fun D =>
          j_gf (pc := 102) (a := 602) D rfl rfl (by decide) rfl (s0_602 H) rfl fun D =>
          j_ic (pc := 105) D rfl fun D =>
          j_ine (pc := 106) D rfl (fun q D =>
            j_aldn (pc := 109) D rfl rfl rfl fun D =>
            j_gf (pc := 110) (a := 602) D rfl rfl (by decide) rfl (s0_602 H) rfl fun D =>
            j_i2l (pc := 113) D rfl fun D =>
            j_ldc2 (pc := 114) D rfl fun D =>
            j_ldc2 (pc := 117) D rfl fun D =>
            j_is (pc := 120) (m := 508) (a := [(1, wI (h7 395 602 0)), (1, 15), (1, 17)]) (rest := []) D rfl rfl rfl rfl (fun v11 h10 e1 D =>
              have T := fj_run_ok _ _ _ _ _ _ H.1 e1
              have H := shp_st H T
              j_ifeq (pc := 123) D rfl (fun q =>
                have D : fk_D 513 [(233, none, .return_, 1, 0, 0, 0)] := fq_of2 cd_513 ow_513 cl_513 rfl (pc := 233) (by decide +kernel)
                j_vret D rt_513) (fun q D =>
                j_aldn (pc := 126) D rfl rfl rfl fun D =>
                j_gf (pc := 127) (a := 602) D rfl rfl (by decide) rfl (s0_602 H) rfl fun D =>
                j_ist (pc := 130) (L' := [(4, (0, h10 395 602 0)), (2, (1, h 399 602 0)), (1, (0, h 396 602 0)), (0, (4, 602))]) D rfl nl_513 rfl rfl fun D =>
                j_aldn (pc := 132) D rfl rfl rfl fun D =>
                j_lldn (pc := 133) D rfl rfl rfl fun D =>
                j_ild (pc := 134) D rfl rfl rfl fun D =>
                j_bp (pc := 136) D rfl fun D =>
                j_ine (pc := 138) D rfl (fun q D =>
                  j_ldc2 (pc := 141) D rfl fun D =>
                  have D : fk_D 513 [(144, none, .goto 19, 3, 163, 0, 0)] := fq_of2 cd_513 ow_513 cl_513 rfl (pc := 144) (by decide +kernel)
                  j_goto (pc := 144) D rfl <|
                  fk_jump cut_513_163 rfl rfl) (fun q =>
                  have D : fk_D 513 [(147, none, .iload 4, 2, 0, 0, 0), (149, none, .bipush 16, 2, 0, 16, 0), (151, none, .if_icmp .ne 9, 3, 160, 0, 0), (154, none, .ldc2_w 612, 3, 1, 2400, 0), (157, none, .goto 6, 3, 163, 0, 0)] := fq_of2 cd_513 ow_513 cl_513 rfl (pc := 147) (by decide +kernel)
                  j_ild (pc := 147) D rfl rfl rfl fun D =>
                  j_bp (pc := 149) D rfl fun D =>
                  j_ine (pc := 151) D rfl (fun q D =>
                    j_ldc2 (pc := 154) D rfl fun D =>
                    j_goto (pc := 157) D rfl <|
                    fk_jump cut_513_163 rfl rfl) (fun q =>
                    have D : fk_D 513 [(160, none, .ldc2_w 288, 3, 1, 200, 0)] := fq_of2 cd_513 ow_513 cl_513 rfl (pc := 160) (by decide +kernel)
                    j_ldc2 (pc := 160) D rfl fun D =>
                    fk_jump cut_513_163 rfl rfl)))) (fun q12 h10 e1 =>
              j_tx (hx_513 _))) (fun q =>
            have D : fk_D 513 [(233, none, .return_, 1, 0, 0, 0)] := fq_of2 cd_513 ow_513 cl_513 rfl (pc := 233) (by decide +kernel)
            j_vret D rt_513)) (fun q D =>
          j_aldn (pc := 38) D rfl rfl rfl fun D =>
          j_lldn (pc := 39) D rfl rfl rfl fun D =>
          j_ldc2 (pc := 40) D rfl fun D =>
          j_lcmp (pc := 43) D rfl fun D =>
          j_ifgt (pc := 44) D rfl (fun q =>
            have D : fk_D 513 [(51, none, .iconst 0, 1, 0, 0, 0)] := fq_of2 cd_513 ow_513 cl_513 rfl (pc := 51) (by decide +kernel)
            j_ic (pc := 51) D rfl fun D =>
            fk_jump cut_513_52 rfl rfl) (fun q D =>
            j_ic (pc := 47) D rfl fun D =>
            j_goto (pc := 48) D rfl <|
            fk_jump cut_513_52 rfl rfl))) (fun q9 h7 e1 =>
        j_tx (hx_513 _))) (fun q3 h1 e1 =>
      j_tx (hx_513 _))
/-! 514 StatuteHouseModel.shared(JJ)J -/
theorem cd_514 : fi_code 514 = prog_69_method_41_code := rfl
theorem hx_514 : ∀ pc, fi_hat 514 pc = none := fun pc => by unfold fi_hat; rw [show fi_hh 514 = [] from rfl]; rfl
theorem rt_514 : fi_ret 514 = some .long := rfl
theorem nl_514 : fi_nl 514 = 10 := rfl
theorem ow_514 : fi_ow 514 = 29 := rfl
theorem cl_514 : fj_cutT.getD 514 [] = [(12, [2]), (17, [4, 6])] := rfl
theorem cut_514_12 : fj_cut 514 12 = some [2] := by decide +kernel
noncomputable def c_514_12 (d : Nat) (x2 s0 : Int) (h : fi_H) : fk_R := gG (fj_run d) 514 12 [(2, (1, x2))] [(1, s0)] h
theorem cut_514_17 : fj_cut 514 17 = some [4, 6] := by decide +kernel
noncomputable def c_514_17 (d : Nat) (x4 x6 : Int) (h : fi_H) : fk_R := gG (fj_run d) 514 17 [(4, (1, x4)), (6, (1, x6))] [] h
theorem e_514_12 (d : Nat) (x2 s0 : Int) {h : fi_H} (H : Shp h) : c_514_12 d x2 s0 h =
  c_514_17 d s0 x2 h := by
  unfold c_514_12
  exact
    have D : fk_D 514 [(12, some [2], .lstore 4, 2, 0, 0, 0), (14, none, .lload_n 2, 1, 0, 0, 0), (15, none, .lstore 6, 2, 0, 0, 0)] := fq_of2 cd_514 ow_514 cl_514 rfl (pc := 12) (by decide +kernel)
    j_lst (pc := 12) (L' := [(4, (1, s0)), (2, (1, x2))]) D rfl nl_514 rfl rfl fun D =>
    j_lldn (pc := 14) D rfl rfl rfl fun D =>
    j_lst (pc := 15) (L' := [(6, (1, x2)), (4, (1, s0)), (2, (1, x2))]) D rfl nl_514 rfl rfl fun D =>
    fk_jump cut_514_17 rfl rfl
theorem e_514_17 (d : Nat) (x4 x6 : Int) {h : fi_H} (H : Shp h) : c_514_17 d x4 x6 h =
  if lc_ x6 0 = 0 then
    some (.inl (some (1, x4)), h)
  else
    if x6 = 0 then none else
    c_514_17 d x6 (lr_ x4 x6) h := by
  unfold c_514_17
  exact
    have D : fk_D 514 [(17, some [4, 6], .lload 6, 2, 0, 0, 0), (19, none, .lconst 0, 1, 0, 0, 0), (20, none, .lcmp, 1, 0, 0, 0), (21, none, .ifCond .eq 21, 3, 42, 0, 0), (24, none, .lload 4, 2, 0, 0, 0), (26, none, .lload 6, 2, 0, 0, 0), (28, none, .lrem, 1, 0, 0, 0), (29, none, .lstore 8, 2, 0, 0, 0), (31, none, .lload 6, 2, 0, 0, 0), (33, none, .lstore 4, 2, 0, 0, 0), (35, none, .lload 8, 2, 0, 0, 0), (37, none, .lstore 6, 2, 0, 0, 0), (39, none, .goto (-22), 3, 17, 0, 0)] := fq_of2 cd_514 ow_514 cl_514 rfl (pc := 17) (by decide +kernel)
    j_lld (pc := 17) D rfl rfl rfl fun D =>
    j_c0 (pc := 19) (v := (1, 0)) D rfl rfl (by decide +kernel) fun D =>
    j_lcmp (pc := 20) D rfl fun D =>
    j_ifeq (pc := 21) D rfl (fun q =>
      have D : fk_D 514 [(42, none, .lload 4, 2, 0, 0, 0), (44, none, .lreturn, 1, 0, 0, 0)] := fq_of2 cd_514 ow_514 cl_514 rfl (pc := 42) (by decide +kernel)
      j_lld (pc := 42) D rfl rfl rfl fun D =>
      j_lret D rt_514) (fun q D =>
      j_lld (pc := 24) D rfl rfl rfl fun D =>
      j_lld (pc := 26) D rfl rfl rfl fun D =>
      j_lrem (pc := 28) D rfl fun q D =>
      j_lst (pc := 29) (L' := [(8, (1, lr_ x4 x6)), (4, (1, x4)), (6, (1, x6))]) D rfl nl_514 rfl rfl fun D =>
      j_lld (pc := 31) D rfl rfl rfl fun D =>
      j_lst (pc := 33) (L' := [(4, (1, x6)), (8, (1, lr_ x4 x6)), (6, (1, x6))]) D rfl nl_514 rfl rfl fun D =>
      j_lld (pc := 35) D rfl rfl rfl fun D =>
      j_lst (pc := 37) (L' := [(6, (1, lr_ x4 x6)), (4, (1, x6)), (8, (1, lr_ x4 x6))]) D rfl nl_514 rfl rfl fun D =>
      j_goto (pc := 39) D rfl <|
      fk_jump cut_514_17 rfl rfl)
theorem m_514 (d : Nat) (x0 x2 : Int) {h : fi_H} (H : Shp h) : fj_run (d + 1) 514 h [(1, x0), (1, x2)] =
  if lc_ x0 0 < 0 then
    c_514_12 d x2 (wJ (-x0)) h
  else
    c_514_12 d x2 x0 h := by
  rw [fj_run_eq d (by decide) h [(1, x0), (1, x2)] (Nat.le_of_ble_eq_true (by rw [nl_514]; rfl))]
  show gG (fj_run d) 514 0 [(0, (1, x0)), (2, (1, x2))] [] h = _
  exact
    have D : fk_D 514 [(0, none, .lload_n 0, 1, 0, 0, 0), (1, none, .lconst 0, 1, 0, 0, 0), (2, none, .lcmp, 1, 0, 0, 0), (3, none, .ifCond .ge 8, 3, 11, 0, 0), (6, none, .lload_n 0, 1, 0, 0, 0), (7, none, .lneg, 1, 0, 0, 0), (8, none, .goto 4, 3, 12, 0, 0)] := fq_of2 cd_514 ow_514 cl_514 rfl (pc := 0) (by decide +kernel)
    j_lldn (pc := 0) D rfl rfl rfl fun D =>
    j_c0 (pc := 1) (v := (1, 0)) D rfl rfl (by decide +kernel) fun D =>
    j_lcmp (pc := 2) D rfl fun D =>
    j_ifge (pc := 3) D rfl (fun q D =>
      j_lldn (pc := 6) D rfl rfl rfl fun D =>
      j_lneg (pc := 7) D rfl fun D =>
      j_goto (pc := 8) D rfl <|
      fk_jump cut_514_12 rfl rfl) (fun q =>
      have D : fk_D 514 [(11, none, .lload_n 0, 1, 0, 0, 0)] := fq_of2 cd_514 ow_514 cl_514 rfl (pc := 11) (by decide +kernel)
      j_lldn (pc := 11) D rfl rfl rfl fun D =>
      fk_jump cut_514_12 rfl rfl)
/-! 515 StatuteHouseModel.dateHere()J -/
theorem cd_515 : fi_code 515 = prog_69_method_39_code := rfl
theorem hx_515 : ∀ pc, fi_hat 515 pc = none := fun pc => by unfold fi_hat; rw [show fi_hh 515 = [] from rfl]; rfl
theorem rt_515 : fi_ret 515 = some .long := rfl
theorem nl_515 : fi_nl 515 = 5 := rfl
theorem ow_515 : fi_ow 515 = 29 := rfl
theorem cl_515 : fj_cutT.getD 515 [] = [(78, [0, 1, 2, 3]), (79, [0, 1, 2, 3])] := rfl
theorem cut_515_78 : fj_cut 515 78 = some [0, 1, 2, 3] := by decide +kernel
noncomputable def c_515_78 (d : Nat) (x1 x2 x3 s0 : Int) (h : fi_H) : fk_R := gG (fj_run d) 515 78 [(0, (4, 602)), (1, (0, x1)), (2, (0, x2)), (3, (0, x3))] [(4, s0)] h
theorem cut_515_79 : fj_cut 515 79 = some [0, 1, 2, 3] := by decide +kernel
noncomputable def c_515_79 (d : Nat) (x1 x2 x3 s0 s1 : Int) (h : fi_H) : fk_R := gG (fj_run d) 515 79 [(0, (4, 602)), (1, (0, x1)), (2, (0, x2)), (3, (0, x3))] [(0, s1), (4, s0)] h
theorem e_515_78 (d : Nat) (x1 x2 x3 s0 : Int) {h : fi_H} (H : Shp h) : c_515_78 d x1 x2 x3 s0 h =
  c_515_79 d x1 x2 x3 s0 0 h := by
  unfold c_515_78
  exact
    have D : fk_D 515 [(78, some [0, 1, 2, 3], .iconst 0, 1, 0, 0, 0)] := fq_of2 cd_515 ow_515 cl_515 rfl (pc := 78) (by decide +kernel)
    j_ic (pc := 78) D rfl fun D =>
    fk_jump cut_515_79 rfl rfl
theorem e_515_79 (d : Nat) (x1 x2 x3 s0 s1 : Int) {h : fi_H} (H : Shp h) : c_515_79 d x1 x2 x3 s0 s1 h =
  dv_ (fi_vt 348 (h 0 s0.toNat 0)) fun m4 => cv_ (fj_run d m4 h [(4, s0), (0, s1), (0, 3), (0, h 396 602 0)])
    (fun h1 =>
    ca_ (fj_run d 518 h1 [(0, x1), (0, x2), (0, x3)]) 0
      (fun v6 h5 =>
      ca_ (fj_run d 520 h5 [(1, wI v6)]) 0
        (fun v9 h8 =>
        cv_ (fj_run d 500 h8 [(4, 602), (0, v9), (0, 3), (0, h8 396 602 0)])
          (fun h11 =>
          cv_ (fj_run d 502 h11 [(4, 602)])
            (fun h14 =>
            some (.inl (some (1, wI v6)), h14))
            (fun q16 h14 => tx_ q16 h14))
          (fun q13 h11 => tx_ q13 h11))
        (fun q10 h8 => tx_ q10 h8))
      (fun q7 h5 => tx_ q7 h5))
    (fun q3 h1 => tx_ q3 h1) := by
  unfold c_515_79
  exact
    have D : fk_D 515 [(79, some [0, 1, 2, 3], .iconst 3, 1, 0, 3, 0), (80, none, .aload_n 0, 1, 0, 0, 0), (81, none, .getfield 507, 3, 396, 129, 10), (84, none, .invokevirtual 557, 3, 3, 348, 0), (87, none, .iload_n 1, 1, 0, 0, 0), (88, none, .iload_n 2, 1, 0, 0, 0), (89, none, .iload_n 3, 1, 0, 0, 0), (90, none, .invokestatic 449, 3, 3, 518, 1), (93, none, .istore 4, 2, 0, 0, 0), (95, none, .aload_n 0, 1, 0, 0, 0), (96, none, .iload 4, 2, 0, 0, 0), (98, none, .i2l, 1, 0, 0, 0), (99, none, .invokestatic 456, 3, 1, 520, 1), (102, none, .iconst 3, 1, 0, 3, 0), (103, none, .aload_n 0, 1, 0, 0, 0), (104, none, .getfield 507, 3, 396, 129, 10), (107, none, .invokevirtual 557, 3, 3, 348, 0), (110, none, .aload_n 0, 1, 0, 0, 0), (111, none, .invokevirtual 567, 3, 0, 351, 0), (114, none, .iload 4, 2, 0, 0, 0)] := fq_of2 cd_515 ow_515 cl_515 rfl (pc := 79) (by decide +kernel)
    j_ic (pc := 79) D rfl fun D =>
    j_aldn (pc := 80) D rfl rfl rfl fun D =>
    j_gf (pc := 81) (a := 602) D rfl rfl (by decide) rfl (s0_602 H) rfl fun D =>
    j_ivuv (pc := 84) (dd := 348) (a := [(0, s1), (0, 3), (0, h 396 602 0)]) (rest := []) H.2.1 D rfl rfl rfl rfl rfl (fun m4 h1 e1 D =>
      have T := fj_run_ok _ _ _ _ _ _ H.1 e1
      have H := shp_st H T
      j_ildn (pc := 87) D rfl rfl rfl fun D =>
      j_ildn (pc := 88) D rfl rfl rfl fun D =>
      j_ildn (pc := 89) D rfl rfl rfl fun D =>
      j_is (pc := 90) (m := 518) (a := [(0, x1), (0, x2), (0, x3)]) (rest := []) D rfl rfl rfl rfl (fun v6 h5 e1 D =>
        have T := fj_run_ok _ _ _ _ _ _ H.1 e1
        have H := shp_st H T
        j_ist (pc := 93) (L' := [(4, (0, v6)), (0, (4, 602)), (1, (0, x1)), (2, (0, x2)), (3, (0, x3))]) D rfl nl_515 rfl rfl fun D =>
        j_aldn (pc := 95) D rfl rfl rfl fun D =>
        j_ild (pc := 96) D rfl rfl rfl fun D =>
        j_i2l (pc := 98) D rfl fun D =>
        j_is (pc := 99) (m := 520) (a := [(1, wI v6)]) (rest := [(4, 602)]) D rfl rfl rfl rfl (fun v9 h8 e1 D =>
          have T := fj_run_ok _ _ _ _ _ _ H.1 e1
          have H := shp_st H T
          j_ic (pc := 102) D rfl fun D =>
          j_aldn (pc := 103) D rfl rfl rfl fun D =>
          j_gf (pc := 104) (a := 602) D rfl rfl (by decide) rfl (s0_602 H) rfl fun D =>
          j_ivv (pc := 107) (m := 500) (dd := 348) (a := [(0, v9), (0, 3), (0, h8 396 602 0)]) (rest := []) D rfl rfl rfl rfl rfl (by decide) (s0_602 H) (by decide +kernel) (fun h11 e1 D =>
            have T := fj_run_ok _ _ _ _ _ _ H.1 e1
            have H := shp_st H T
            j_aldn (pc := 110) D rfl rfl rfl fun D =>
            j_ivv (pc := 111) (m := 502) (dd := 351) (a := []) (rest := []) D rfl rfl rfl rfl rfl (by decide) (s0_602 H) (by decide +kernel) (fun h14 e1 D =>
              have T := fj_run_ok _ _ _ _ _ _ H.1 e1
              have H := shp_st H T
              j_ild (pc := 114) D rfl rfl rfl fun D =>
              have D : fk_D 515 [(116, none, .i2l, 1, 0, 0, 0), (117, none, .lreturn, 1, 0, 0, 0)] := fq_of2 cd_515 ow_515 cl_515 rfl (pc := 116) (by decide +kernel)
              j_i2l (pc := 116) D rfl fun D =>
              j_lret D rt_515) (fun q16 h14 e1 =>
              j_tx (hx_515 _))) (fun q13 h11 e1 =>
            j_tx (hx_515 _))) (fun q10 h8 e1 =>
          j_tx (hx_515 _))) (fun q7 h5 e1 =>
        j_tx (hx_515 _))) (fun m4 q3 h1 e1 =>
      j_tx (hx_515 _))
theorem m_515 (d : Nat) {h : fi_H} (H : Shp h) : fj_run (d + 1) 515 h [(4, 602)] =
  ca_ (fj_run d 508 h [(1, wI (wI (lq_ (h 399 602 0) 10000))), (1, 1900), (1, 2079)]) 0
    (fun v2 h1 =>
    if v2 = 0 then
      c_515_78 d (wI (lq_ (h 399 602 0) 10000)) (wI (lr_ (lq_ (h 399 602 0) 100) 100)) (wI (lr_ (h 399 602 0) 100)) 602 h1
    else
      ca_ (fj_run d 508 h1 [(1, wI (wI (lr_ (lq_ (h 399 602 0) 100) 100))), (1, 1), (1, 12)]) 0
        (fun v5 h4 =>
        if v5 = 0 then
          c_515_78 d (wI (lq_ (h 399 602 0) 10000)) (wI (lr_ (lq_ (h 399 602 0) 100) 100)) (wI (lr_ (h 399 602 0) 100)) 602 h4
        else
          if 0 < wI (lr_ (h 399 602 0) 100) then
            ca_ (fj_run d 516 h4 [(0, wI (lq_ (h 399 602 0) 10000)), (0, wI (lr_ (lq_ (h 399 602 0) 100) 100))]) 0
              (fun v8 h7 =>
              if v8 < wI (lr_ (h 399 602 0) 100) then
                c_515_78 d (wI (lq_ (h 399 602 0) 10000)) (wI (lr_ (lq_ (h 399 602 0) 100) 100)) (wI (lr_ (h 399 602 0) 100)) 602 h7
              else
                c_515_79 d (wI (lq_ (h 399 602 0) 10000)) (wI (lr_ (lq_ (h 399 602 0) 100) 100)) (wI (lr_ (h 399 602 0) 100)) 602 1 h7)
              (fun q9 h7 => tx_ q9 h7)
          else
            c_515_78 d (wI (lq_ (h 399 602 0) 10000)) (wI (lr_ (lq_ (h 399 602 0) 100) 100)) (wI (lr_ (h 399 602 0) 100)) 602 h4)
        (fun q6 h4 => tx_ q6 h4))
    (fun q3 h1 => tx_ q3 h1) := by
  rw [fj_run_eq d (by decide) h [(4, 602)] (Nat.le_of_ble_eq_true (by rw [nl_515]; rfl))]
  show gG (fj_run d) 515 0 [(0, (4, 602))] [] h = _
  exact
    have D : fk_D 515 [(0, none, .aload_n 0, 1, 0, 0, 0), (1, none, .getfield 550, 3, 399, 129, 11), (4, none, .ldc2_w 553, 3, 1, 10000, 0), (7, none, .ldiv, 1, 0, 0, 0), (8, none, .l2i, 1, 0, 0, 0), (9, none, .istore_n 1, 1, 0, 0, 0), (10, none, .aload_n 0, 1, 0, 0, 0), (11, none, .getfield 550, 3, 399, 129, 11), (14, none, .ldc2_w 555, 3, 1, 100, 0), (17, none, .ldiv, 1, 0, 0, 0), (18, none, .ldc2_w 555, 3, 1, 100, 0), (21, none, .lrem, 1, 0, 0, 0), (22, none, .l2i, 1, 0, 0, 0), (23, none, .istore_n 2, 1, 0, 0, 0), (24, none, .aload_n 0, 1, 0, 0, 0), (25, none, .getfield 550, 3, 399, 129, 11), (28, none, .ldc2_w 555, 3, 1, 100, 0), (31, none, .lrem, 1, 0, 0, 0), (32, none, .l2i, 1, 0, 0, 0), (33, none, .istore_n 3, 1, 0, 0, 0)] := fq_of2 cd_515 ow_515 cl_515 rfl (pc := 0) (by decide +kernel)
    j_aldn (pc := 0) D rfl rfl rfl fun D =>
    j_gf (pc := 1) (a := 602) D rfl rfl (by decide) rfl (s0_602 H) rfl fun D =>
    j_ldc2 (pc := 4) D rfl fun D =>
    j_ldivk (pc := 7) D rfl (by decide) fun D =>
    j_l2i (pc := 8) D rfl fun D =>
    j_istn (pc := 9) (L' := [(1, (0, wI (lq_ (h 399 602 0) 10000))), (0, (4, 602))]) D rfl nl_515 rfl rfl fun D =>
    j_aldn (pc := 10) D rfl rfl rfl fun D =>
    j_gf (pc := 11) (a := 602) D rfl rfl (by decide) rfl (s0_602 H) rfl fun D =>
    j_ldc2 (pc := 14) D rfl fun D =>
    j_ldivk (pc := 17) D rfl (by decide) fun D =>
    j_ldc2 (pc := 18) D rfl fun D =>
    j_lremk (pc := 21) D rfl (by decide) fun D =>
    j_l2i (pc := 22) D rfl fun D =>
    j_istn (pc := 23) (L' := [(2, (0, wI (lr_ (lq_ (h 399 602 0) 100) 100))), (1, (0, wI (lq_ (h 399 602 0) 10000))), (0, (4, 602))]) D rfl nl_515 rfl rfl fun D =>
    j_aldn (pc := 24) D rfl rfl rfl fun D =>
    j_gf (pc := 25) (a := 602) D rfl rfl (by decide) rfl (s0_602 H) rfl fun D =>
    j_ldc2 (pc := 28) D rfl fun D =>
    j_lremk (pc := 31) D rfl (by decide) fun D =>
    j_l2i (pc := 32) D rfl fun D =>
    j_istn (pc := 33) (L' := [(3, (0, wI (lr_ (h 399 602 0) 100))), (2, (0, wI (lr_ (lq_ (h 399 602 0) 100) 100))), (1, (0, wI (lq_ (h 399 602 0) 10000))), (0, (4, 602))]) D rfl nl_515 rfl rfl fun D =>
    have D : fk_D 515 [(34, none, .aload_n 0, 1, 0, 0, 0), (35, none, .iload_n 1, 1, 0, 0, 0), (36, none, .i2l, 1, 0, 0, 0), (37, none, .ldc2_w 586, 3, 1, 1900, 0), (40, none, .ldc2_w 588, 3, 1, 2079, 0), (43, none, .invokestatic 434, 3, 3, 508, 1), (46, none, .ifCond .eq 32, 3, 78, 0, 0), (49, none, .iload_n 2, 1, 0, 0, 0), (50, none, .i2l, 1, 0, 0, 0), (51, none, .lconst 1, 1, 0, 0, 0), (52, none, .ldc2_w 590, 3, 1, 12, 0), (55, none, .invokestatic 434, 3, 3, 508, 1), (58, none, .ifCond .eq 20, 3, 78, 0, 0), (61, none, .iload_n 3, 1, 0, 0, 0), (62, none, .ifCond .le 16, 3, 78, 0, 0), (65, none, .iload_n 3, 1, 0, 0, 0), (66, none, .iload_n 1, 1, 0, 0, 0), (67, none, .iload_n 2, 1, 0, 0, 0), (68, none, .invokestatic 419, 3, 2, 516, 1), (71, none, .if_icmp .gt 7, 3, 78, 0, 0)] := fq_of2 cd_515 ow_515 cl_515 rfl (pc := 34) (by decide +kernel)
    j_aldn (pc := 34) D rfl rfl rfl fun D =>
    j_ildn (pc := 35) D rfl rfl rfl fun D =>
    j_i2l (pc := 36) D rfl fun D =>
    j_ldc2 (pc := 37) D rfl fun D =>
    j_ldc2 (pc := 40) D rfl fun D =>
    j_is (pc := 43) (m := 508) (a := [(1, wI (wI (lq_ (h 399 602 0) 10000))), (1, 1900), (1, 2079)]) (rest := [(4, 602)]) D rfl rfl rfl rfl (fun v2 h1 e1 D =>
      have T := fj_run_ok _ _ _ _ _ _ H.1 e1
      have H := shp_st H T
      j_ifeq (pc := 46) D rfl (fun q =>
        fk_jump cut_515_78 rfl rfl) (fun q D =>
        j_ildn (pc := 49) D rfl rfl rfl fun D =>
        j_i2l (pc := 50) D rfl fun D =>
        j_c0 (pc := 51) (v := (1, 1)) D rfl rfl (by decide +kernel) fun D =>
        j_ldc2 (pc := 52) D rfl fun D =>
        j_is (pc := 55) (m := 508) (a := [(1, wI (wI (lr_ (lq_ (h 399 602 0) 100) 100))), (1, 1), (1, 12)]) (rest := [(4, 602)]) D rfl rfl rfl rfl (fun v5 h4 e1 D =>
          have T := fj_run_ok _ _ _ _ _ _ H.1 e1
          have H := shp_st H T
          j_ifeq (pc := 58) D rfl (fun q =>
            fk_jump cut_515_78 rfl rfl) (fun q D =>
            j_ildn (pc := 61) D rfl rfl rfl fun D =>
            j_ifle (pc := 62) D rfl (fun q D =>
              j_ildn (pc := 65) D rfl rfl rfl fun D =>
              j_ildn (pc := 66) D rfl rfl rfl fun D =>
              j_ildn (pc := 67) D rfl rfl rfl fun D =>
              j_is (pc := 68) (m := 516) (a := [(0, wI (lq_ (h 399 602 0) 10000)), (0, wI (lr_ (lq_ (h 399 602 0) 100) 100))]) (rest := [(0, wI (lr_ (h 399 602 0) 100)), (4, 602)]) D rfl rfl rfl rfl (fun v8 h7 e1 D =>
                have T := fj_run_ok _ _ _ _ _ _ H.1 e1
                have H := shp_st H T
                j_igt (pc := 71) D rfl (fun q =>
                  fk_jump cut_515_78 rfl rfl) (fun q D =>
                  have D : fk_D 515 [(74, none, .iconst 1, 1, 0, 1, 0), (75, none, .goto 4, 3, 79, 0, 0)] := fq_of2 cd_515 ow_515 cl_515 rfl (pc := 74) (by decide +kernel)
                  j_ic (pc := 74) D rfl fun D =>
                  j_goto (pc := 75) D rfl <|
                  fk_jump cut_515_79 rfl rfl)) (fun q9 h7 e1 =>
                j_tx (hx_515 _))) (fun q =>
              fk_jump cut_515_78 rfl rfl))) (fun q6 h4 e1 =>
          j_tx (hx_515 _)))) (fun q3 h1 e1 =>
      j_tx (hx_515 _))
/-! 516 StatuteHouseModel.length(II)I -/
theorem cd_516 : fi_code 516 = prog_69_method_5_code := rfl
theorem hx_516 : ∀ pc, fi_hat 516 pc = none := fun pc => by unfold fi_hat; rw [show fi_hh 516 = [] from rfl]; rfl
theorem rt_516 : fi_ret 516 = some .int := rfl
theorem nl_516 : fi_nl 516 = 2 := rfl
theorem ow_516 : fi_ow 516 = 29 := rfl
theorem cl_516 : fj_cutT.getD 516 [] = [] := rfl
theorem m_516 (d : Nat) (x0 x1 : Int) {h : fi_H} (H : Shp h) : fj_run (d + 1) 516 h [(0, x0), (0, x1)] =
  if x1 = 2 then
    ca_ (fj_run d 517 h [(0, x0)]) 0
      (fun v2 h1 =>
      if v2 = 0 then
        some (.inl (some (0, 28)), h1)
      else
        some (.inl (some (0, 29)), h1))
      (fun q3 h1 => tx_ q3 h1)
  else
    if x1 = 4 then
      some (.inl (some (0, 30)), h)
    else
      if x1 = 6 then
        some (.inl (some (0, 30)), h)
      else
        if x1 = 9 then
          some (.inl (some (0, 30)), h)
        else
          if x1 = 11 then
            some (.inl (some (0, 30)), h)
          else
            some (.inl (some (0, 31)), h) := by
  rw [fj_run_eq d (by decide) h [(0, x0), (0, x1)] (Nat.le_of_ble_eq_true (by rw [nl_516]; rfl))]
  show gG (fj_run d) 516 0 [(0, (0, x0)), (1, (0, x1))] [] h = _
  exact
    have D : fk_D 516 [(0, none, .iload_n 1, 1, 0, 0, 0), (1, none, .iconst 2, 1, 0, 2, 0), (2, none, .if_icmp .ne 20, 3, 22, 0, 0), (5, none, .iload_n 0, 1, 0, 0, 0), (6, none, .invokestatic 411, 3, 1, 517, 1), (9, none, .ifCond .eq 8, 3, 17, 0, 0), (12, none, .bipush 29, 2, 0, 29, 0), (14, none, .goto 38, 3, 52, 0, 0)] := fq_of2 cd_516 ow_516 cl_516 rfl (pc := 0) (by decide +kernel)
    j_ildn (pc := 0) D rfl rfl rfl fun D =>
    j_ic (pc := 1) D rfl fun D =>
    j_ine (pc := 2) D rfl (fun q D =>
      j_ildn (pc := 5) D rfl rfl rfl fun D =>
      j_is (pc := 6) (m := 517) (a := [(0, x0)]) (rest := []) D rfl rfl rfl rfl (fun v2 h1 e1 D =>
        have T := fj_run_ok _ _ _ _ _ _ H.1 e1
        have H := shp_st H T
        j_ifeq (pc := 9) D rfl (fun q =>
          have D : fk_D 516 [(17, none, .bipush 28, 2, 0, 28, 0), (19, none, .goto 33, 3, 52, 0, 0)] := fq_of2 cd_516 ow_516 cl_516 rfl (pc := 17) (by decide +kernel)
          j_bp (pc := 17) D rfl fun D =>
          j_goto (pc := 19) D rfl <|
          have D : fk_D 516 [(52, none, .ireturn, 1, 0, 0, 0)] := fq_of2 cd_516 ow_516 cl_516 rfl (pc := 52) (by decide +kernel)
          j_iret D rt_516) (fun q D =>
          j_bp (pc := 12) D rfl fun D =>
          j_goto (pc := 14) D rfl <|
          have D : fk_D 516 [(52, none, .ireturn, 1, 0, 0, 0)] := fq_of2 cd_516 ow_516 cl_516 rfl (pc := 52) (by decide +kernel)
          j_iret D rt_516)) (fun q3 h1 e1 =>
        j_tx (hx_516 _))) (fun q =>
      have D : fk_D 516 [(22, none, .iload_n 1, 1, 0, 0, 0), (23, none, .iconst 4, 1, 0, 4, 0), (24, none, .if_icmp .eq 21, 3, 45, 0, 0), (27, none, .iload_n 1, 1, 0, 0, 0), (28, none, .bipush 6, 2, 0, 6, 0), (30, none, .if_icmp .eq 15, 3, 45, 0, 0), (33, none, .iload_n 1, 1, 0, 0, 0), (34, none, .bipush 9, 2, 0, 9, 0), (36, none, .if_icmp .eq 9, 3, 45, 0, 0), (39, none, .iload_n 1, 1, 0, 0, 0), (40, none, .bipush 11, 2, 0, 11, 0), (42, none, .if_icmp .ne 8, 3, 50, 0, 0), (45, none, .bipush 30, 2, 0, 30, 0), (47, none, .goto 5, 3, 52, 0, 0)] := fq_of2 cd_516 ow_516 cl_516 rfl (pc := 22) (by decide +kernel)
      j_ildn (pc := 22) D rfl rfl rfl fun D =>
      j_ic (pc := 23) D rfl fun D =>
      j_ieq (pc := 24) D rfl (fun q =>
        have D : fk_D 516 [(45, none, .bipush 30, 2, 0, 30, 0), (47, none, .goto 5, 3, 52, 0, 0)] := fq_of2 cd_516 ow_516 cl_516 rfl (pc := 45) (by decide +kernel)
        j_bp (pc := 45) D rfl fun D =>
        j_goto (pc := 47) D rfl <|
        have D : fk_D 516 [(52, none, .ireturn, 1, 0, 0, 0)] := fq_of2 cd_516 ow_516 cl_516 rfl (pc := 52) (by decide +kernel)
        j_iret D rt_516) (fun q D =>
        j_ildn (pc := 27) D rfl rfl rfl fun D =>
        j_bp (pc := 28) D rfl fun D =>
        j_ieq (pc := 30) D rfl (fun q =>
          have D : fk_D 516 [(45, none, .bipush 30, 2, 0, 30, 0), (47, none, .goto 5, 3, 52, 0, 0)] := fq_of2 cd_516 ow_516 cl_516 rfl (pc := 45) (by decide +kernel)
          j_bp (pc := 45) D rfl fun D =>
          j_goto (pc := 47) D rfl <|
          have D : fk_D 516 [(52, none, .ireturn, 1, 0, 0, 0)] := fq_of2 cd_516 ow_516 cl_516 rfl (pc := 52) (by decide +kernel)
          j_iret D rt_516) (fun q D =>
          j_ildn (pc := 33) D rfl rfl rfl fun D =>
          j_bp (pc := 34) D rfl fun D =>
          j_ieq (pc := 36) D rfl (fun q =>
            have D : fk_D 516 [(45, none, .bipush 30, 2, 0, 30, 0), (47, none, .goto 5, 3, 52, 0, 0)] := fq_of2 cd_516 ow_516 cl_516 rfl (pc := 45) (by decide +kernel)
            j_bp (pc := 45) D rfl fun D =>
            j_goto (pc := 47) D rfl <|
            have D : fk_D 516 [(52, none, .ireturn, 1, 0, 0, 0)] := fq_of2 cd_516 ow_516 cl_516 rfl (pc := 52) (by decide +kernel)
            j_iret D rt_516) (fun q D =>
            j_ildn (pc := 39) D rfl rfl rfl fun D =>
            j_bp (pc := 40) D rfl fun D =>
            j_ine (pc := 42) D rfl (fun q D =>
              j_bp (pc := 45) D rfl fun D =>
              j_goto (pc := 47) D rfl <|
              have D : fk_D 516 [(52, none, .ireturn, 1, 0, 0, 0)] := fq_of2 cd_516 ow_516 cl_516 rfl (pc := 52) (by decide +kernel)
              j_iret D rt_516) (fun q =>
              have D : fk_D 516 [(50, none, .bipush 31, 2, 0, 31, 0), (52, none, .ireturn, 1, 0, 0, 0)] := fq_of2 cd_516 ow_516 cl_516 rfl (pc := 50) (by decide +kernel)
              j_bp (pc := 50) D rfl fun D =>
              j_iret D rt_516)))))
/-! 517 StatuteHouseModel.isLeap(I)Z -/
theorem cd_517 : fi_code 517 = prog_69_method_4_code := rfl
theorem hx_517 : ∀ pc, fi_hat 517 pc = none := fun pc => by unfold fi_hat; rw [show fi_hh 517 = [] from rfl]; rfl
theorem rt_517 : fi_ret 517 = some .boolean := rfl
theorem nl_517 : fi_nl 517 = 1 := rfl
theorem ow_517 : fi_ow 517 = 29 := rfl
theorem cl_517 : fj_cutT.getD 517 [] = [] := rfl
theorem m_517 (d : Nat) (x0 : Int) {h : fi_H} (H : Shp h) : fj_run (d + 1) 517 h [(0, x0)] =
  if ir_ x0 4 = 0 then
    if ir_ x0 100 = 0 then
      if ir_ x0 400 = 0 then
        some (.inl (some (0, 1)), h)
      else
        some (.inl (some (0, 0)), h)
    else
      some (.inl (some (0, 1)), h)
  else
    some (.inl (some (0, 0)), h) := by
  rw [fj_run_eq d (by decide) h [(0, x0)] (Nat.le_of_ble_eq_true (by rw [nl_517]; rfl))]
  show gG (fj_run d) 517 0 [(0, (0, x0))] [] h = _
  exact
    have D : fk_D 517 [(0, none, .iload_n 0, 1, 0, 0, 0), (1, none, .iconst 4, 1, 0, 4, 0), (2, none, .irem, 1, 0, 0, 0), (3, none, .ifCond .ne 22, 3, 25, 0, 0), (6, none, .iload_n 0, 1, 0, 0, 0), (7, none, .bipush 100, 2, 0, 100, 0), (9, none, .irem, 1, 0, 0, 0), (10, none, .ifCond .ne 11, 3, 21, 0, 0), (13, none, .iload_n 0, 1, 0, 0, 0), (14, none, .sipush 400, 3, 0, 400, 0), (17, none, .irem, 1, 0, 0, 0), (18, none, .ifCond .ne 7, 3, 25, 0, 0), (21, none, .iconst 1, 1, 0, 1, 0), (22, none, .goto 4, 3, 26, 0, 0)] := fq_of2 cd_517 ow_517 cl_517 rfl (pc := 0) (by decide +kernel)
    j_ildn (pc := 0) D rfl rfl rfl fun D =>
    j_ic (pc := 1) D rfl fun D =>
    j_iremk (pc := 2) D rfl (by decide) fun D =>
    j_ifne (pc := 3) D rfl (fun q D =>
      j_ildn (pc := 6) D rfl rfl rfl fun D =>
      j_bp (pc := 7) D rfl fun D =>
      j_iremk (pc := 9) D rfl (by decide) fun D =>
      j_ifne (pc := 10) D rfl (fun q D =>
        j_ildn (pc := 13) D rfl rfl rfl fun D =>
        j_sp (pc := 14) D rfl fun D =>
        j_iremk (pc := 17) D rfl (by decide) fun D =>
        j_ifne (pc := 18) D rfl (fun q D =>
          j_ic (pc := 21) D rfl fun D =>
          j_goto (pc := 22) D rfl <|
          have D : fk_D 517 [(26, none, .ireturn, 1, 0, 0, 0)] := fq_of2 cd_517 ow_517 cl_517 rfl (pc := 26) (by decide +kernel)
          j_zret D rt_517 (gy (by decide))) (fun q =>
          have D : fk_D 517 [(25, none, .iconst 0, 1, 0, 0, 0), (26, none, .ireturn, 1, 0, 0, 0)] := fq_of2 cd_517 ow_517 cl_517 rfl (pc := 25) (by decide +kernel)
          j_ic (pc := 25) D rfl fun D =>
          j_zret D rt_517 (gy (by decide)))) (fun q =>
        have D : fk_D 517 [(21, none, .iconst 1, 1, 0, 1, 0), (22, none, .goto 4, 3, 26, 0, 0)] := fq_of2 cd_517 ow_517 cl_517 rfl (pc := 21) (by decide +kernel)
        j_ic (pc := 21) D rfl fun D =>
        j_goto (pc := 22) D rfl <|
        have D : fk_D 517 [(26, none, .ireturn, 1, 0, 0, 0)] := fq_of2 cd_517 ow_517 cl_517 rfl (pc := 26) (by decide +kernel)
        j_zret D rt_517 (gy (by decide)))) (fun q =>
      have D : fk_D 517 [(25, none, .iconst 0, 1, 0, 0, 0), (26, none, .ireturn, 1, 0, 0, 0)] := fq_of2 cd_517 ow_517 cl_517 rfl (pc := 25) (by decide +kernel)
      j_ic (pc := 25) D rfl fun D =>
      j_zret D rt_517 (gy (by decide)))
/-! 518 StatuteHouseModel.number(III)I -/
theorem cd_518 : fi_code 518 = prog_69_method_7_code := rfl
theorem hx_518 : ∀ pc, fi_hat 518 pc = none := fun pc => by unfold fi_hat; rw [show fi_hh 518 = [] from rfl]; rfl
theorem rt_518 : fi_ret 518 = some .int := rfl
theorem nl_518 : fi_nl 518 = 5 := rfl
theorem ow_518 : fi_ow 518 = 29 := rfl
theorem cl_518 : fj_cutT.getD 518 [] = [(12, [0, 1, 3, 4])] := rfl
theorem cut_518_12 : fj_cut 518 12 = some [0, 1, 3, 4] := by decide +kernel
noncomputable def c_518_12 (d : Nat) (x0 x1 x3 x4 : Int) (h : fi_H) : fk_R := gG (fj_run d) 518 12 [(0, (0, x0)), (1, (0, x1)), (3, (0, x3)), (4, (0, x4))] [] h
theorem e_518_12 (d : Nat) (x0 x1 x3 x4 : Int) {h : fi_H} (H : Shp h) : c_518_12 d x0 x1 x3 x4 h =
  if x4 < x1 then
    ca_ (fj_run d 516 h [(0, x0), (0, x4)]) 0
      (fun v2 h1 =>
      c_518_12 d x0 x1 (wI (x3 + v2)) (wI (x4 + 1)) h1)
      (fun q3 h1 => tx_ q3 h1)
  else
    some (.inl (some (0, x3)), h) := by
  unfold c_518_12
  exact
    have D : fk_D 518 [(12, some [0, 1, 3, 4], .iload 4, 2, 0, 0, 0), (14, none, .iload_n 1, 1, 0, 0, 0), (15, none, .if_icmp .ge 18, 3, 33, 0, 0), (18, none, .iload_n 3, 1, 0, 0, 0), (19, none, .iload_n 0, 1, 0, 0, 0), (20, none, .iload 4, 2, 0, 0, 0), (22, none, .invokestatic 419, 3, 2, 516, 1), (25, none, .iadd, 1, 0, 0, 0), (26, none, .istore_n 3, 1, 0, 0, 0), (27, none, .iinc 4 1, 3, 0, 1, 0), (30, none, .goto (-18), 3, 12, 0, 0)] := fq_of2 cd_518 ow_518 cl_518 rfl (pc := 12) (by decide +kernel)
    j_ild (pc := 12) D rfl rfl rfl fun D =>
    j_ildn (pc := 14) D rfl rfl rfl fun D =>
    j_ige (pc := 15) D rfl (fun q D =>
      j_ildn (pc := 18) D rfl rfl rfl fun D =>
      j_ildn (pc := 19) D rfl rfl rfl fun D =>
      j_ild (pc := 20) D rfl rfl rfl fun D =>
      j_is (pc := 22) (m := 516) (a := [(0, x0), (0, x4)]) (rest := [(0, x3)]) D rfl rfl rfl rfl (fun v2 h1 e1 D =>
        have T := fj_run_ok _ _ _ _ _ _ H.1 e1
        have H := shp_st H T
        j_iadd (pc := 25) D rfl fun D =>
        j_istn (pc := 26) (L' := [(3, (0, wI (x3 + v2))), (0, (0, x0)), (1, (0, x1)), (4, (0, x4))]) D rfl nl_518 rfl rfl fun D =>
        j_inc (pc := 27) (L' := [(4, (0, wI (x4 + 1))), (3, (0, wI (x3 + v2))), (0, (0, x0)), (1, (0, x1))]) D rfl rfl rfl (by decide +kernel) rfl fun D =>
        j_goto (pc := 30) D rfl <|
        fk_jump cut_518_12 rfl rfl) (fun q3 h1 e1 =>
        j_tx (hx_518 _))) (fun q =>
      have D : fk_D 518 [(33, none, .iload_n 3, 1, 0, 0, 0), (34, none, .ireturn, 1, 0, 0, 0)] := fq_of2 cd_518 ow_518 cl_518 rfl (pc := 33) (by decide +kernel)
      j_ildn (pc := 33) D rfl rfl rfl fun D =>
      j_iret D rt_518)
theorem m_518 (d : Nat) (x0 x1 x2 : Int) {h : fi_H} (H : Shp h) : fj_run (d + 1) 518 h [(0, x0), (0, x1), (0, x2)] =
  ca_ (fj_run d 519 h [(0, x0)]) 0
    (fun v2 h1 =>
    c_518_12 d x0 x1 (wI ((wI (v2 + x2)) - 1)) 1 h1)
    (fun q3 h1 => tx_ q3 h1) := by
  rw [fj_run_eq d (by decide) h [(0, x0), (0, x1), (0, x2)] (Nat.le_of_ble_eq_true (by rw [nl_518]; rfl))]
  show gG (fj_run d) 518 0 [(0, (0, x0)), (1, (0, x1)), (2, (0, x2))] [] h = _
  exact
    have D : fk_D 518 [(0, none, .iload_n 0, 1, 0, 0, 0), (1, none, .invokestatic 415, 3, 1, 519, 1), (4, none, .iload_n 2, 1, 0, 0, 0), (5, none, .iadd, 1, 0, 0, 0), (6, none, .iconst 1, 1, 0, 1, 0), (7, none, .isub, 1, 0, 0, 0), (8, none, .istore_n 3, 1, 0, 0, 0), (9, none, .iconst 1, 1, 0, 1, 0), (10, none, .istore 4, 2, 0, 0, 0)] := fq_of2 cd_518 ow_518 cl_518 rfl (pc := 0) (by decide +kernel)
    j_ildn (pc := 0) D rfl rfl rfl fun D =>
    j_is (pc := 1) (m := 519) (a := [(0, x0)]) (rest := []) D rfl rfl rfl rfl (fun v2 h1 e1 D =>
      have T := fj_run_ok _ _ _ _ _ _ H.1 e1
      have H := shp_st H T
      j_ildn (pc := 4) D rfl rfl rfl fun D =>
      j_iadd (pc := 5) D rfl fun D =>
      j_ic (pc := 6) D rfl fun D =>
      j_isub (pc := 7) D rfl fun D =>
      j_istn (pc := 8) (L' := [(3, (0, wI ((wI (v2 + x2)) - 1))), (0, (0, x0)), (1, (0, x1)), (2, (0, x2))]) D rfl nl_518 rfl rfl fun D =>
      j_ic (pc := 9) D rfl fun D =>
      j_ist (pc := 10) (L' := [(4, (0, 1)), (3, (0, wI ((wI (v2 + x2)) - 1))), (0, (0, x0)), (1, (0, x1)), (2, (0, x2))]) D rfl nl_518 rfl rfl fun D =>
      fk_jump cut_518_12 rfl rfl) (fun q3 h1 e1 =>
      j_tx (hx_518 _))
/-! 519 StatuteHouseModel.ahead(I)I -/
theorem cd_519 : fi_code 519 = prog_69_method_6_code := rfl
theorem hx_519 : ∀ pc, fi_hat 519 pc = none := fun pc => by unfold fi_hat; rw [show fi_hh 519 = [] from rfl]; rfl
theorem rt_519 : fi_ret 519 = some .int := rfl
theorem nl_519 : fi_nl 519 = 2 := rfl
theorem ow_519 : fi_ow 519 = 29 := rfl
theorem cl_519 : fj_cutT.getD 519 [] = [] := rfl
theorem m_519 (d : Nat) (x0 : Int) {h : fi_H} (H : Shp h) : fj_run (d + 1) 519 h [(0, x0)] =
  some (.inl (some (0, wI ((wI ((wI ((wI ((wI (365 * (wI (x0 - 1900)))) + (iq_ (wI (x0 - 1)) 4))) - (iq_ (wI (x0 - 1)) 100))) + (iq_ (wI (x0 - 1)) 400))) - 460))), h) := by
  rw [fj_run_eq d (by decide) h [(0, x0)] (Nat.le_of_ble_eq_true (by rw [nl_519]; rfl))]
  show gG (fj_run d) 519 0 [(0, (0, x0))] [] h = _
  exact
    have D : fk_D 519 [(0, none, .iload_n 0, 1, 0, 0, 0), (1, none, .iconst 1, 1, 0, 1, 0), (2, none, .isub, 1, 0, 0, 0), (3, none, .istore_n 1, 1, 0, 0, 0), (4, none, .sipush 365, 3, 0, 365, 0), (7, none, .iload_n 0, 1, 0, 0, 0), (8, none, .sipush 1900, 3, 0, 1900, 0), (11, none, .isub, 1, 0, 0, 0), (12, none, .imul, 1, 0, 0, 0), (13, none, .iload_n 1, 1, 0, 0, 0), (14, none, .iconst 4, 1, 0, 4, 0), (15, none, .idiv, 1, 0, 0, 0), (16, none, .iadd, 1, 0, 0, 0), (17, none, .iload_n 1, 1, 0, 0, 0), (18, none, .bipush 100, 2, 0, 100, 0), (20, none, .idiv, 1, 0, 0, 0), (21, none, .isub, 1, 0, 0, 0), (22, none, .iload_n 1, 1, 0, 0, 0), (23, none, .sipush 400, 3, 0, 400, 0), (26, none, .idiv, 1, 0, 0, 0)] := fq_of2 cd_519 ow_519 cl_519 rfl (pc := 0) (by decide +kernel)
    j_ildn (pc := 0) D rfl rfl rfl fun D =>
    j_ic (pc := 1) D rfl fun D =>
    j_isub (pc := 2) D rfl fun D =>
    j_istn (pc := 3) (L' := [(1, (0, wI (x0 - 1))), (0, (0, x0))]) D rfl nl_519 rfl rfl fun D =>
    j_sp (pc := 4) D rfl fun D =>
    j_ildn (pc := 7) D rfl rfl rfl fun D =>
    j_sp (pc := 8) D rfl fun D =>
    j_isub (pc := 11) D rfl fun D =>
    j_imul (pc := 12) D rfl fun D =>
    j_ildn (pc := 13) D rfl rfl rfl fun D =>
    j_ic (pc := 14) D rfl fun D =>
    j_idivk (pc := 15) D rfl (by decide) fun D =>
    j_iadd (pc := 16) D rfl fun D =>
    j_ildn (pc := 17) D rfl rfl rfl fun D =>
    j_bp (pc := 18) D rfl fun D =>
    j_idivk (pc := 20) D rfl (by decide) fun D =>
    j_isub (pc := 21) D rfl fun D =>
    j_ildn (pc := 22) D rfl rfl rfl fun D =>
    j_sp (pc := 23) D rfl fun D =>
    j_idivk (pc := 26) D rfl (by decide) fun D =>
    have D : fk_D 519 [(27, none, .iadd, 1, 0, 0, 0), (28, none, .sipush 460, 3, 0, 460, 0), (31, none, .isub, 1, 0, 0, 0), (32, none, .ireturn, 1, 0, 0, 0)] := fq_of2 cd_519 ow_519 cl_519 rfl (pc := 27) (by decide +kernel)
    j_iadd (pc := 27) D rfl fun D =>
    j_sp (pc := 28) D rfl fun D =>
    j_isub (pc := 31) D rfl fun D =>
    j_iret D rt_519
/-! 520 StatuteHouseModel.isDay(J)Z -/
theorem cd_520 : fi_code 520 = prog_69_method_9_code := rfl
theorem hx_520 : ∀ pc, fi_hat 520 pc = none := fun pc => by unfold fi_hat; rw [show fi_hh 520 = [] from rfl]; rfl
theorem rt_520 : fi_ret 520 = some .boolean := rfl
theorem nl_520 : fi_nl 520 = 2 := rfl
theorem ow_520 : fi_ow 520 = 29 := rfl
theorem cl_520 : fj_cutT.getD 520 [] = [] := rfl
theorem m_520 (d : Nat) (x0 : Int) {h : fi_H} (H : Shp h) : fj_run (d + 1) 520 h [(1, x0)] =
  ca_ (fj_run d 508 h [(1, x0), (1, 0), (1, 65535)]) 0
    (fun v2 h1 =>
    if v2 = 0 ∨ v2 = 1 then some (.inl (some (0, v2)), h1) else none)
    (fun q3 h1 => tx_ q3 h1) := by
  rw [fj_run_eq d (by decide) h [(1, x0)] (Nat.le_of_ble_eq_true (by rw [nl_520]; rfl))]
  show gG (fj_run d) 520 0 [(0, (1, x0))] [] h = _
  exact
    have D : fk_D 520 [(0, none, .lload_n 0, 1, 0, 0, 0), (1, none, .lconst 0, 1, 0, 0, 0), (2, none, .ldc2_w 432, 3, 1, 65535, 0), (5, none, .invokestatic 434, 3, 3, 508, 1), (8, none, .ireturn, 1, 0, 0, 0)] := fq_of2 cd_520 ow_520 cl_520 rfl (pc := 0) (by decide +kernel)
    j_lldn (pc := 0) D rfl rfl rfl fun D =>
    j_c0 (pc := 1) (v := (1, 0)) D rfl rfl (by decide +kernel) fun D =>
    j_ldc2 (pc := 2) D rfl fun D =>
    j_is (pc := 5) (m := 508) (a := [(1, x0), (1, 0), (1, 65535)]) (rest := []) D rfl rfl rfl rfl (fun v2 h1 e1 D =>
      have T := fj_run_ok _ _ _ _ _ _ H.1 e1
      have H := shp_st H T
      j_zret D rt_520 gn) (fun q3 h1 e1 =>
      j_tx (hx_520 _))
/-! 521 StatuteHouseModel.holidays()I -/
theorem cd_521 : fi_code 521 = prog_69_method_48_code := rfl
theorem rt_521 : fi_ret 521 = some .int := rfl
theorem nl_521 : fi_nl 521 = 2 := rfl
theorem ow_521 : fi_ow 521 = 29 := rfl
theorem cl_521 : fj_cutT.getD 521 [] = [(11, [])] := rfl
theorem cut_521_11 : fj_cut 521 11 = some [] := by decide +kernel
noncomputable def c_521_11 (d : Nat) (s0 : Int) (h : fi_H) : fk_R := gG (fj_run d) 521 11 [] [(4, s0)] h
theorem e_521_11 (d : Nat) (s0 : Int) {h : fi_H} (H : Shp h) : c_521_11 d s0 h =
  some (.inl (some (0, (-1))), h) := by
  unfold c_521_11
  exact
    have D : fk_D 521 [(11, some [], .astore_n 1, 1, 0, 0, 0), (12, none, .iconst (-1), 1, 0, (-1), 0), (13, none, .ireturn, 1, 0, 0, 0)] := fq_of2 cd_521 ow_521 cl_521 rfl (pc := 11) (by decide +kernel)
    j_astn (pc := 11) (L' := [(1, (4, s0))]) D rfl nl_521 rfl rfl fun D =>
    j_ic (pc := 12) D rfl fun D =>
    j_iret D rt_521
theorem m_521 (d : Nat) {h : fi_H} (H : Shp h) : fj_run (d + 1) 521 h [(4, 602)] =
  cv_ (fj_run d 486 h [(4, 602)])
    (fun h1 =>
    cv_ (fj_run d 522 h1 [(4, 602)])
      (fun h4 =>
      some (.inl (some (0, h4 390 602 0)), h4))
      (fun q6 h4 => tc_ 130 q6 h4 (c_521_11 d (q6 : Int) h4)))
    (fun q3 h1 => tx_ q3 h1) := by
  rw [fj_run_eq d (by decide) h [(4, 602)] (Nat.le_of_ble_eq_true (by rw [nl_521]; rfl))]
  show gG (fj_run d) 521 0 [(0, (4, 602))] [] h = _
  exact
    have D : fk_D 521 [(0, none, .aload_n 0, 1, 0, 0, 0), (1, none, .invokevirtual 649, 3, 0, 363, 0), (4, none, .aload_n 0, 1, 0, 0, 0), (5, none, .invokevirtual 664, 3, 0, 366, 0), (8, none, .goto 6, 3, 14, 0, 0)] := fq_of2 cd_521 ow_521 cl_521 rfl (pc := 0) (by decide +kernel)
    j_aldn (pc := 0) D rfl rfl rfl fun D =>
    j_ivv (pc := 1) (m := 486) (dd := 363) (a := []) (rest := []) D rfl rfl rfl rfl rfl (by decide) (s0_602 H) (by decide +kernel) (fun h1 e1 D =>
      have T := fj_run_ok _ _ _ _ _ _ H.1 e1
      have H := shp_st H T
      j_aldn (pc := 4) D rfl rfl rfl fun D =>
      j_ivv (pc := 5) (m := 522) (dd := 366) (a := []) (rest := []) D rfl rfl rfl rfl rfl (by decide) (s0_602 H) (by decide +kernel) (fun h4 e1 D =>
        have T := fj_run_ok _ _ _ _ _ _ H.1 e1
        have H := shp_st H T
        j_goto (pc := 8) D rfl <|
        have D : fk_D 521 [(14, none, .aload_n 0, 1, 0, 0, 0), (15, none, .getfield 463, 3, 390, 129, 10), (18, none, .ireturn, 1, 0, 0, 0)] := fq_of2 cd_521 ow_521 cl_521 rfl (pc := 14) (by decide +kernel)
        j_aldn (pc := 14) D rfl rfl rfl fun D =>
        j_gf (pc := 15) (a := 602) D rfl rfl (by decide) rfl (s0_602 H) rfl fun D =>
        j_iret D rt_521) (fun q6 h4 e1 =>
        j_tc_ (n := 130) (fk_at (cu := none) (by decide +kernel) rfl) (s := 4) (e := 8) (hp := 11) (ct := 9) (by decide +kernel) rfl (by decide +kernel) <|
        fk_jump cut_521_11 rfl rfl)) (fun q3 h1 e1 =>
      j_tx (by decide +kernel))
/-! 522 StatuteHouseModel.readHolidays()V -/
theorem cd_522 : fi_code 522 = prog_69_method_47_code := rfl
theorem hx_522 : ∀ pc, fi_hat 522 pc = none := fun pc => by unfold fi_hat; rw [show fi_hh 522 = [] from rfl]; rfl
theorem rt_522 : fi_ret 522 = none := rfl
theorem nl_522 : fi_nl 522 = 6 := rfl
theorem ow_522 : fi_ow 522 = 29 := rfl
theorem cl_522 : fj_cutT.getD 522 [] = [(2, [0, 1]), (46, [0, 1]), (51, [0, 1]), (90, [0, 1]), (102, [0, 1]), (159, [0, 1, 3]), (206, [0, 1, 3]), (207, [0, 1, 3]), (278, [0, 1, 3, 4]), (311, [0, 1]), (312, [0, 1]), (334, [0, 1, 3]), (369, [0, 1, 3]), (370, [0, 1, 3]), (416, [0, 1]), (435, [0, 1, 2]), (491, [])] := rfl
theorem cut_522_2 : fj_cut 522 2 = some [0, 1] := by decide +kernel
noncomputable def c_522_2 (d : Nat) (x1 : Int) (h : fi_H) : fk_R := gG (fj_run d) 522 2 [(0, (4, 602)), (1, (0, x1))] [] h
theorem cut_522_46 : fj_cut 522 46 = some [0, 1] := by decide +kernel
noncomputable def c_522_46 (d : Nat) (x1 : Int) (h : fi_H) : fk_R := gG (fj_run d) 522 46 [(0, (4, 602)), (1, (0, x1))] [] h
theorem cut_522_51 : fj_cut 522 51 = some [0, 1] := by decide +kernel
noncomputable def c_522_51 (d : Nat) (x1 s0 : Int) (h : fi_H) : fk_R := gG (fj_run d) 522 51 [(0, (4, 602)), (1, (0, x1))] [(0, s0)] h
theorem cut_522_90 : fj_cut 522 90 = some [0, 1] := by decide +kernel
noncomputable def c_522_90 (d : Nat) (x1 : Int) (h : fi_H) : fk_R := gG (fj_run d) 522 90 [(0, (4, 602)), (1, (0, x1))] [] h
theorem cut_522_102 : fj_cut 522 102 = some [0, 1] := by decide +kernel
noncomputable def c_522_102 (d : Nat) (x1 s0 s1 : Int) (h : fi_H) : fk_R := gG (fj_run d) 522 102 [(0, (4, 602)), (1, (0, x1))] [(0, s1), (4, s0)] h
theorem cut_522_159 : fj_cut 522 159 = some [0, 1, 3] := by decide +kernel
noncomputable def c_522_159 (d : Nat) (x1 x3 s0 s1 : Int) (h : fi_H) : fk_R := gG (fj_run d) 522 159 [(0, (4, 602)), (1, (0, x1)), (3, (0, x3))] [(0, s1), (4, s0)] h
theorem cut_522_206 : fj_cut 522 206 = some [0, 1, 3] := by decide +kernel
noncomputable def c_522_206 (d : Nat) (x1 x3 s0 : Int) (h : fi_H) : fk_R := gG (fj_run d) 522 206 [(0, (4, 602)), (1, (0, x1)), (3, (0, x3))] [(4, s0)] h
theorem cut_522_207 : fj_cut 522 207 = some [0, 1, 3] := by decide +kernel
noncomputable def c_522_207 (d : Nat) (x1 x3 s0 s1 : Int) (h : fi_H) : fk_R := gG (fj_run d) 522 207 [(0, (4, 602)), (1, (0, x1)), (3, (0, x3))] [(0, s1), (4, s0)] h
theorem cut_522_278 : fj_cut 522 278 = some [0, 1, 3, 4] := by decide +kernel
noncomputable def c_522_278 (d : Nat) (x1 x3 x4 : Int) (h : fi_H) : fk_R := gG (fj_run d) 522 278 [(0, (4, 602)), (1, (0, x1)), (3, (0, x3)), (4, (0, x4))] [] h
theorem cut_522_311 : fj_cut 522 311 = some [0, 1] := by decide +kernel
noncomputable def c_522_311 (d : Nat) (x1 s0 s1 s2 : Int) (h : fi_H) : fk_R := gG (fj_run d) 522 311 [(0, (4, 602)), (1, (0, x1))] [(0, s2), (0, s1), (4, s0)] h
theorem cut_522_312 : fj_cut 522 312 = some [0, 1] := by decide +kernel
noncomputable def c_522_312 (d : Nat) (x1 : Int) (h : fi_H) : fk_R := gG (fj_run d) 522 312 [(0, (4, 602)), (1, (0, x1))] [] h
theorem cut_522_334 : fj_cut 522 334 = some [0, 1, 3] := by decide +kernel
noncomputable def c_522_334 (d : Nat) (x1 x3 s0 s1 s2 : Int) (h : fi_H) : fk_R := gG (fj_run d) 522 334 [(0, (4, 602)), (1, (0, x1)), (3, (0, x3))] [(0, s2), (0, s1), (4, s0)] h
theorem cut_522_369 : fj_cut 522 369 = some [0, 1, 3] := by decide +kernel
noncomputable def c_522_369 (d : Nat) (x1 x3 s0 : Int) (h : fi_H) : fk_R := gG (fj_run d) 522 369 [(0, (4, 602)), (1, (0, x1)), (3, (0, x3))] [(4, s0)] h
theorem cut_522_370 : fj_cut 522 370 = some [0, 1, 3] := by decide +kernel
noncomputable def c_522_370 (d : Nat) (x1 x3 s0 s1 : Int) (h : fi_H) : fk_R := gG (fj_run d) 522 370 [(0, (4, 602)), (1, (0, x1)), (3, (0, x3))] [(0, s1), (4, s0)] h
theorem cut_522_416 : fj_cut 522 416 = some [0, 1] := by decide +kernel
noncomputable def c_522_416 (d : Nat) (x1 : Int) (h : fi_H) : fk_R := gG (fj_run d) 522 416 [(0, (4, 602)), (1, (0, x1))] [] h
theorem cut_522_435 : fj_cut 522 435 = some [0, 1, 2] := by decide +kernel
noncomputable def c_522_435 (d : Nat) (x1 x2 : Int) (h : fi_H) : fk_R := gG (fj_run d) 522 435 [(0, (4, 602)), (1, (0, x1)), (2, (0, x2))] [] h
theorem cut_522_491 : fj_cut 522 491 = some [] := by decide +kernel
noncomputable def c_522_491 (d : Nat) (h : fi_H) : fk_R := gG (fj_run d) 522 491 [] [] h
theorem e_522_2 (d : Nat) (x1 : Int) {h : fi_H} (H : Shp h) : c_522_2 d x1 h =
  if h 394 602 0 = 7 then
    lt_ (fi_upd h 390 602 0 x1) fun h1 =>
    c_522_435 d x1 0 h1
  else
    if h 394 602 0 = 3 then
      c_522_46 d x1 h
    else
      ca_ (fj_run d 499 h [(4, 602), (0, 59)]) 0
        (fun v3 h2 =>
        if v3 = 0 then
          ca_ (fj_run d 499 h2 [(4, 602), (0, 40)]) 0
            (fun v6 h5 =>
            if v6 = 0 then
              ca_ (fj_run d 499 h5 [(4, 602), (0, 41)]) 0
                (fun v9 h8 =>
                if v9 = 0 then
                  c_522_51 d x1 0 h8
                else
                  c_522_46 d x1 h8)
                (fun q10 h8 => tx_ q10 h8)
            else
              c_522_46 d x1 h5)
            (fun q7 h5 => tx_ q7 h5)
        else
          c_522_46 d x1 h2)
        (fun q4 h2 => tx_ q4 h2) := by
  unfold c_522_2
  exact
    have D : fk_D 522 [(2, some [0, 1], .aload_n 0, 1, 0, 0, 0), (3, none, .getfield 513, 3, 394, 129, 10), (6, none, .bipush 7, 2, 0, 7, 0), (8, none, .if_icmp .eq 420, 3, 428, 0, 0), (11, none, .aload_n 0, 1, 0, 0, 0), (12, none, .getfield 513, 3, 394, 129, 10), (15, none, .iconst 3, 1, 0, 3, 0), (16, none, .if_icmp .eq 30, 3, 46, 0, 0), (19, none, .aload_n 0, 1, 0, 0, 0), (20, none, .bipush 59, 2, 0, 59, 0), (22, none, .invokevirtual 570, 3, 1, 352, 1), (25, none, .ifCond .ne 21, 3, 46, 0, 0), (28, none, .aload_n 0, 1, 0, 0, 0), (29, none, .bipush 40, 2, 0, 40, 0), (31, none, .invokevirtual 570, 3, 1, 352, 1), (34, none, .ifCond .ne 12, 3, 46, 0, 0), (37, none, .aload_n 0, 1, 0, 0, 0), (38, none, .bipush 41, 2, 0, 41, 0), (40, none, .invokevirtual 570, 3, 1, 352, 1), (43, none, .ifCond .eq 7, 3, 50, 0, 0)] := fq_of2 cd_522 ow_522 cl_522 rfl (pc := 2) (by decide +kernel)
    j_aldn (pc := 2) D rfl rfl rfl fun D =>
    j_gf (pc := 3) (a := 602) D rfl rfl (by decide) rfl (s0_602 H) rfl fun D =>
    j_bp (pc := 6) D rfl fun D =>
    j_ieq (pc := 8) D rfl (fun q =>
      have D : fk_D 522 [(428, none, .aload_n 0, 1, 0, 0, 0), (429, none, .iload_n 1, 1, 0, 0, 0), (430, none, .putfield 463, 3, 390, 129, 10), (433, none, .iconst 0, 1, 0, 0, 0), (434, none, .istore_n 2, 1, 0, 0, 0)] := fq_of2 cd_522 ow_522 cl_522 rfl (pc := 428) (by decide +kernel)
      j_aldn (pc := 428) D rfl rfl rfl fun D =>
      j_ildn (pc := 429) D rfl rfl rfl fun D =>
      j_pf (pc := 430) (a := 602) D rfl rfl rfl (s0_602 H) rfl rfl (gy (by decide)) (gy rfl) fun h1 eh1 S D =>
      have T := fj_hs_ok H.1 S
      have H := shp_st H T
      j_ic (pc := 433) D rfl fun D =>
      j_istn (pc := 434) (L' := [(2, (0, 0)), (0, (4, 602)), (1, (0, x1))]) D rfl nl_522 rfl rfl fun D =>
      fk_jump cut_522_435 rfl rfl) (fun q D =>
      j_aldn (pc := 11) D rfl rfl rfl fun D =>
      j_gf (pc := 12) (a := 602) D rfl rfl (by decide) rfl (s0_602 H) rfl fun D =>
      j_ic (pc := 15) D rfl fun D =>
      j_ieq (pc := 16) D rfl (fun q =>
        fk_jump cut_522_46 rfl rfl) (fun q D =>
        j_aldn (pc := 19) D rfl rfl rfl fun D =>
        j_bp (pc := 20) D rfl fun D =>
        j_iv (pc := 22) (m := 499) (dd := 352) (a := [(0, 59)]) (rest := []) D rfl rfl rfl rfl rfl (by decide) (s0_602 H) (by decide +kernel) (fun v3 h2 e1 D =>
          have T := fj_run_ok _ _ _ _ _ _ H.1 e1
          have H := shp_st H T
          j_ifne (pc := 25) D rfl (fun q D =>
            j_aldn (pc := 28) D rfl rfl rfl fun D =>
            j_bp (pc := 29) D rfl fun D =>
            j_iv (pc := 31) (m := 499) (dd := 352) (a := [(0, 40)]) (rest := []) D rfl rfl rfl rfl rfl (by decide) (s0_602 H) (by decide +kernel) (fun v6 h5 e1 D =>
              have T := fj_run_ok _ _ _ _ _ _ H.1 e1
              have H := shp_st H T
              j_ifne (pc := 34) D rfl (fun q D =>
                j_aldn (pc := 37) D rfl rfl rfl fun D =>
                j_bp (pc := 38) D rfl fun D =>
                j_iv (pc := 40) (m := 499) (dd := 352) (a := [(0, 41)]) (rest := []) D rfl rfl rfl rfl rfl (by decide) (s0_602 H) (by decide +kernel) (fun v9 h8 e1 D =>
                  have T := fj_run_ok _ _ _ _ _ _ H.1 e1
                  have H := shp_st H T
                  j_ifeq (pc := 43) D rfl (fun q =>
                    have D : fk_D 522 [(50, none, .iconst 0, 1, 0, 0, 0)] := fq_of2 cd_522 ow_522 cl_522 rfl (pc := 50) (by decide +kernel)
                    j_ic (pc := 50) D rfl fun D =>
                    fk_jump cut_522_51 rfl rfl) (fun q D =>
                    fk_jump cut_522_46 rfl rfl)) (fun q10 h8 e1 =>
                  j_tx (hx_522 _))) (fun q =>
                fk_jump cut_522_46 rfl rfl)) (fun q7 h5 e1 =>
              j_tx (hx_522 _))) (fun q =>
            fk_jump cut_522_46 rfl rfl)) (fun q4 h2 e1 =>
          j_tx (hx_522 _))))
theorem e_522_46 (d : Nat) (x1 : Int) {h : fi_H} (H : Shp h) : c_522_46 d x1 h =
  c_522_51 d x1 1 h := by
  unfold c_522_46
  exact
    have D : fk_D 522 [(46, some [0, 1], .iconst 1, 1, 0, 1, 0), (47, none, .goto 4, 3, 51, 0, 0)] := fq_of2 cd_522 ow_522 cl_522 rfl (pc := 46) (by decide +kernel)
    j_ic (pc := 46) D rfl fun D =>
    j_goto (pc := 47) D rfl <|
    fk_jump cut_522_51 rfl rfl
theorem e_522_51 (d : Nat) (x1 s0 : Int) {h : fi_H} (H : Shp h) : c_522_51 d x1 s0 h =
  cv_ (fj_run d 500 h [(4, 602), (0, s0), (0, 1), (0, h 396 602 0)])
    (fun h1 =>
    if h1 394 602 0 = 3 then
      ca_ (fj_run d 508 h1 [(1, h1 399 602 0), (1, 1), (1, 31)]) 0
        (fun v5 h4 =>
        cv_ (fj_run d 500 h4 [(4, 602), (0, v5), (0, 3), (0, h4 396 602 0)])
          (fun h7 =>
          c_522_90 d x1 h7)
          (fun q9 h7 => tx_ q9 h7))
        (fun q6 h4 => tx_ q6 h4)
    else
      c_522_90 d x1 h1)
    (fun q3 h1 => tx_ q3 h1) := by
  unfold c_522_51
  exact
    have D : fk_D 522 [(51, some [0, 1], .istore_n 2, 1, 0, 0, 0), (52, none, .aload_n 0, 1, 0, 0, 0), (53, none, .iload_n 2, 1, 0, 0, 0), (54, none, .iconst 1, 1, 0, 1, 0), (55, none, .aload_n 0, 1, 0, 0, 0), (56, none, .getfield 507, 3, 396, 129, 10), (59, none, .invokevirtual 557, 3, 3, 348, 0), (62, none, .aload_n 0, 1, 0, 0, 0), (63, none, .getfield 513, 3, 394, 129, 10), (66, none, .iconst 3, 1, 0, 3, 0), (67, none, .if_icmp .ne 23, 3, 90, 0, 0), (70, none, .aload_n 0, 1, 0, 0, 0), (71, none, .aload_n 0, 1, 0, 0, 0), (72, none, .getfield 550, 3, 399, 129, 11), (75, none, .lconst 1, 1, 0, 0, 0), (76, none, .ldc2_w 655, 3, 1, 31, 0), (79, none, .invokestatic 434, 3, 3, 508, 1), (82, none, .iconst 3, 1, 0, 3, 0), (83, none, .aload_n 0, 1, 0, 0, 0), (84, none, .getfield 507, 3, 396, 129, 10)] := fq_of2 cd_522 ow_522 cl_522 rfl (pc := 51) (by decide +kernel)
    j_istn (pc := 51) (L' := [(2, (0, s0)), (0, (4, 602)), (1, (0, x1))]) D rfl nl_522 rfl rfl fun D =>
    j_aldn (pc := 52) D rfl rfl rfl fun D =>
    j_ildn (pc := 53) D rfl rfl rfl fun D =>
    j_ic (pc := 54) D rfl fun D =>
    j_aldn (pc := 55) D rfl rfl rfl fun D =>
    j_gf (pc := 56) (a := 602) D rfl rfl (by decide) rfl (s0_602 H) rfl fun D =>
    j_ivv (pc := 59) (m := 500) (dd := 348) (a := [(0, s0), (0, 1), (0, h 396 602 0)]) (rest := []) D rfl rfl rfl rfl rfl (by decide) (s0_602 H) (by decide +kernel) (fun h1 e1 D =>
      have T := fj_run_ok _ _ _ _ _ _ H.1 e1
      have H := shp_st H T
      j_aldn (pc := 62) D rfl rfl rfl fun D =>
      j_gf (pc := 63) (a := 602) D rfl rfl (by decide) rfl (s0_602 H) rfl fun D =>
      j_ic (pc := 66) D rfl fun D =>
      j_ine (pc := 67) D rfl (fun q D =>
        j_aldn (pc := 70) D rfl rfl rfl fun D =>
        j_aldn (pc := 71) D rfl rfl rfl fun D =>
        j_gf (pc := 72) (a := 602) D rfl rfl (by decide) rfl (s0_602 H) rfl fun D =>
        j_c0 (pc := 75) (v := (1, 1)) D rfl rfl (by decide +kernel) fun D =>
        j_ldc2 (pc := 76) D rfl fun D =>
        j_is (pc := 79) (m := 508) (a := [(1, h1 399 602 0), (1, 1), (1, 31)]) (rest := [(4, 602)]) D rfl rfl rfl rfl (fun v5 h4 e1 D =>
          have T := fj_run_ok _ _ _ _ _ _ H.1 e1
          have H := shp_st H T
          j_ic (pc := 82) D rfl fun D =>
          j_aldn (pc := 83) D rfl rfl rfl fun D =>
          j_gf (pc := 84) (a := 602) D rfl rfl (by decide) rfl (s0_602 H) rfl fun D =>
          have D : fk_D 522 [(87, none, .invokevirtual 557, 3, 3, 348, 0)] := fq_of2 cd_522 ow_522 cl_522 rfl (pc := 87) (by decide +kernel)
          j_ivv (pc := 87) (m := 500) (dd := 348) (a := [(0, v5), (0, 3), (0, h4 396 602 0)]) (rest := []) D rfl rfl rfl rfl rfl (by decide) (s0_602 H) (by decide +kernel) (fun h7 e1 D =>
            have T := fj_run_ok _ _ _ _ _ _ H.1 e1
            have H := shp_st H T
            fk_jump cut_522_90 rfl rfl) (fun q9 h7 e1 =>
            j_tx (hx_522 _))) (fun q6 h4 e1 =>
          j_tx (hx_522 _))) (fun q =>
        fk_jump cut_522_90 rfl rfl)) (fun q3 h1 e1 =>
      j_tx (hx_522 _))
theorem e_522_90 (d : Nat) (x1 : Int) {h : fi_H} (H : Shp h) : c_522_90 d x1 h =
  if x1 < 20 then
    c_522_102 d x1 602 1 h
  else
    c_522_102 d x1 602 0 h := by
  unfold c_522_90
  exact
    have D : fk_D 522 [(90, some [0, 1], .aload_n 0, 1, 0, 0, 0), (91, none, .iload_n 1, 1, 0, 0, 0), (92, none, .bipush 20, 2, 0, 20, 0), (94, none, .if_icmp .ge 7, 3, 101, 0, 0), (97, none, .iconst 1, 1, 0, 1, 0), (98, none, .goto 4, 3, 102, 0, 0)] := fq_of2 cd_522 ow_522 cl_522 rfl (pc := 90) (by decide +kernel)
    j_aldn (pc := 90) D rfl rfl rfl fun D =>
    j_ildn (pc := 91) D rfl rfl rfl fun D =>
    j_bp (pc := 92) D rfl fun D =>
    j_ige (pc := 94) D rfl (fun q D =>
      j_ic (pc := 97) D rfl fun D =>
      j_goto (pc := 98) D rfl <|
      fk_jump cut_522_102 rfl rfl) (fun q =>
      have D : fk_D 522 [(101, none, .iconst 0, 1, 0, 0, 0)] := fq_of2 cd_522 ow_522 cl_522 rfl (pc := 101) (by decide +kernel)
      j_ic (pc := 101) D rfl fun D =>
      fk_jump cut_522_102 rfl rfl)
theorem e_522_102 (d : Nat) (x1 s0 s1 : Int) {h : fi_H} (H : Shp h) : c_522_102 d x1 s0 s1 h =
  dv_ (fi_vt 348 (h 0 s0.toNat 0)) fun m4 => cv_ (fj_run d m4 h [(4, s0), (0, s1), (0, 4), (0, h 396 602 0)])
    (fun h1 =>
    if h1 394 602 0 = 3 then
      if 0 ≤ wI (21 + x1) ∧ wI (21 + x1) < 42 then
      lt_ (fi_upd h1 10 604 (wI (21 + x1)).toNat 0) fun h5 =>
      ca_ (fj_run d 510 h5 [(4, 602), (1, 1), (1, 31)]) 1
        (fun v8 h7 =>
        lt_ (fi_upd h7 10 605 (wI (21 + x1)).toNat (wI v8)) fun h10 =>
        if h10 394 602 0 = 3 then
          c_522_159 d x1 (wI (21 + x1)) 602 1 h10
        else
          c_522_159 d x1 (wI (21 + x1)) 602 0 h10)
        (fun q9 h7 => tx_ q9 h7)
      else none
    else
      ca_ (fj_run d 511 h1 [(4, 602), (0, 59)]) 0
        (fun v12 h11 =>
        if v12 = 0 then
          ca_ (fj_run d 499 h11 [(4, 602), (0, 40)]) 0
            (fun v15 h14 =>
            if v15 = 0 then
              c_522_334 d x1 (wI (21 + x1)) 604 (wI (21 + x1)) 3 h14
            else
              c_522_334 d x1 (wI (21 + x1)) 604 (wI (21 + x1)) 2 h14)
            (fun q16 h14 => tx_ q16 h14)
        else
          if 0 ≤ wI (21 + x1) ∧ wI (21 + x1) < 42 then
          lt_ (fi_upd h11 10 604 (wI (21 + x1)).toNat 1) fun h17 =>
          lt_ (fi_upd h17 10 605 (wI (21 + x1)).toNat 0) fun h19 =>
          ca_ (fj_run d 499 h19 [(4, 602), (0, 61)]) 0
            (fun v21 h20 =>
            if v21 = 0 then
              ca_ (fj_run d 499 h20 [(4, 602), (0, 60)]) 0
                (fun v24 h23 =>
                if v24 = 0 then
                  c_522_312 d x1 h23
                else
                  c_522_278 d x1 (wI (21 + x1)) v21 h23)
                (fun q25 h23 => tx_ q25 h23)
            else
              c_522_278 d x1 (wI (21 + x1)) v21 h20)
            (fun q22 h20 => tx_ q22 h20)
          else none)
        (fun q13 h11 => tx_ q13 h11))
    (fun q3 h1 => tx_ q3 h1) := by
  unfold c_522_102
  exact
    have D : fk_D 522 [(102, some [0, 1], .iconst 4, 1, 0, 4, 0), (103, none, .aload_n 0, 1, 0, 0, 0), (104, none, .getfield 507, 3, 396, 129, 10), (107, none, .invokevirtual 557, 3, 3, 348, 0), (110, none, .bipush 21, 2, 0, 21, 0), (112, none, .iload_n 1, 1, 0, 0, 0), (113, none, .iadd, 1, 0, 0, 0), (114, none, .istore_n 3, 1, 0, 0, 0), (115, none, .aload_n 0, 1, 0, 0, 0), (116, none, .getfield 513, 3, 394, 129, 10), (119, none, .iconst 3, 1, 0, 3, 0), (120, none, .if_icmp .ne 113, 3, 233, 0, 0), (123, none, .aload_n 0, 1, 0, 0, 0), (124, none, .getfield 16, 3, 387, 129, 12), (127, none, .iload_n 3, 1, 0, 0, 0), (128, none, .iconst 0, 1, 0, 0, 0), (129, none, .iastore, 1, 0, 0, 0), (130, none, .aload_n 0, 1, 0, 0, 0), (131, none, .getfield 20, 3, 388, 129, 12), (134, none, .iload_n 3, 1, 0, 0, 0)] := fq_of2 cd_522 ow_522 cl_522 rfl (pc := 102) (by decide +kernel)
    j_ic (pc := 102) D rfl fun D =>
    j_aldn (pc := 103) D rfl rfl rfl fun D =>
    j_gf (pc := 104) (a := 602) D rfl rfl (by decide) rfl (s0_602 H) rfl fun D =>
    j_ivuv (pc := 107) (dd := 348) (a := [(0, s1), (0, 4), (0, h 396 602 0)]) (rest := []) H.2.1 D rfl rfl rfl rfl rfl (fun m4 h1 e1 D =>
      have T := fj_run_ok _ _ _ _ _ _ H.1 e1
      have H := shp_st H T
      j_bp (pc := 110) D rfl fun D =>
      j_ildn (pc := 112) D rfl rfl rfl fun D =>
      j_iadd (pc := 113) D rfl fun D =>
      j_istn (pc := 114) (L' := [(3, (0, wI (21 + x1))), (0, (4, 602)), (1, (0, x1))]) D rfl nl_522 rfl rfl fun D =>
      j_aldn (pc := 115) D rfl rfl rfl fun D =>
      j_gf (pc := 116) (a := 602) D rfl rfl (by decide) rfl (s0_602 H) rfl fun D =>
      j_ic (pc := 119) D rfl fun D =>
      j_ine (pc := 120) D rfl (fun q D =>
        j_aldn (pc := 123) D rfl rfl rfl fun D =>
        j_gfc (pc := 124) (a := 602) D rfl rfl (by decide) rfl (s0_602 H) rfl (sf_387_602 H) fun D =>
        j_ildn (pc := 127) D rfl rfl rfl fun D =>
        j_ic (pc := 128) D rfl fun D =>
        j_as (pc := 129) (a := 604) (e := 10) D rfl ⟨rfl, rfl⟩ rfl (by decide) (s0_604 H) (s1_604 H) ⟨rfl, rfl, rfl⟩ rfl gn (gy rfl) fun h5 eh5 S qb6 D =>
        have T := fj_hs_ok H.1 S
        have H := shp_st H T
        j_aldn (pc := 130) D rfl rfl rfl fun D =>
        j_gfc (pc := 131) (a := 602) D rfl rfl (by decide) rfl (s0_602 H) rfl (sf_388_602 H) fun D =>
        j_ildn (pc := 134) D rfl rfl rfl fun D =>
        have D : fk_D 522 [(135, none, .aload_n 0, 1, 0, 0, 0), (136, none, .lconst 1, 1, 0, 0, 0), (137, none, .ldc2_w 655, 3, 1, 31, 0), (140, none, .invokevirtual 640, 3, 2, 360, 2), (143, none, .l2i, 1, 0, 0, 0), (144, none, .iastore, 1, 0, 0, 0), (145, none, .aload_n 0, 1, 0, 0, 0), (146, none, .aload_n 0, 1, 0, 0, 0), (147, none, .getfield 513, 3, 394, 129, 10), (150, none, .iconst 3, 1, 0, 3, 0), (151, none, .if_icmp .ne 7, 3, 158, 0, 0), (154, none, .iconst 1, 1, 0, 1, 0), (155, none, .goto 4, 3, 159, 0, 0)] := fq_of2 cd_522 ow_522 cl_522 rfl (pc := 135) (by decide +kernel)
        j_aldn (pc := 135) D rfl rfl rfl fun D =>
        j_c0 (pc := 136) (v := (1, 1)) D rfl rfl (by decide +kernel) fun D =>
        j_ldc2 (pc := 137) D rfl fun D =>
        j_iv (pc := 140) (m := 510) (dd := 360) (a := [(1, 1), (1, 31)]) (rest := [(0, wI (21 + x1)), (4, 605)]) D rfl rfl rfl rfl rfl (by decide) (s0_602 H) (by decide +kernel) (fun v8 h7 e1 D =>
          have T := fj_run_ok _ _ _ _ _ _ H.1 e1
          have H := shp_st H T
          j_l2i (pc := 143) D rfl fun D =>
          j_as (pc := 144) (a := 605) (e := 10) D rfl ⟨rfl, rfl⟩ rfl (by decide) (s0_605 H) (s1_605 H) ⟨rfl, rfl, rfl⟩ rfl (gy qb6) (gy rfl) fun h10 eh10 S q D =>
          have T := fj_hs_ok H.1 S
          have H := shp_st H T
          j_aldn (pc := 145) D rfl rfl rfl fun D =>
          j_aldn (pc := 146) D rfl rfl rfl fun D =>
          j_gf (pc := 147) (a := 602) D rfl rfl (by decide) rfl (s0_602 H) rfl fun D =>
          j_ic (pc := 150) D rfl fun D =>
          j_ine (pc := 151) D rfl (fun q D =>
            j_ic (pc := 154) D rfl fun D =>
            j_goto (pc := 155) D rfl <|
            fk_jump cut_522_159 rfl rfl) (fun q =>
            have D : fk_D 522 [(158, none, .iconst 0, 1, 0, 0, 0)] := fq_of2 cd_522 ow_522 cl_522 rfl (pc := 158) (by decide +kernel)
            j_ic (pc := 158) D rfl fun D =>
            fk_jump cut_522_159 rfl rfl)) (fun q9 h7 e1 =>
          j_tx (hx_522 _))) (fun q =>
        have D : fk_D 522 [(233, none, .aload_n 0, 1, 0, 0, 0), (234, none, .bipush 59, 2, 0, 59, 0), (236, none, .invokevirtual 643, 3, 1, 361, 1), (239, none, .ifCond .eq 76, 3, 315, 0, 0), (242, none, .aload_n 0, 1, 0, 0, 0), (243, none, .getfield 16, 3, 387, 129, 12), (246, none, .iload_n 3, 1, 0, 0, 0), (247, none, .iconst 1, 1, 0, 1, 0), (248, none, .iastore, 1, 0, 0, 0), (249, none, .aload_n 0, 1, 0, 0, 0), (250, none, .getfield 20, 3, 388, 129, 12), (253, none, .iload_n 3, 1, 0, 0, 0), (254, none, .iconst 0, 1, 0, 0, 0), (255, none, .iastore, 1, 0, 0, 0), (256, none, .aload_n 0, 1, 0, 0, 0), (257, none, .bipush 61, 2, 0, 61, 0), (259, none, .invokevirtual 570, 3, 1, 352, 1), (262, none, .istore 4, 2, 0, 0, 0), (264, none, .iload 4, 2, 0, 0, 0), (266, none, .ifCond .ne 12, 3, 278, 0, 0)] := fq_of2 cd_522 ow_522 cl_522 rfl (pc := 233) (by decide +kernel)
        j_aldn (pc := 233) D rfl rfl rfl fun D =>
        j_bp (pc := 234) D rfl fun D =>
        j_iv (pc := 236) (m := 511) (dd := 361) (a := [(0, 59)]) (rest := []) D rfl rfl rfl rfl rfl (by decide) (s0_602 H) (by decide +kernel) (fun v12 h11 e1 D =>
          have T := fj_run_ok _ _ _ _ _ _ H.1 e1
          have H := shp_st H T
          j_ifeq (pc := 239) D rfl (fun q =>
            have D : fk_D 522 [(315, none, .aload_n 0, 1, 0, 0, 0), (316, none, .getfield 16, 3, 387, 129, 12), (319, none, .iload_n 3, 1, 0, 0, 0), (320, none, .aload_n 0, 1, 0, 0, 0), (321, none, .bipush 40, 2, 0, 40, 0), (323, none, .invokevirtual 570, 3, 1, 352, 1), (326, none, .ifCond .eq 7, 3, 333, 0, 0), (329, none, .iconst 2, 1, 0, 2, 0), (330, none, .goto 4, 3, 334, 0, 0)] := fq_of2 cd_522 ow_522 cl_522 rfl (pc := 315) (by decide +kernel)
            j_aldn (pc := 315) D rfl rfl rfl fun D =>
            j_gfc (pc := 316) (a := 602) D rfl rfl (by decide) rfl (s0_602 H) rfl (sf_387_602 H) fun D =>
            j_ildn (pc := 319) D rfl rfl rfl fun D =>
            j_aldn (pc := 320) D rfl rfl rfl fun D =>
            j_bp (pc := 321) D rfl fun D =>
            j_iv (pc := 323) (m := 499) (dd := 352) (a := [(0, 40)]) (rest := [(0, wI (21 + x1)), (4, 604)]) D rfl rfl rfl rfl rfl (by decide) (s0_602 H) (by decide +kernel) (fun v15 h14 e1 D =>
              have T := fj_run_ok _ _ _ _ _ _ H.1 e1
              have H := shp_st H T
              j_ifeq (pc := 326) D rfl (fun q =>
                have D : fk_D 522 [(333, none, .iconst 3, 1, 0, 3, 0)] := fq_of2 cd_522 ow_522 cl_522 rfl (pc := 333) (by decide +kernel)
                j_ic (pc := 333) D rfl fun D =>
                fk_jump cut_522_334 rfl rfl) (fun q D =>
                j_ic (pc := 329) D rfl fun D =>
                j_goto (pc := 330) D rfl <|
                fk_jump cut_522_334 rfl rfl)) (fun q16 h14 e1 =>
              j_tx (hx_522 _))) (fun q D =>
            j_aldn (pc := 242) D rfl rfl rfl fun D =>
            j_gfc (pc := 243) (a := 602) D rfl rfl (by decide) rfl (s0_602 H) rfl (sf_387_602 H) fun D =>
            j_ildn (pc := 246) D rfl rfl rfl fun D =>
            j_ic (pc := 247) D rfl fun D =>
            j_as (pc := 248) (a := 604) (e := 10) D rfl ⟨rfl, rfl⟩ rfl (by decide) (s0_604 H) (s1_604 H) ⟨rfl, rfl, rfl⟩ rfl gn (gy rfl) fun h17 eh17 S qb18 D =>
            have T := fj_hs_ok H.1 S
            have H := shp_st H T
            j_aldn (pc := 249) D rfl rfl rfl fun D =>
            j_gfc (pc := 250) (a := 602) D rfl rfl (by decide) rfl (s0_602 H) rfl (sf_388_602 H) fun D =>
            j_ildn (pc := 253) D rfl rfl rfl fun D =>
            j_ic (pc := 254) D rfl fun D =>
            j_as (pc := 255) (a := 605) (e := 10) D rfl ⟨rfl, rfl⟩ rfl (by decide) (s0_605 H) (s1_605 H) ⟨rfl, rfl, rfl⟩ rfl (gy qb18) (gy rfl) fun h19 eh19 S q D =>
            have T := fj_hs_ok H.1 S
            have H := shp_st H T
            j_aldn (pc := 256) D rfl rfl rfl fun D =>
            j_bp (pc := 257) D rfl fun D =>
            j_iv (pc := 259) (m := 499) (dd := 352) (a := [(0, 61)]) (rest := []) D rfl rfl rfl rfl rfl (by decide) (s0_602 H) (by decide +kernel) (fun v21 h20 e1 D =>
              have T := fj_run_ok _ _ _ _ _ _ H.1 e1
              have H := shp_st H T
              j_ist (pc := 262) (L' := [(4, (0, v21)), (3, (0, wI (21 + x1))), (0, (4, 602)), (1, (0, x1))]) D rfl nl_522 rfl rfl fun D =>
              j_ild (pc := 264) D rfl rfl rfl fun D =>
              j_ifne (pc := 266) D rfl (fun q D =>
                have D : fk_D 522 [(269, none, .aload_n 0, 1, 0, 0, 0), (270, none, .bipush 60, 2, 0, 60, 0), (272, none, .invokevirtual 570, 3, 1, 352, 1), (275, none, .ifCond .eq 37, 3, 312, 0, 0)] := fq_of2 cd_522 ow_522 cl_522 rfl (pc := 269) (by decide +kernel)
                j_aldn (pc := 269) D rfl rfl rfl fun D =>
                j_bp (pc := 270) D rfl fun D =>
                j_iv (pc := 272) (m := 499) (dd := 352) (a := [(0, 60)]) (rest := []) D rfl rfl rfl rfl rfl (by decide) (s0_602 H) (by decide +kernel) (fun v24 h23 e1 D =>
                  have T := fj_run_ok _ _ _ _ _ _ H.1 e1
                  have H := shp_st H T
                  j_ifeq (pc := 275) D rfl (fun q =>
                    fk_jump cut_522_312 rfl rfl) (fun q D =>
                    fk_jump cut_522_278 rfl rfl)) (fun q25 h23 e1 =>
                  j_tx (hx_522 _))) (fun q =>
                fk_jump cut_522_278 rfl rfl)) (fun q22 h20 e1 =>
              j_tx (hx_522 _)))) (fun q13 h11 e1 =>
          j_tx (hx_522 _)))) (fun m4 q3 h1 e1 =>
      j_tx (hx_522 _))
theorem e_522_159 (d : Nat) (x1 x3 s0 s1 : Int) {h : fi_H} (H : Shp h) : c_522_159 d x1 x3 s0 s1 h =
  dv_ (fi_vt 348 (h 0 s0.toNat 0)) fun m4 => cv_ (fj_run d m4 h [(4, s0), (0, s1), (0, 1), (0, h 396 602 0)])
    (fun h1 =>
    ca_ (fj_run d 508 h1 [(1, h1 399 602 0), (1, 1), (1, 12)]) 0
      (fun v6 h5 =>
      if v6 = 0 then
        c_522_206 d x1 x3 602 h5
      else
        if 0 ≤ x3 ∧ x3 < 42 then
        ca_ (fj_run d 516 h5 [(0, 2000), (0, wI (h5 399 602 0))]) 0
          (fun v10 h9 =>
          if v10 < h5 10 605 x3.toNat then
            c_522_206 d x1 x3 602 h9
          else
            c_522_207 d x1 x3 602 1 h9)
          (fun q11 h9 => tx_ q11 h9)
        else none)
      (fun q7 h5 => tx_ q7 h5))
    (fun q3 h1 => tx_ q3 h1) := by
  unfold c_522_159
  exact
    have D : fk_D 522 [(159, some [0, 1, 3], .iconst 1, 1, 0, 1, 0), (160, none, .aload_n 0, 1, 0, 0, 0), (161, none, .getfield 507, 3, 396, 129, 10), (164, none, .invokevirtual 557, 3, 3, 348, 0), (167, none, .aload_n 0, 1, 0, 0, 0), (168, none, .aload_n 0, 1, 0, 0, 0), (169, none, .getfield 550, 3, 399, 129, 11), (172, none, .lconst 1, 1, 0, 0, 0), (173, none, .ldc2_w 590, 3, 1, 12, 0), (176, none, .invokestatic 434, 3, 3, 508, 1), (179, none, .ifCond .eq 27, 3, 206, 0, 0), (182, none, .aload_n 0, 1, 0, 0, 0), (183, none, .getfield 20, 3, 388, 129, 12), (186, none, .iload_n 3, 1, 0, 0, 0), (187, none, .iaload, 1, 0, 0, 0), (188, none, .sipush 2000, 3, 0, 2000, 0), (191, none, .aload_n 0, 1, 0, 0, 0), (192, none, .getfield 550, 3, 399, 129, 11), (195, none, .l2i, 1, 0, 0, 0), (196, none, .invokestatic 419, 3, 2, 516, 1)] := fq_of2 cd_522 ow_522 cl_522 rfl (pc := 159) (by decide +kernel)
    j_ic (pc := 159) D rfl fun D =>
    j_aldn (pc := 160) D rfl rfl rfl fun D =>
    j_gf (pc := 161) (a := 602) D rfl rfl (by decide) rfl (s0_602 H) rfl fun D =>
    j_ivuv (pc := 164) (dd := 348) (a := [(0, s1), (0, 1), (0, h 396 602 0)]) (rest := []) H.2.1 D rfl rfl rfl rfl rfl (fun m4 h1 e1 D =>
      have T := fj_run_ok _ _ _ _ _ _ H.1 e1
      have H := shp_st H T
      j_aldn (pc := 167) D rfl rfl rfl fun D =>
      j_aldn (pc := 168) D rfl rfl rfl fun D =>
      j_gf (pc := 169) (a := 602) D rfl rfl (by decide) rfl (s0_602 H) rfl fun D =>
      j_c0 (pc := 172) (v := (1, 1)) D rfl rfl (by decide +kernel) fun D =>
      j_ldc2 (pc := 173) D rfl fun D =>
      j_is (pc := 176) (m := 508) (a := [(1, h1 399 602 0), (1, 1), (1, 12)]) (rest := [(4, 602)]) D rfl rfl rfl rfl (fun v6 h5 e1 D =>
        have T := fj_run_ok _ _ _ _ _ _ H.1 e1
        have H := shp_st H T
        j_ifeq (pc := 179) D rfl (fun q =>
          fk_jump cut_522_206 rfl rfl) (fun q D =>
          j_aldn (pc := 182) D rfl rfl rfl fun D =>
          j_gfc (pc := 183) (a := 602) D rfl rfl (by decide) rfl (s0_602 H) rfl (sf_388_602 H) fun D =>
          j_ildn (pc := 186) D rfl rfl rfl fun D =>
          j_al (pc := 187) (a := 605) (e := 10) D rfl rfl rfl (by decide) (s0_605 H) (s1_605 H) ⟨rfl, rfl, rfl⟩ rfl gn fun qb8 D =>
          j_sp (pc := 188) D rfl fun D =>
          j_aldn (pc := 191) D rfl rfl rfl fun D =>
          j_gf (pc := 192) (a := 602) D rfl rfl (by decide) rfl (s0_602 H) rfl fun D =>
          j_l2i (pc := 195) D rfl fun D =>
          j_is (pc := 196) (m := 516) (a := [(0, 2000), (0, wI (h5 399 602 0))]) (rest := [(0, h5 10 605 x3.toNat), (4, 602)]) D rfl rfl rfl rfl (fun v10 h9 e1 D =>
            have T := fj_run_ok _ _ _ _ _ _ H.1 e1
            have H := shp_st H T
            have D : fk_D 522 [(199, none, .if_icmp .gt 7, 3, 206, 0, 0), (202, none, .iconst 1, 1, 0, 1, 0), (203, none, .goto 4, 3, 207, 0, 0)] := fq_of2 cd_522 ow_522 cl_522 rfl (pc := 199) (by decide +kernel)
            j_igt (pc := 199) D rfl (fun q =>
              fk_jump cut_522_206 rfl rfl) (fun q D =>
              j_ic (pc := 202) D rfl fun D =>
              j_goto (pc := 203) D rfl <|
              fk_jump cut_522_207 rfl rfl)) (fun q11 h9 e1 =>
            j_tx (hx_522 _)))) (fun q7 h5 e1 =>
        j_tx (hx_522 _))) (fun m4 q3 h1 e1 =>
      j_tx (hx_522 _))
theorem e_522_206 (d : Nat) (x1 x3 s0 : Int) {h : fi_H} (H : Shp h) : c_522_206 d x1 x3 s0 h =
  c_522_207 d x1 x3 s0 0 h := by
  unfold c_522_206
  exact
    have D : fk_D 522 [(206, some [0, 1, 3], .iconst 0, 1, 0, 0, 0)] := fq_of2 cd_522 ow_522 cl_522 rfl (pc := 206) (by decide +kernel)
    j_ic (pc := 206) D rfl fun D =>
    fk_jump cut_522_207 rfl rfl
theorem e_522_207 (d : Nat) (x1 x3 s0 s1 : Int) {h : fi_H} (H : Shp h) : c_522_207 d x1 x3 s0 s1 h =
  dv_ (fi_vt 348 (h 0 s0.toNat 0)) fun m4 => cv_ (fj_run d m4 h [(4, s0), (0, s1), (0, 3), (0, h 396 602 0)])
    (fun h1 =>
    if 0 ≤ x3 ∧ x3 < 42 then
    lt_ (fi_upd h1 10 606 x3.toNat (wI (h1 399 602 0))) fun h5 =>
    cv_ (fj_run d 502 h5 [(4, 602)])
      (fun h7 =>
      c_522_416 d x1 h7)
      (fun q9 h7 => tx_ q9 h7)
    else none)
    (fun q3 h1 => tx_ q3 h1) := by
  unfold c_522_207
  exact
    have D : fk_D 522 [(207, some [0, 1, 3], .iconst 3, 1, 0, 3, 0), (208, none, .aload_n 0, 1, 0, 0, 0), (209, none, .getfield 507, 3, 396, 129, 10), (212, none, .invokevirtual 557, 3, 3, 348, 0), (215, none, .aload_n 0, 1, 0, 0, 0), (216, none, .getfield 23, 3, 389, 129, 12), (219, none, .iload_n 3, 1, 0, 0, 0), (220, none, .aload_n 0, 1, 0, 0, 0), (221, none, .getfield 550, 3, 399, 129, 11), (224, none, .l2i, 1, 0, 0, 0), (225, none, .iastore, 1, 0, 0, 0), (226, none, .aload_n 0, 1, 0, 0, 0), (227, none, .invokevirtual 567, 3, 0, 351, 0), (230, none, .goto 186, 3, 416, 0, 0)] := fq_of2 cd_522 ow_522 cl_522 rfl (pc := 207) (by decide +kernel)
    j_ic (pc := 207) D rfl fun D =>
    j_aldn (pc := 208) D rfl rfl rfl fun D =>
    j_gf (pc := 209) (a := 602) D rfl rfl (by decide) rfl (s0_602 H) rfl fun D =>
    j_ivuv (pc := 212) (dd := 348) (a := [(0, s1), (0, 3), (0, h 396 602 0)]) (rest := []) H.2.1 D rfl rfl rfl rfl rfl (fun m4 h1 e1 D =>
      have T := fj_run_ok _ _ _ _ _ _ H.1 e1
      have H := shp_st H T
      j_aldn (pc := 215) D rfl rfl rfl fun D =>
      j_gfc (pc := 216) (a := 602) D rfl rfl (by decide) rfl (s0_602 H) rfl (sf_389_602 H) fun D =>
      j_ildn (pc := 219) D rfl rfl rfl fun D =>
      j_aldn (pc := 220) D rfl rfl rfl fun D =>
      j_gf (pc := 221) (a := 602) D rfl rfl (by decide) rfl (s0_602 H) rfl fun D =>
      j_l2i (pc := 224) D rfl fun D =>
      j_as (pc := 225) (a := 606) (e := 10) D rfl ⟨rfl, rfl⟩ rfl (by decide) (s0_606 H) (s1_606 H) ⟨rfl, rfl, rfl⟩ rfl gn (gy rfl) fun h5 eh5 S qb6 D =>
      have T := fj_hs_ok H.1 S
      have H := shp_st H T
      j_aldn (pc := 226) D rfl rfl rfl fun D =>
      j_ivv (pc := 227) (m := 502) (dd := 351) (a := []) (rest := []) D rfl rfl rfl rfl rfl (by decide) (s0_602 H) (by decide +kernel) (fun h7 e1 D =>
        have T := fj_run_ok _ _ _ _ _ _ H.1 e1
        have H := shp_st H T
        j_goto (pc := 230) D rfl <|
        fk_jump cut_522_416 rfl rfl) (fun q9 h7 e1 =>
        j_tx (hx_522 _))) (fun m4 q3 h1 e1 =>
      j_tx (hx_522 _))
theorem e_522_278 (d : Nat) (x1 x3 x4 : Int) {h : fi_H} (H : Shp h) : c_522_278 d x1 x3 x4 h =
  cv_ (fj_run d 502 h [(4, 602)])
    (fun h1 =>
    ca_ (fj_run d 510 h1 [(4, 602), (1, 0), (1, 100)]) 1
      (fun v5 h4 =>
      if x4 = 0 then
        c_522_311 d x1 605 x3 (wI v5) h4
      else
        c_522_311 d x1 605 x3 (wI (-(wI v5))) h4)
      (fun q6 h4 => tx_ q6 h4))
    (fun q3 h1 => tx_ q3 h1) := by
  unfold c_522_278
  exact
    have D : fk_D 522 [(278, some [0, 1, 3, 4], .aload_n 0, 1, 0, 0, 0), (279, none, .invokevirtual 567, 3, 0, 351, 0), (282, none, .aload_n 0, 1, 0, 0, 0), (283, none, .lconst 0, 1, 0, 0, 0), (284, none, .ldc2_w 555, 3, 1, 100, 0), (287, none, .invokevirtual 640, 3, 2, 360, 2), (290, none, .l2i, 1, 0, 0, 0), (291, none, .istore 5, 2, 0, 0, 0), (293, none, .aload_n 0, 1, 0, 0, 0), (294, none, .getfield 20, 3, 388, 129, 12), (297, none, .iload_n 3, 1, 0, 0, 0), (298, none, .iload 4, 2, 0, 0, 0), (300, none, .ifCond .eq 9, 3, 309, 0, 0), (303, none, .iload 5, 2, 0, 0, 0), (305, none, .ineg, 1, 0, 0, 0), (306, none, .goto 5, 3, 311, 0, 0)] := fq_of2 cd_522 ow_522 cl_522 rfl (pc := 278) (by decide +kernel)
    j_aldn (pc := 278) D rfl rfl rfl fun D =>
    j_ivv (pc := 279) (m := 502) (dd := 351) (a := []) (rest := []) D rfl rfl rfl rfl rfl (by decide) (s0_602 H) (by decide +kernel) (fun h1 e1 D =>
      have T := fj_run_ok _ _ _ _ _ _ H.1 e1
      have H := shp_st H T
      j_aldn (pc := 282) D rfl rfl rfl fun D =>
      j_c0 (pc := 283) (v := (1, 0)) D rfl rfl (by decide +kernel) fun D =>
      j_ldc2 (pc := 284) D rfl fun D =>
      j_iv (pc := 287) (m := 510) (dd := 360) (a := [(1, 0), (1, 100)]) (rest := []) D rfl rfl rfl rfl rfl (by decide) (s0_602 H) (by decide +kernel) (fun v5 h4 e1 D =>
        have T := fj_run_ok _ _ _ _ _ _ H.1 e1
        have H := shp_st H T
        j_l2i (pc := 290) D rfl fun D =>
        j_ist (pc := 291) (L' := [(5, (0, wI v5)), (0, (4, 602)), (1, (0, x1)), (3, (0, x3)), (4, (0, x4))]) D rfl nl_522 rfl rfl fun D =>
        j_aldn (pc := 293) D rfl rfl rfl fun D =>
        j_gfc (pc := 294) (a := 602) D rfl rfl (by decide) rfl (s0_602 H) rfl (sf_388_602 H) fun D =>
        j_ildn (pc := 297) D rfl rfl rfl fun D =>
        j_ild (pc := 298) D rfl rfl rfl fun D =>
        j_ifeq (pc := 300) D rfl (fun q =>
          have D : fk_D 522 [(309, none, .iload 5, 2, 0, 0, 0)] := fq_of2 cd_522 ow_522 cl_522 rfl (pc := 309) (by decide +kernel)
          j_ild (pc := 309) D rfl rfl rfl fun D =>
          fk_jump cut_522_311 rfl rfl) (fun q D =>
          j_ild (pc := 303) D rfl rfl rfl fun D =>
          j_ineg (pc := 305) D rfl fun D =>
          j_goto (pc := 306) D rfl <|
          fk_jump cut_522_311 rfl rfl)) (fun q6 h4 e1 =>
        j_tx (hx_522 _))) (fun q3 h1 e1 =>
      j_tx (hx_522 _))
theorem e_522_311 (d : Nat) (x1 s0 s1 s2 : Int) {h : fi_H} (H : Shp h) : c_522_311 d x1 s0 s1 s2 h =
  if 302 < s0 ∧ h 0 s0.toNat 0 = 10 then
  if 0 ≤ s1 ∧ s1 < h 1 s0.toNat 0 then
  lt_ (fi_upd h 10 s0.toNat s1.toNat s2) fun h1 =>
  c_522_312 d x1 h1
  else none
  else none := by
  unfold c_522_311
  exact
    have D : fk_D 522 [(311, some [0, 1], .iastore, 1, 0, 0, 0)] := fq_of2 cd_522 ow_522 cl_522 rfl (pc := 311) (by decide +kernel)
    j_asu (pc := 311) (e := 10) D rfl rfl ⟨rfl, rfl, rfl⟩ rfl gn gn (gy rfl) fun h1 eh1 S q q2 D =>
    have T := fj_hs_ok H.1 S
    have H := shp_st H T
    fk_jump cut_522_312 rfl rfl
theorem e_522_312 (d : Nat) (x1 : Int) {h : fi_H} (H : Shp h) : c_522_312 d x1 h =
  c_522_416 d x1 h := by
  unfold c_522_312
  exact
    have D : fk_D 522 [(312, some [0, 1], .goto 104, 3, 416, 0, 0)] := fq_of2 cd_522 ow_522 cl_522 rfl (pc := 312) (by decide +kernel)
    j_goto (pc := 312) D rfl <|
    fk_jump cut_522_416 rfl rfl
theorem e_522_334 (d : Nat) (x1 x3 s0 s1 s2 : Int) {h : fi_H} (H : Shp h) : c_522_334 d x1 x3 s0 s1 s2 h =
  if 302 < s0 ∧ h 0 s0.toNat 0 = 10 then
  if 0 ≤ s1 ∧ s1 < h 1 s0.toNat 0 then
  lt_ (fi_upd h 10 s0.toNat s1.toNat s2) fun h1 =>
  cv_ (fj_run d 502 h1 [(4, 602)])
    (fun h2 =>
    if h2 394 602 0 = 2 then
      ca_ (fj_run d 508 h2 [(1, wI (h2 395 602 0)), (1, 62), (1, 68)]) 0
        (fun v6 h5 =>
        if v6 = 0 then
          c_522_369 d x1 x3 602 h5
        else
          c_522_370 d x1 x3 602 1 h5)
        (fun q7 h5 => tx_ q7 h5)
    else
      c_522_369 d x1 x3 602 h2)
    (fun q4 h2 => tx_ q4 h2)
  else none
  else none := by
  unfold c_522_334
  exact
    have D : fk_D 522 [(334, some [0, 1, 3], .iastore, 1, 0, 0, 0), (335, none, .aload_n 0, 1, 0, 0, 0), (336, none, .invokevirtual 567, 3, 0, 351, 0), (339, none, .aload_n 0, 1, 0, 0, 0), (340, none, .aload_n 0, 1, 0, 0, 0), (341, none, .getfield 513, 3, 394, 129, 10), (344, none, .iconst 2, 1, 0, 2, 0), (345, none, .if_icmp .ne 24, 3, 369, 0, 0), (348, none, .aload_n 0, 1, 0, 0, 0), (349, none, .getfield 531, 3, 395, 129, 10), (352, none, .i2l, 1, 0, 0, 0), (353, none, .ldc2_w 657, 3, 1, 62, 0), (356, none, .ldc2_w 659, 3, 1, 68, 0), (359, none, .invokestatic 434, 3, 3, 508, 1), (362, none, .ifCond .eq 7, 3, 369, 0, 0), (365, none, .iconst 1, 1, 0, 1, 0), (366, none, .goto 4, 3, 370, 0, 0)] := fq_of2 cd_522 ow_522 cl_522 rfl (pc := 334) (by decide +kernel)
    j_asu (pc := 334) (e := 10) D rfl rfl ⟨rfl, rfl, rfl⟩ rfl gn gn (gy rfl) fun h1 eh1 S q q2 D =>
    have T := fj_hs_ok H.1 S
    have H := shp_st H T
    j_aldn (pc := 335) D rfl rfl rfl fun D =>
    j_ivv (pc := 336) (m := 502) (dd := 351) (a := []) (rest := []) D rfl rfl rfl rfl rfl (by decide) (s0_602 H) (by decide +kernel) (fun h2 e1 D =>
      have T := fj_run_ok _ _ _ _ _ _ H.1 e1
      have H := shp_st H T
      j_aldn (pc := 339) D rfl rfl rfl fun D =>
      j_aldn (pc := 340) D rfl rfl rfl fun D =>
      j_gf (pc := 341) (a := 602) D rfl rfl (by decide) rfl (s0_602 H) rfl fun D =>
      j_ic (pc := 344) D rfl fun D =>
      j_ine (pc := 345) D rfl (fun q D =>
        j_aldn (pc := 348) D rfl rfl rfl fun D =>
        j_gf (pc := 349) (a := 602) D rfl rfl (by decide) rfl (s0_602 H) rfl fun D =>
        j_i2l (pc := 352) D rfl fun D =>
        j_ldc2 (pc := 353) D rfl fun D =>
        j_ldc2 (pc := 356) D rfl fun D =>
        j_is (pc := 359) (m := 508) (a := [(1, wI (h2 395 602 0)), (1, 62), (1, 68)]) (rest := [(4, 602)]) D rfl rfl rfl rfl (fun v6 h5 e1 D =>
          have T := fj_run_ok _ _ _ _ _ _ H.1 e1
          have H := shp_st H T
          j_ifeq (pc := 362) D rfl (fun q =>
            fk_jump cut_522_369 rfl rfl) (fun q D =>
            j_ic (pc := 365) D rfl fun D =>
            j_goto (pc := 366) D rfl <|
            fk_jump cut_522_370 rfl rfl)) (fun q7 h5 e1 =>
          j_tx (hx_522 _))) (fun q =>
        fk_jump cut_522_369 rfl rfl)) (fun q4 h2 e1 =>
      j_tx (hx_522 _))
theorem e_522_369 (d : Nat) (x1 x3 s0 : Int) {h : fi_H} (H : Shp h) : c_522_369 d x1 x3 s0 h =
  c_522_370 d x1 x3 s0 0 h := by
  unfold c_522_369
  exact
    have D : fk_D 522 [(369, some [0, 1, 3], .iconst 0, 1, 0, 0, 0)] := fq_of2 cd_522 ow_522 cl_522 rfl (pc := 369) (by decide +kernel)
    j_ic (pc := 369) D rfl fun D =>
    fk_jump cut_522_370 rfl rfl
theorem e_522_370 (d : Nat) (x1 x3 s0 s1 : Int) {h : fi_H} (H : Shp h) : c_522_370 d x1 x3 s0 s1 h =
  dv_ (fi_vt 348 (h 0 s0.toNat 0)) fun m4 => cv_ (fj_run d m4 h [(4, s0), (0, s1), (0, 1), (0, h 396 602 0)])
    (fun h1 =>
    if 0 ≤ x3 ∧ x3 < 42 then
    lt_ (fi_upd h1 10 605 x3.toNat (wI ((h1 395 602 0) - 62))) fun h5 =>
    cv_ (fj_run d 502 h5 [(4, 602)])
      (fun h7 =>
      cv_ (fj_run d 523 h7 [(4, 602), (0, 30)])
        (fun h10 =>
        ca_ (fj_run d 510 h10 [(4, 602), (1, 1), (1, 12)]) 1
          (fun v14 h13 =>
          lt_ (fi_upd h13 10 606 x3.toNat (wI v14)) fun h16 =>
          c_522_416 d x1 h16)
          (fun q15 h13 => tx_ q15 h13))
        (fun q12 h10 => tx_ q12 h10))
      (fun q9 h7 => tx_ q9 h7)
    else none)
    (fun q3 h1 => tx_ q3 h1) := by
  unfold c_522_370
  exact
    have D : fk_D 522 [(370, some [0, 1, 3], .iconst 1, 1, 0, 1, 0), (371, none, .aload_n 0, 1, 0, 0, 0), (372, none, .getfield 507, 3, 396, 129, 10), (375, none, .invokevirtual 557, 3, 3, 348, 0), (378, none, .aload_n 0, 1, 0, 0, 0), (379, none, .getfield 20, 3, 388, 129, 12), (382, none, .iload_n 3, 1, 0, 0, 0), (383, none, .aload_n 0, 1, 0, 0, 0), (384, none, .getfield 531, 3, 395, 129, 10), (387, none, .bipush 62, 2, 0, 62, 0), (389, none, .isub, 1, 0, 0, 0), (390, none, .iastore, 1, 0, 0, 0), (391, none, .aload_n 0, 1, 0, 0, 0), (392, none, .invokevirtual 567, 3, 0, 351, 0), (395, none, .aload_n 0, 1, 0, 0, 0), (396, none, .bipush 30, 2, 0, 30, 0), (398, none, .invokevirtual 661, 3, 1, 365, 0), (401, none, .aload_n 0, 1, 0, 0, 0), (402, none, .getfield 23, 3, 389, 129, 12), (405, none, .iload_n 3, 1, 0, 0, 0)] := fq_of2 cd_522 ow_522 cl_522 rfl (pc := 370) (by decide +kernel)
    j_ic (pc := 370) D rfl fun D =>
    j_aldn (pc := 371) D rfl rfl rfl fun D =>
    j_gf (pc := 372) (a := 602) D rfl rfl (by decide) rfl (s0_602 H) rfl fun D =>
    j_ivuv (pc := 375) (dd := 348) (a := [(0, s1), (0, 1), (0, h 396 602 0)]) (rest := []) H.2.1 D rfl rfl rfl rfl rfl (fun m4 h1 e1 D =>
      have T := fj_run_ok _ _ _ _ _ _ H.1 e1
      have H := shp_st H T
      j_aldn (pc := 378) D rfl rfl rfl fun D =>
      j_gfc (pc := 379) (a := 602) D rfl rfl (by decide) rfl (s0_602 H) rfl (sf_388_602 H) fun D =>
      j_ildn (pc := 382) D rfl rfl rfl fun D =>
      j_aldn (pc := 383) D rfl rfl rfl fun D =>
      j_gf (pc := 384) (a := 602) D rfl rfl (by decide) rfl (s0_602 H) rfl fun D =>
      j_bp (pc := 387) D rfl fun D =>
      j_isub (pc := 389) D rfl fun D =>
      j_as (pc := 390) (a := 605) (e := 10) D rfl ⟨rfl, rfl⟩ rfl (by decide) (s0_605 H) (s1_605 H) ⟨rfl, rfl, rfl⟩ rfl gn (gy rfl) fun h5 eh5 S qb6 D =>
      have T := fj_hs_ok H.1 S
      have H := shp_st H T
      j_aldn (pc := 391) D rfl rfl rfl fun D =>
      j_ivv (pc := 392) (m := 502) (dd := 351) (a := []) (rest := []) D rfl rfl rfl rfl rfl (by decide) (s0_602 H) (by decide +kernel) (fun h7 e1 D =>
        have T := fj_run_ok _ _ _ _ _ _ H.1 e1
        have H := shp_st H T
        j_aldn (pc := 395) D rfl rfl rfl fun D =>
        j_bp (pc := 396) D rfl fun D =>
        j_ivv (pc := 398) (m := 523) (dd := 365) (a := [(0, 30)]) (rest := []) D rfl rfl rfl rfl rfl (by decide) (s0_602 H) (by decide +kernel) (fun h10 e1 D =>
          have T := fj_run_ok _ _ _ _ _ _ H.1 e1
          have H := shp_st H T
          j_aldn (pc := 401) D rfl rfl rfl fun D =>
          j_gfc (pc := 402) (a := 602) D rfl rfl (by decide) rfl (s0_602 H) rfl (sf_389_602 H) fun D =>
          j_ildn (pc := 405) D rfl rfl rfl fun D =>
          have D : fk_D 522 [(406, none, .aload_n 0, 1, 0, 0, 0), (407, none, .lconst 1, 1, 0, 0, 0), (408, none, .ldc2_w 590, 3, 1, 12, 0), (411, none, .invokevirtual 640, 3, 2, 360, 2), (414, none, .l2i, 1, 0, 0, 0), (415, none, .iastore, 1, 0, 0, 0)] := fq_of2 cd_522 ow_522 cl_522 rfl (pc := 406) (by decide +kernel)
          j_aldn (pc := 406) D rfl rfl rfl fun D =>
          j_c0 (pc := 407) (v := (1, 1)) D rfl rfl (by decide +kernel) fun D =>
          j_ldc2 (pc := 408) D rfl fun D =>
          j_iv (pc := 411) (m := 510) (dd := 360) (a := [(1, 1), (1, 12)]) (rest := [(0, x3), (4, 606)]) D rfl rfl rfl rfl rfl (by decide) (s0_602 H) (by decide +kernel) (fun v14 h13 e1 D =>
            have T := fj_run_ok _ _ _ _ _ _ H.1 e1
            have H := shp_st H T
            j_l2i (pc := 414) D rfl fun D =>
            j_as (pc := 415) (a := 606) (e := 10) D rfl ⟨rfl, rfl⟩ rfl (by decide) (s0_606 H) (s1_606 H) ⟨rfl, rfl, rfl⟩ rfl (gy qb6) (gy rfl) fun h16 eh16 S q D =>
            have T := fj_hs_ok H.1 S
            have H := shp_st H T
            fk_jump cut_522_416 rfl rfl) (fun q15 h13 e1 =>
            j_tx (hx_522 _))) (fun q12 h10 e1 =>
          j_tx (hx_522 _))) (fun q9 h7 e1 =>
        j_tx (hx_522 _))) (fun m4 q3 h1 e1 =>
      j_tx (hx_522 _))
theorem e_522_416 (d : Nat) (x1 : Int) {h : fi_H} (H : Shp h) : c_522_416 d x1 h =
  cv_ (fj_run d 505 h [(4, 602), (0, 59)])
    (fun h1 =>
    c_522_2 d (wI (x1 + 1)) h1)
    (fun q3 h1 => tx_ q3 h1) := by
  unfold c_522_416
  exact
    have D : fk_D 522 [(416, some [0, 1], .aload_n 0, 1, 0, 0, 0), (417, none, .bipush 59, 2, 0, 59, 0), (419, none, .invokevirtual 624, 3, 1, 356, 0), (422, none, .iinc 1 1, 3, 0, 1, 0), (425, none, .goto (-423), 3, 2, 0, 0)] := fq_of2 cd_522 ow_522 cl_522 rfl (pc := 416) (by decide +kernel)
    j_aldn (pc := 416) D rfl rfl rfl fun D =>
    j_bp (pc := 417) D rfl fun D =>
    j_ivv (pc := 419) (m := 505) (dd := 356) (a := [(0, 59)]) (rest := []) D rfl rfl rfl rfl rfl (by decide) (s0_602 H) (by decide +kernel) (fun h1 e1 D =>
      have T := fj_run_ok _ _ _ _ _ _ H.1 e1
      have H := shp_st H T
      j_inc (pc := 422) (L' := [(1, (0, wI (x1 + 1))), (0, (4, 602))]) D rfl rfl rfl (by decide +kernel) rfl fun D =>
      j_goto (pc := 425) D rfl <|
      fk_jump cut_522_2 rfl rfl) (fun q3 h1 e1 =>
      j_tx (hx_522 _))
theorem e_522_435 (d : Nat) (x1 x2 : Int) {h : fi_H} (H : Shp h) : c_522_435 d x1 x2 h =
  if x2 < x1 then
    if 0 ≤ wI (21 + x2) ∧ wI (21 + x2) < 42 then
    if 0 ≤ x2 ∧ x2 < 42 then
    lt_ (fi_upd h 10 604 x2.toNat (h 10 604 (wI (21 + x2)).toNat)) fun h2 =>
    lt_ (fi_upd h2 10 605 x2.toNat (h2 10 605 (wI (21 + x2)).toNat)) fun h4 =>
    lt_ (fi_upd h4 10 606 x2.toNat (h4 10 606 (wI (21 + x2)).toNat)) fun h5 =>
    c_522_435 d x1 (wI (x2 + 1)) h5
    else none
    else none
  else
    c_522_491 d h := by
  unfold c_522_435
  exact
    have D : fk_D 522 [(435, some [0, 1, 2], .iload_n 2, 1, 0, 0, 0), (436, none, .iload_n 1, 1, 0, 0, 0), (437, none, .if_icmp .ge 54, 3, 491, 0, 0), (440, none, .aload_n 0, 1, 0, 0, 0), (441, none, .getfield 16, 3, 387, 129, 12), (444, none, .iload_n 2, 1, 0, 0, 0), (445, none, .aload_n 0, 1, 0, 0, 0), (446, none, .getfield 16, 3, 387, 129, 12), (449, none, .bipush 21, 2, 0, 21, 0), (451, none, .iload_n 2, 1, 0, 0, 0), (452, none, .iadd, 1, 0, 0, 0), (453, none, .iaload, 1, 0, 0, 0), (454, none, .iastore, 1, 0, 0, 0), (455, none, .aload_n 0, 1, 0, 0, 0), (456, none, .getfield 20, 3, 388, 129, 12), (459, none, .iload_n 2, 1, 0, 0, 0), (460, none, .aload_n 0, 1, 0, 0, 0), (461, none, .getfield 20, 3, 388, 129, 12), (464, none, .bipush 21, 2, 0, 21, 0), (466, none, .iload_n 2, 1, 0, 0, 0)] := fq_of2 cd_522 ow_522 cl_522 rfl (pc := 435) (by decide +kernel)
    j_ildn (pc := 435) D rfl rfl rfl fun D =>
    j_ildn (pc := 436) D rfl rfl rfl fun D =>
    j_ige (pc := 437) D rfl (fun q D =>
      j_aldn (pc := 440) D rfl rfl rfl fun D =>
      j_gfc (pc := 441) (a := 602) D rfl rfl (by decide) rfl (s0_602 H) rfl (sf_387_602 H) fun D =>
      j_ildn (pc := 444) D rfl rfl rfl fun D =>
      j_aldn (pc := 445) D rfl rfl rfl fun D =>
      j_gfc (pc := 446) (a := 602) D rfl rfl (by decide) rfl (s0_602 H) rfl (sf_387_602 H) fun D =>
      j_bp (pc := 449) D rfl fun D =>
      j_ildn (pc := 451) D rfl rfl rfl fun D =>
      j_iadd (pc := 452) D rfl fun D =>
      j_al (pc := 453) (a := 604) (e := 10) D rfl rfl rfl (by decide) (s0_604 H) (s1_604 H) ⟨rfl, rfl, rfl⟩ rfl gn fun qb1 D =>
      j_as (pc := 454) (a := 604) (e := 10) D rfl ⟨rfl, rfl⟩ rfl (by decide) (s0_604 H) (s1_604 H) ⟨rfl, rfl, rfl⟩ rfl gn (gy rfl) fun h2 eh2 S qb3 D =>
      have T := fj_hs_ok H.1 S
      have H := shp_st H T
      j_aldn (pc := 455) D rfl rfl rfl fun D =>
      j_gfc (pc := 456) (a := 602) D rfl rfl (by decide) rfl (s0_602 H) rfl (sf_388_602 H) fun D =>
      j_ildn (pc := 459) D rfl rfl rfl fun D =>
      j_aldn (pc := 460) D rfl rfl rfl fun D =>
      j_gfc (pc := 461) (a := 602) D rfl rfl (by decide) rfl (s0_602 H) rfl (sf_388_602 H) fun D =>
      j_bp (pc := 464) D rfl fun D =>
      j_ildn (pc := 466) D rfl rfl rfl fun D =>
      have D : fk_D 522 [(467, none, .iadd, 1, 0, 0, 0), (468, none, .iaload, 1, 0, 0, 0), (469, none, .iastore, 1, 0, 0, 0), (470, none, .aload_n 0, 1, 0, 0, 0), (471, none, .getfield 23, 3, 389, 129, 12), (474, none, .iload_n 2, 1, 0, 0, 0), (475, none, .aload_n 0, 1, 0, 0, 0), (476, none, .getfield 23, 3, 389, 129, 12), (479, none, .bipush 21, 2, 0, 21, 0), (481, none, .iload_n 2, 1, 0, 0, 0), (482, none, .iadd, 1, 0, 0, 0), (483, none, .iaload, 1, 0, 0, 0), (484, none, .iastore, 1, 0, 0, 0), (485, none, .iinc 2 1, 3, 0, 1, 0), (488, none, .goto (-53), 3, 435, 0, 0)] := fq_of2 cd_522 ow_522 cl_522 rfl (pc := 467) (by decide +kernel)
      j_iadd (pc := 467) D rfl fun D =>
      j_al (pc := 468) (a := 605) (e := 10) D rfl rfl rfl (by decide) (s0_605 H) (s1_605 H) ⟨rfl, rfl, rfl⟩ rfl (gy qb1) fun q D =>
      j_as (pc := 469) (a := 605) (e := 10) D rfl ⟨rfl, rfl⟩ rfl (by decide) (s0_605 H) (s1_605 H) ⟨rfl, rfl, rfl⟩ rfl (gy qb3) (gy rfl) fun h4 eh4 S q D =>
      have T := fj_hs_ok H.1 S
      have H := shp_st H T
      j_aldn (pc := 470) D rfl rfl rfl fun D =>
      j_gfc (pc := 471) (a := 602) D rfl rfl (by decide) rfl (s0_602 H) rfl (sf_389_602 H) fun D =>
      j_ildn (pc := 474) D rfl rfl rfl fun D =>
      j_aldn (pc := 475) D rfl rfl rfl fun D =>
      j_gfc (pc := 476) (a := 602) D rfl rfl (by decide) rfl (s0_602 H) rfl (sf_389_602 H) fun D =>
      j_bp (pc := 479) D rfl fun D =>
      j_ildn (pc := 481) D rfl rfl rfl fun D =>
      j_iadd (pc := 482) D rfl fun D =>
      j_al (pc := 483) (a := 606) (e := 10) D rfl rfl rfl (by decide) (s0_606 H) (s1_606 H) ⟨rfl, rfl, rfl⟩ rfl (gy qb1) fun q D =>
      j_as (pc := 484) (a := 606) (e := 10) D rfl ⟨rfl, rfl⟩ rfl (by decide) (s0_606 H) (s1_606 H) ⟨rfl, rfl, rfl⟩ rfl (gy qb3) (gy rfl) fun h5 eh5 S q D =>
      have T := fj_hs_ok H.1 S
      have H := shp_st H T
      j_inc (pc := 485) (L' := [(2, (0, wI (x2 + 1))), (0, (4, 602)), (1, (0, x1))]) D rfl rfl rfl (by decide +kernel) rfl fun D =>
      j_goto (pc := 488) D rfl <|
      fk_jump cut_522_435 rfl rfl) (fun q =>
      fk_jump cut_522_491 rfl rfl)
theorem e_522_491 (d : Nat) {h : fi_H} (H : Shp h) : c_522_491 d h =
  some (.inl none, h) := by
  unfold c_522_491
  exact
    have D : fk_D 522 [(491, some [], .return_, 1, 0, 0, 0)] := fq_of2 cd_522 ow_522 cl_522 rfl (pc := 491) (by decide +kernel)
    j_vret D rt_522
theorem m_522 (d : Nat) {h : fi_H} (H : Shp h) : fj_run (d + 1) 522 h [(4, 602)] =
  c_522_2 d 0 h := by
  rw [fj_run_eq d (by decide) h [(4, 602)] (Nat.le_of_ble_eq_true (by rw [nl_522]; rfl))]
  show gG (fj_run d) 522 0 [(0, (4, 602))] [] h = _
  exact
    have D : fk_D 522 [(0, none, .iconst 0, 1, 0, 0, 0), (1, none, .istore_n 1, 1, 0, 0, 0)] := fq_of2 cd_522 ow_522 cl_522 rfl (pc := 0) (by decide +kernel)
    j_ic (pc := 0) D rfl fun D =>
    j_istn (pc := 1) (L' := [(1, (0, 0)), (0, (4, 602))]) D rfl nl_522 rfl rfl fun D =>
    fk_jump cut_522_2 rfl rfl
/-! 523 StatuteHouseModel.word(I)V -/
theorem cd_523 : fi_code 523 = prog_69_method_33_code := rfl
theorem hx_523 : ∀ pc, fi_hat 523 pc = none := fun pc => by unfold fi_hat; rw [show fi_hh 523 = [] from rfl]; rfl
theorem rt_523 : fi_ret 523 = none := rfl
theorem nl_523 : fi_nl 523 = 2 := rfl
theorem ow_523 : fi_ow 523 = 29 := rfl
theorem cl_523 : fj_cutT.getD 523 [] = [] := rfl
theorem m_523 (d : Nat) (x1 : Int) {h : fi_H} (H : Shp h) : fj_run (d + 1) 523 h [(4, 602), (0, x1)] =
  ca_ (fj_run d 499 h [(4, 602), (0, x1)]) 0
    (fun v2 h1 =>
    cv_ (fj_run d 500 h1 [(4, 602), (0, v2), (0, 1), (0, h1 396 602 0)])
      (fun h4 =>
      cv_ (fj_run d 502 h4 [(4, 602)])
        (fun h7 =>
        some (.inl none, h7))
        (fun q9 h7 => tx_ q9 h7))
      (fun q6 h4 => tx_ q6 h4))
    (fun q3 h1 => tx_ q3 h1) := by
  rw [fj_run_eq d (by decide) h [(4, 602), (0, x1)] (Nat.le_of_ble_eq_true (by rw [nl_523]; rfl))]
  show gG (fj_run d) 523 0 [(0, (4, 602)), (1, (0, x1))] [] h = _
  exact
    have D : fk_D 523 [(0, none, .aload_n 0, 1, 0, 0, 0), (1, none, .aload_n 0, 1, 0, 0, 0), (2, none, .iload_n 1, 1, 0, 0, 0), (3, none, .invokevirtual 570, 3, 1, 352, 1), (6, none, .iconst 1, 1, 0, 1, 0), (7, none, .aload_n 0, 1, 0, 0, 0), (8, none, .getfield 507, 3, 396, 129, 10), (11, none, .invokevirtual 557, 3, 3, 348, 0), (14, none, .aload_n 0, 1, 0, 0, 0), (15, none, .invokevirtual 567, 3, 0, 351, 0), (18, none, .return_, 1, 0, 0, 0)] := fq_of2 cd_523 ow_523 cl_523 rfl (pc := 0) (by decide +kernel)
    j_aldn (pc := 0) D rfl rfl rfl fun D =>
    j_aldn (pc := 1) D rfl rfl rfl fun D =>
    j_ildn (pc := 2) D rfl rfl rfl fun D =>
    j_iv (pc := 3) (m := 499) (dd := 352) (a := [(0, x1)]) (rest := [(4, 602)]) D rfl rfl rfl rfl rfl (by decide) (s0_602 H) (by decide +kernel) (fun v2 h1 e1 D =>
      have T := fj_run_ok _ _ _ _ _ _ H.1 e1
      have H := shp_st H T
      j_ic (pc := 6) D rfl fun D =>
      j_aldn (pc := 7) D rfl rfl rfl fun D =>
      j_gf (pc := 8) (a := 602) D rfl rfl (by decide) rfl (s0_602 H) rfl fun D =>
      j_ivv (pc := 11) (m := 500) (dd := 348) (a := [(0, v2), (0, 1), (0, h1 396 602 0)]) (rest := []) D rfl rfl rfl rfl rfl (by decide) (s0_602 H) (by decide +kernel) (fun h4 e1 D =>
        have T := fj_run_ok _ _ _ _ _ _ H.1 e1
        have H := shp_st H T
        j_aldn (pc := 14) D rfl rfl rfl fun D =>
        j_ivv (pc := 15) (m := 502) (dd := 351) (a := []) (rest := []) D rfl rfl rfl rfl rfl (by decide) (s0_602 H) (by decide +kernel) (fun h7 e1 D =>
          have T := fj_run_ok _ _ _ _ _ _ H.1 e1
          have H := shp_st H T
          j_vret D rt_523) (fun q9 h7 e1 =>
          j_tx (hx_523 _))) (fun q6 h4 e1 =>
        j_tx (hx_523 _))) (fun q3 h1 e1 =>
      j_tx (hx_523 _))
/-! 524 StatuteHouseModel.enact(I)I -/
theorem cd_524 : fi_code 524 = prog_69_method_90_code := rfl
theorem rt_524 : fi_ret 524 = some .int := rfl
theorem nl_524 : fi_nl 524 = 7 := rfl
theorem ow_524 : fi_ow 524 = 29 := rfl
theorem cl_524 : fj_cutT.getD 524 [] = [(45, [0, 2, 3, 4, 5]), (75, [0, 1, 5, 6])] := rfl
theorem cut_524_45 : fj_cut 524 45 = some [0, 2, 3, 4, 5] := by decide +kernel
noncomputable def c_524_45 (d : Nat) (x2 x3 x4 x5 s0 : Int) (h : fi_H) : fk_R := gG (fj_run d) 524 45 [(0, (4, 602)), (2, (0, x2)), (3, (0, x3)), (4, (0, x4)), (5, (0, x5))] [(4, s0)] h
theorem cut_524_75 : fj_cut 524 75 = some [0, 1, 5, 6] := by decide +kernel
noncomputable def c_524_75 (d : Nat) (x1 x5 x6 : Int) (h : fi_H) : fk_R := gG (fj_run d) 524 75 [(0, (4, 602)), (1, (0, x1)), (5, (0, x5)), (6, (0, x6))] [] h
theorem e_524_45 (d : Nat) (x2 x3 x4 x5 s0 : Int) {h : fi_H} (H : Shp h) : c_524_45 d x2 x3 x4 x5 s0 h =
  lt_ (fi_upd h 426 602 0 x2) fun h1 =>
  lt_ (fi_upd h1 434 602 0 x3) fun h2 =>
  lt_ (fi_upd h2 439 602 0 x4) fun h3 =>
  lt_ (fi_upd h3 444 602 0 x5) fun h4 =>
  some (.inl (some (0, (-1))), h4) := by
  unfold c_524_45
  exact
    have D : fk_D 524 [(45, some [0, 2, 3, 4, 5], .astore 6, 2, 0, 0, 0), (47, none, .aload_n 0, 1, 0, 0, 0), (48, none, .iload_n 2, 1, 0, 0, 0), (49, none, .putfield 670, 3, 426, 129, 10), (52, none, .aload_n 0, 1, 0, 0, 0), (53, none, .iload_n 3, 1, 0, 0, 0), (54, none, .putfield 805, 3, 434, 129, 10), (57, none, .aload_n 0, 1, 0, 0, 0), (58, none, .iload 4, 2, 0, 0, 0), (60, none, .putfield 815, 3, 439, 129, 10), (63, none, .aload_n 0, 1, 0, 0, 0), (64, none, .iload 5, 2, 0, 0, 0), (66, none, .putfield 788, 3, 444, 129, 10), (69, none, .iconst (-1), 1, 0, (-1), 0), (70, none, .ireturn, 1, 0, 0, 0)] := fq_of2 cd_524 ow_524 cl_524 rfl (pc := 45) (by decide +kernel)
    j_ast (pc := 45) (L' := [(6, (4, s0)), (0, (4, 602)), (2, (0, x2)), (3, (0, x3)), (4, (0, x4)), (5, (0, x5))]) D rfl nl_524 rfl rfl fun D =>
    j_aldn (pc := 47) D rfl rfl rfl fun D =>
    j_ildn (pc := 48) D rfl rfl rfl fun D =>
    j_pf (pc := 49) (a := 602) D rfl rfl rfl (s0_602 H) rfl rfl (gy (by decide)) (gy rfl) fun h1 eh1 S D =>
    have T := fj_hs_ok H.1 S
    have H := shp_st H T
    j_aldn (pc := 52) D rfl rfl rfl fun D =>
    j_ildn (pc := 53) D rfl rfl rfl fun D =>
    j_pf (pc := 54) (a := 602) D rfl rfl rfl (s0_602 H) rfl rfl (gy (by decide)) (gy rfl) fun h2 eh2 S D =>
    have T := fj_hs_ok H.1 S
    have H := shp_st H T
    j_aldn (pc := 57) D rfl rfl rfl fun D =>
    j_ild (pc := 58) D rfl rfl rfl fun D =>
    j_pf (pc := 60) (a := 602) D rfl rfl rfl (s0_602 H) rfl rfl (gy (by decide)) (gy rfl) fun h3 eh3 S D =>
    have T := fj_hs_ok H.1 S
    have H := shp_st H T
    j_aldn (pc := 63) D rfl rfl rfl fun D =>
    j_ild (pc := 64) D rfl rfl rfl fun D =>
    j_pf (pc := 66) (a := 602) D rfl rfl rfl (s0_602 H) rfl rfl (gy (by decide)) (gy rfl) fun h4 eh4 S D =>
    have T := fj_hs_ok H.1 S
    have H := shp_st H T
    j_ic (pc := 69) D rfl fun D =>
    j_iret D rt_524
theorem e_524_75 (d : Nat) (x1 x5 x6 : Int) {h : fi_H} (H : Shp h) : c_524_75 d x1 x5 x6 h =
  if x6 < h 444 602 0 then
    cv_ (fj_run d 565 h [(4, 602), (0, x1), (0, x6), (0, h 449 602 0), (0, 1)])
      (fun h1 =>
      c_524_75 d x1 x5 (wI (x6 + 1)) h1)
      (fun q3 h1 => tx_ q3 h1)
  else
    some (.inl (some (0, wI ((h 444 602 0) - x5))), h) := by
  unfold c_524_75
  exact
    have D : fk_D 524 [(75, some [0, 1, 5, 6], .iload 6, 2, 0, 0, 0), (77, none, .aload_n 0, 1, 0, 0, 0), (78, none, .getfield 788, 3, 444, 129, 10), (81, none, .if_icmp .ge 21, 3, 102, 0, 0), (84, none, .aload_n 0, 1, 0, 0, 0), (85, none, .iload_n 1, 1, 0, 0, 0), (86, none, .iload 6, 2, 0, 0, 0), (88, none, .aload_n 0, 1, 0, 0, 0), (89, none, .getfield 141, 3, 449, 129, 10), (92, none, .iconst 1, 1, 0, 1, 0), (93, none, .invokevirtual 829, 3, 4, 401, 0), (96, none, .iinc 6 1, 3, 0, 1, 0), (99, none, .goto (-24), 3, 75, 0, 0)] := fq_of2 cd_524 ow_524 cl_524 rfl (pc := 75) (by decide +kernel)
    j_ild (pc := 75) D rfl rfl rfl fun D =>
    j_aldn (pc := 77) D rfl rfl rfl fun D =>
    j_gf (pc := 78) (a := 602) D rfl rfl (by decide) rfl (s0_602 H) rfl fun D =>
    j_ige (pc := 81) D rfl (fun q D =>
      j_aldn (pc := 84) D rfl rfl rfl fun D =>
      j_ildn (pc := 85) D rfl rfl rfl fun D =>
      j_ild (pc := 86) D rfl rfl rfl fun D =>
      j_aldn (pc := 88) D rfl rfl rfl fun D =>
      j_gf (pc := 89) (a := 602) D rfl rfl (by decide) rfl (s0_602 H) rfl fun D =>
      j_ic (pc := 92) D rfl fun D =>
      j_ivv (pc := 93) (m := 565) (dd := 401) (a := [(0, x1), (0, x6), (0, h 449 602 0), (0, 1)]) (rest := []) D rfl rfl rfl rfl rfl (by decide) (s0_602 H) (by decide +kernel) (fun h1 e1 D =>
        have T := fj_run_ok _ _ _ _ _ _ H.1 e1
        have H := shp_st H T
        j_inc (pc := 96) (L' := [(6, (0, wI (x6 + 1))), (0, (4, 602)), (1, (0, x1)), (5, (0, x5))]) D rfl rfl rfl (by decide +kernel) rfl fun D =>
        j_goto (pc := 99) D rfl <|
        fk_jump cut_524_75 rfl rfl) (fun q3 h1 e1 =>
        j_tx (by decide +kernel))) (fun q =>
      have D : fk_D 524 [(102, none, .aload_n 0, 1, 0, 0, 0), (103, none, .getfield 788, 3, 444, 129, 10), (106, none, .iload 5, 2, 0, 0, 0), (108, none, .isub, 1, 0, 0, 0), (109, none, .ireturn, 1, 0, 0, 0)] := fq_of2 cd_524 ow_524 cl_524 rfl (pc := 102) (by decide +kernel)
      j_aldn (pc := 102) D rfl rfl rfl fun D =>
      j_gf (pc := 103) (a := 602) D rfl rfl (by decide) rfl (s0_602 H) rfl fun D =>
      j_ild (pc := 106) D rfl rfl rfl fun D =>
      j_isub (pc := 108) D rfl fun D =>
      j_iret D rt_524)
theorem m_524 (d : Nat) (x1 : Int) {h : fi_H} (H : Shp h) : fj_run (d + 1) 524 h [(4, 602), (0, x1)] =
  ca_ (fj_run d 525 h [(4, 602), (0, x1)]) 0
    (fun v2 h1 =>
    if v2 = 0 then
      some (.inl (some (0, (-2))), h1)
    else
      cv_ (fj_run d 486 h1 [(4, 602)])
        (fun h4 =>
        cv_ (fj_run d 526 h4 [(4, 602), (0, x1)])
          (fun h7 =>
          c_524_75 d x1 (h4 444 602 0) (h4 444 602 0) h7)
          (fun q9 h7 => tc_ 130 q9 h7 (c_524_45 d (h4 426 602 0) (h4 434 602 0) (h4 439 602 0) (h4 444 602 0) (q9 : Int) h7)))
        (fun q6 h4 => tx_ q6 h4))
    (fun q3 h1 => tx_ q3 h1) := by
  rw [fj_run_eq d (by decide) h [(4, 602), (0, x1)] (Nat.le_of_ble_eq_true (by rw [nl_524]; rfl))]
  show gG (fj_run d) 524 0 [(0, (4, 602)), (1, (0, x1))] [] h = _
  exact
    have D : fk_D 524 [(0, none, .aload_n 0, 1, 0, 0, 0), (1, none, .iload_n 1, 1, 0, 0, 0), (2, none, .invokevirtual 823, 3, 1, 399, 1), (5, none, .ifCond .ne 6, 3, 11, 0, 0), (8, none, .bipush (-2), 2, 0, (-2), 0), (10, none, .ireturn, 1, 0, 0, 0)] := fq_of2 cd_524 ow_524 cl_524 rfl (pc := 0) (by decide +kernel)
    j_aldn (pc := 0) D rfl rfl rfl fun D =>
    j_ildn (pc := 1) D rfl rfl rfl fun D =>
    j_iv (pc := 2) (m := 525) (dd := 399) (a := [(0, x1)]) (rest := []) D rfl rfl rfl rfl rfl (by decide) (s0_602 H) (by decide +kernel) (fun v2 h1 e1 D =>
      have T := fj_run_ok _ _ _ _ _ _ H.1 e1
      have H := shp_st H T
      j_ifne (pc := 5) D rfl (fun q D =>
        j_bp (pc := 8) D rfl fun D =>
        j_iret D rt_524) (fun q =>
        have D : fk_D 524 [(11, none, .aload_n 0, 1, 0, 0, 0), (12, none, .invokevirtual 649, 3, 0, 363, 0), (15, none, .aload_n 0, 1, 0, 0, 0), (16, none, .getfield 670, 3, 426, 129, 10), (19, none, .istore_n 2, 1, 0, 0, 0), (20, none, .aload_n 0, 1, 0, 0, 0), (21, none, .getfield 805, 3, 434, 129, 10), (24, none, .istore_n 3, 1, 0, 0, 0), (25, none, .aload_n 0, 1, 0, 0, 0), (26, none, .getfield 815, 3, 439, 129, 10), (29, none, .istore 4, 2, 0, 0, 0), (31, none, .aload_n 0, 1, 0, 0, 0), (32, none, .getfield 788, 3, 444, 129, 10), (35, none, .istore 5, 2, 0, 0, 0), (37, none, .aload_n 0, 1, 0, 0, 0), (38, none, .iload_n 1, 1, 0, 0, 0), (39, none, .invokevirtual 826, 3, 1, 400, 0), (42, none, .goto 29, 3, 71, 0, 0)] := fq_of2 cd_524 ow_524 cl_524 rfl (pc := 11) (by decide +kernel)
        j_aldn (pc := 11) D rfl rfl rfl fun D =>
        j_ivv (pc := 12) (m := 486) (dd := 363) (a := []) (rest := []) D rfl rfl rfl rfl rfl (by decide) (s0_602 H) (by decide +kernel) (fun h4 e1 D =>
          have T := fj_run_ok _ _ _ _ _ _ H.1 e1
          have H := shp_st H T
          j_aldn (pc := 15) D rfl rfl rfl fun D =>
          j_gf (pc := 16) (a := 602) D rfl rfl (by decide) rfl (s0_602 H) rfl fun D =>
          j_istn (pc := 19) (L' := [(2, (0, h4 426 602 0)), (0, (4, 602)), (1, (0, x1))]) D rfl nl_524 rfl rfl fun D =>
          j_aldn (pc := 20) D rfl rfl rfl fun D =>
          j_gf (pc := 21) (a := 602) D rfl rfl (by decide) rfl (s0_602 H) rfl fun D =>
          j_istn (pc := 24) (L' := [(3, (0, h4 434 602 0)), (2, (0, h4 426 602 0)), (0, (4, 602)), (1, (0, x1))]) D rfl nl_524 rfl rfl fun D =>
          j_aldn (pc := 25) D rfl rfl rfl fun D =>
          j_gf (pc := 26) (a := 602) D rfl rfl (by decide) rfl (s0_602 H) rfl fun D =>
          j_ist (pc := 29) (L' := [(4, (0, h4 439 602 0)), (3, (0, h4 434 602 0)), (2, (0, h4 426 602 0)), (0, (4, 602)), (1, (0, x1))]) D rfl nl_524 rfl rfl fun D =>
          j_aldn (pc := 31) D rfl rfl rfl fun D =>
          j_gf (pc := 32) (a := 602) D rfl rfl (by decide) rfl (s0_602 H) rfl fun D =>
          j_ist (pc := 35) (L' := [(5, (0, h4 444 602 0)), (4, (0, h4 439 602 0)), (3, (0, h4 434 602 0)), (2, (0, h4 426 602 0)), (0, (4, 602)), (1, (0, x1))]) D rfl nl_524 rfl rfl fun D =>
          j_aldn (pc := 37) D rfl rfl rfl fun D =>
          j_ildn (pc := 38) D rfl rfl rfl fun D =>
          j_ivv (pc := 39) (m := 526) (dd := 400) (a := [(0, x1)]) (rest := []) D rfl rfl rfl rfl rfl (by decide) (s0_602 H) (by decide +kernel) (fun h7 e1 D =>
            have T := fj_run_ok _ _ _ _ _ _ H.1 e1
            have H := shp_st H T
            j_goto (pc := 42) D rfl <|
            have D : fk_D 524 [(71, none, .iload 5, 2, 0, 0, 0), (73, none, .istore 6, 2, 0, 0, 0)] := fq_of2 cd_524 ow_524 cl_524 rfl (pc := 71) (by decide +kernel)
            j_ild (pc := 71) D rfl rfl rfl fun D =>
            j_ist (pc := 73) (L' := [(6, (0, h4 444 602 0)), (5, (0, h4 444 602 0)), (4, (0, h4 439 602 0)), (3, (0, h4 434 602 0)), (2, (0, h4 426 602 0)), (0, (4, 602)), (1, (0, x1))]) D rfl nl_524 rfl rfl fun D =>
            fk_jump cut_524_75 rfl rfl) (fun q9 h7 e1 =>
            j_tc_ (n := 130) (fk_at (cu := none) (by decide +kernel) rfl) (s := 37) (e := 42) (hp := 45) (ct := 9) (by decide +kernel) rfl (by decide +kernel) <|
            fk_jump cut_524_45 rfl rfl)) (fun q6 h4 e1 =>
          j_tx (by decide +kernel)))) (fun q3 h1 e1 =>
      j_tx (by decide +kernel))
/-! 525 StatuteHouseModel.isLaw(I)Z -/
theorem cd_525 : fi_code 525 = prog_69_method_88_code := rfl
theorem hx_525 : ∀ pc, fi_hat 525 pc = none := fun pc => by unfold fi_hat; rw [show fi_hh 525 = [] from rfl]; rfl
theorem rt_525 : fi_ret 525 = some .boolean := rfl
theorem nl_525 : fi_nl 525 = 2 := rfl
theorem ow_525 : fi_ow 525 = 29 := rfl
theorem cl_525 : fj_cutT.getD 525 [] = [] := rfl
theorem m_525 (d : Nat) (x1 : Int) {h : fi_H} (H : Shp h) : fj_run (d + 1) 525 h [(4, 602), (0, x1)] =
  ca_ (fj_run d 508 h [(1, wI x1), (1, 0), (1, 3)]) 0
    (fun v2 h1 =>
    if v2 = 0 ∨ v2 = 1 then some (.inl (some (0, v2)), h1) else none)
    (fun q3 h1 => tx_ q3 h1) := by
  rw [fj_run_eq d (by decide) h [(4, 602), (0, x1)] (Nat.le_of_ble_eq_true (by rw [nl_525]; rfl))]
  show gG (fj_run d) 525 0 [(0, (4, 602)), (1, (0, x1))] [] h = _
  exact
    have D : fk_D 525 [(0, none, .iload_n 1, 1, 0, 0, 0), (1, none, .i2l, 1, 0, 0, 0), (2, none, .lconst 0, 1, 0, 0, 0), (3, none, .ldc2_w 821, 3, 1, 3, 0), (6, none, .invokestatic 434, 3, 3, 508, 1), (9, none, .ireturn, 1, 0, 0, 0)] := fq_of2 cd_525 ow_525 cl_525 rfl (pc := 0) (by decide +kernel)
    j_ildn (pc := 0) D rfl rfl rfl fun D =>
    j_i2l (pc := 1) D rfl fun D =>
    j_c0 (pc := 2) (v := (1, 0)) D rfl rfl (by decide +kernel) fun D =>
    j_ldc2 (pc := 3) D rfl fun D =>
    j_is (pc := 6) (m := 508) (a := [(1, wI x1), (1, 0), (1, 3)]) (rest := []) D rfl rfl rfl rfl (fun v2 h1 e1 D =>
      have T := fj_run_ok _ _ _ _ _ _ H.1 e1
      have H := shp_st H T
      j_zret D rt_525 gn) (fun q3 h1 e1 =>
      j_tx (hx_525 _))
