/-! forms of methods 251..297, printed by gen/forms.py -/
set_option maxRecDepth 100000
/-! 251 StatuteHouse$Reader.months(I)LStatuteHouse$Part; -/
theorem cd_251 : fi_code 251 = prog_53_method_80_code := rfl
theorem hx_251 : ∀ pc, fi_hat 251 pc = none := fun pc => by unfold fi_hat; rw [show fi_hh 251 = [] from rfl]; rfl
theorem rt_251 : fj_ft (fi_ret 251) = 5 := rfl
theorem nl_251 : fi_nl 251 = 5 := rfl
theorem ow_251 : fi_ow 251 = 15 := rfl
theorem cl_251 : fj_cutT.getD 251 [] = [(71, [0, 1])] := rfl
theorem cut_251_71 : fj_cut 251 71 = some [0, 1] := by decide +kernel
noncomputable def c_251_71 (d : Nat) (x1 : Int) (h : fi_H) : fk_R := gG (fj_run d) 251 71 [(0, (4, 377)), (1, (0, x1))] [] h
theorem e_251_71 (d : Nat) (x1 : Int) {h : fi_H} (H : Shp h) : c_251_71 d x1 h =
  ca_ (fj_run d 165 h [(4, 303), (0, 5), (0, x1)]) 4
    (fun v2 h1 =>
    if v2 ≠ 0 then
    tx_ v2.toNat h1
    else none)
    (fun q3 h1 => tx_ q3 h1) := by
  unfold c_251_71
  exact
    have D : fk_D 251 [(71, some [0, 1], .aload_n 0, 1, 0, 0, 0), (72, none, .getfield 3, 3, 182, 115, 12), (75, none, .iconst 5, 1, 0, 5, 0), (76, none, .iload_n 1, 1, 0, 0, 0), (77, none, .invokevirtual 186, 3, 2, 257, 5), (80, none, .athrow, 1, 0, 0, 0)] := fq_of2 cd_251 ow_251 cl_251 rfl (pc := 71) (by decide +kernel)
    j_aldn (pc := 71) D rfl rfl rfl fun D =>
    j_gfc (pc := 72) (a := 377) D rfl rfl (by decide) rfl (s0_377 H) rfl (sf_182_377 H) fun D =>
    j_ic (pc := 75) D rfl fun D =>
    j_ildn (pc := 76) D rfl rfl rfl fun D =>
    j_iv (pc := 77) (m := 165) (dd := 257) (a := [(0, 5), (0, x1)]) (rest := []) D rfl rfl rfl rfl rfl (by decide) (s0_303 H) (by decide +kernel) (fun v2 h1 e1 D =>
      have T := fj_run_ok _ _ _ _ _ _ H.1 e1
      have H := shp_st H T
      j_at (pc := 80) D gn <|
      j_tx (hx_251 _)) (fun q3 h1 e1 =>
      j_tx (hx_251 _))
theorem m_251 (d : Nat) (x1 : Int) {h : fi_H} (H : Shp h) : fj_run (d + 1) 251 h [(4, 377), (0, x1)] =
  cv_ (fj_run d 166 h [(4, 377)])
    (fun h1 =>
    cv_ (fj_run d 248 h1 [(4, 377)])
      (fun h4 =>
      ca_ (fj_run d 231 h4 [(4, 377)]) 4
        (fun v8 h7 =>
        cv_ (fj_run d 182 h7 [(4, 377), (0, 44)])
          (fun h10 =>
          ca_ (fj_run d 231 h10 [(4, 377)]) 4
            (fun v14 h13 =>
            cv_ (fj_run d 182 h13 [(4, 377), (0, 44)])
              (fun h16 =>
              ca_ (fj_run d 231 h16 [(4, 377)]) 4
                (fun v20 h19 =>
                cv_ (fj_run d 242 h19 [(4, 377)])
                  (fun h22 =>
                  if fi_in (h22 0 v8.toNat 0) 340 = true then
                  dv_ (fi_vt 311 (h22 0 (h22 340 v8.toNat 0).toNat 0)) fun m28 => ca_ (fj_run d m28 h22 [(4, h22 340 v8.toNat 0)]) 0
                    (fun v26 h25 =>
                    if v26 = 0 then
                      c_251_71 d x1 h25
                    else
                      if fi_in (h25 0 v14.toNat 0) 340 = true then
                      if h25 340 v14.toNat 0 = 6 then
                        if fi_in (h25 0 v20.toNat 0) 340 = true then
                        if h25 340 v20.toNat 0 = 6 then
                          if fi_in (h25 0 v8.toNat 0) 341 = true then
                          if fi_in (h25 0 v14.toNat 0) 341 = true then
                          if fi_in (h25 0 v20.toNat 0) 341 = true then
                          ca_ (fj_run d 6 h25 [(0, h25 341 v14.toNat 0), (0, h25 341 v20.toNat 0)]) 0
                            (fun v30 h29 =>
                            ca_ (fj_run d 6 h29 [(0, h25 341 v8.toNat 0), (0, v30)]) 0
                              (fun v33 h32 =>
                              cv_ (fj_run d 243 h32 [(4, 377), (0, wI (v33 + 1)), (0, x1)])
                                (fun h35 =>
                                nw_ h35 111 8 0 fun r38 h39 =>
                                cv_ (fj_run d 253 h39 [(4, r38), (4, 303), (4, v8), (4, v14), (4, v20)])
                                  (fun h40 =>
                                  some (.inl (some (4, r38)), h40))
                                  (fun q42 h40 => tx_ q42 h40))
                                (fun q37 h35 => tx_ q37 h35))
                              (fun q34 h32 => tx_ q34 h32))
                            (fun q31 h29 => tx_ q31 h29)
                          else none
                          else none
                          else none
                        else
                          c_251_71 d x1 h25
                        else none
                      else
                        c_251_71 d x1 h25
                      else none)
                    (fun q27 h25 => tx_ q27 h25)
                  else none)
                  (fun q24 h22 => tx_ q24 h22))
                (fun q21 h19 => tx_ q21 h19))
              (fun q18 h16 => tx_ q18 h16))
            (fun q15 h13 => tx_ q15 h13))
          (fun q12 h10 => tx_ q12 h10))
        (fun q9 h7 => tx_ q9 h7))
      (fun q6 h4 => tx_ q6 h4))
    (fun q3 h1 => tx_ q3 h1) := by
  rw [fj_run_eq d (by decide) h [(4, 377), (0, x1)] (Nat.le_of_ble_eq_true (by rw [nl_251]; rfl))]
  show gG (fj_run d) 251 0 [(0, (4, 377)), (1, (0, x1))] [] h = _
  exact
    have D : fk_D 251 [(0, none, .aload_n 0, 1, 0, 0, 0), (1, none, .invokevirtual 206, 3, 0, 261, 0), (4, none, .aload_n 0, 1, 0, 0, 0), (5, none, .invokevirtual 879, 3, 0, 324, 0), (8, none, .aload_n 0, 1, 0, 0, 0), (9, none, .invokevirtual 688, 3, 0, 301, 5), (12, none, .astore_n 2, 1, 0, 0, 0), (13, none, .aload_n 0, 1, 0, 0, 0), (14, none, .bipush 44, 2, 0, 44, 0), (16, none, .invokevirtual 216, 3, 1, 264, 0), (19, none, .aload_n 0, 1, 0, 0, 0), (20, none, .invokevirtual 688, 3, 0, 301, 5), (23, none, .astore_n 3, 1, 0, 0, 0), (24, none, .aload_n 0, 1, 0, 0, 0), (25, none, .bipush 44, 2, 0, 44, 0), (27, none, .invokevirtual 216, 3, 1, 264, 0), (30, none, .aload_n 0, 1, 0, 0, 0), (31, none, .invokevirtual 688, 3, 0, 301, 5), (34, none, .astore 4, 2, 0, 0, 0), (36, none, .aload_n 0, 1, 0, 0, 0)] := fq_of2 cd_251 ow_251 cl_251 rfl (pc := 0) (by decide +kernel)
    j_aldn (pc := 0) D rfl rfl rfl fun D =>
    j_ivv (pc := 1) (m := 166) (dd := 261) (a := []) (rest := []) D rfl rfl rfl rfl rfl (by decide) (s0_377 H) (by decide +kernel) (fun h1 e1 D =>
      have T := fj_run_ok _ _ _ _ _ _ H.1 e1
      have H := shp_st H T
      j_aldn (pc := 4) D rfl rfl rfl fun D =>
      j_ivv (pc := 5) (m := 248) (dd := 324) (a := []) (rest := []) D rfl rfl rfl rfl rfl (by decide) (s0_377 H) (by decide +kernel) (fun h4 e1 D =>
        have T := fj_run_ok _ _ _ _ _ _ H.1 e1
        have H := shp_st H T
        j_aldn (pc := 8) D rfl rfl rfl fun D =>
        j_iv (pc := 9) (m := 231) (dd := 301) (a := []) (rest := []) D rfl rfl rfl rfl rfl (by decide) (s0_377 H) (by decide +kernel) (fun v8 h7 e1 D =>
          have T := fj_run_ok _ _ _ _ _ _ H.1 e1
          have H := shp_st H T
          j_astn (pc := 12) (L' := [(2, (4, v8)), (0, (4, 377)), (1, (0, x1))]) D rfl nl_251 rfl rfl fun D =>
          j_aldn (pc := 13) D rfl rfl rfl fun D =>
          j_bp (pc := 14) D rfl fun D =>
          j_ivv (pc := 16) (m := 182) (dd := 264) (a := [(0, 44)]) (rest := []) D rfl rfl rfl rfl rfl (by decide) (s0_377 H) (by decide +kernel) (fun h10 e1 D =>
            have T := fj_run_ok _ _ _ _ _ _ H.1 e1
            have H := shp_st H T
            j_aldn (pc := 19) D rfl rfl rfl fun D =>
            j_iv (pc := 20) (m := 231) (dd := 301) (a := []) (rest := []) D rfl rfl rfl rfl rfl (by decide) (s0_377 H) (by decide +kernel) (fun v14 h13 e1 D =>
              have T := fj_run_ok _ _ _ _ _ _ H.1 e1
              have H := shp_st H T
              j_astn (pc := 23) (L' := [(3, (4, v14)), (2, (4, v8)), (0, (4, 377)), (1, (0, x1))]) D rfl nl_251 rfl rfl fun D =>
              j_aldn (pc := 24) D rfl rfl rfl fun D =>
              j_bp (pc := 25) D rfl fun D =>
              j_ivv (pc := 27) (m := 182) (dd := 264) (a := [(0, 44)]) (rest := []) D rfl rfl rfl rfl rfl (by decide) (s0_377 H) (by decide +kernel) (fun h16 e1 D =>
                have T := fj_run_ok _ _ _ _ _ _ H.1 e1
                have H := shp_st H T
                j_aldn (pc := 30) D rfl rfl rfl fun D =>
                j_iv (pc := 31) (m := 231) (dd := 301) (a := []) (rest := []) D rfl rfl rfl rfl rfl (by decide) (s0_377 H) (by decide +kernel) (fun v20 h19 e1 D =>
                  have T := fj_run_ok _ _ _ _ _ _ H.1 e1
                  have H := shp_st H T
                  j_ast (pc := 34) (L' := [(4, (4, v20)), (3, (4, v14)), (2, (4, v8)), (0, (4, 377)), (1, (0, x1))]) D rfl nl_251 rfl rfl fun D =>
                  j_aldn (pc := 36) D rfl rfl rfl fun D =>
                  have D : fk_D 251 [(37, none, .invokevirtual 818, 3, 0, 318, 0), (40, none, .aload_n 2, 1, 0, 0, 0), (41, none, .getfield 691, 3, 340, 0, 12), (44, none, .invokevirtual 751, 3, 0, 311, 1), (47, none, .ifCond .eq 24, 3, 71, 0, 0), (50, none, .aload_n 3, 1, 0, 0, 0), (51, none, .getfield 691, 3, 340, 0, 12), (54, none, .getstatic 434, 3, 4, 6, 0), (57, none, .if_acmp .ne 14, 3, 71, 0, 0), (60, none, .aload 4, 2, 0, 0, 0), (62, none, .getfield 691, 3, 340, 0, 12), (65, none, .getstatic 434, 3, 4, 6, 0), (68, none, .if_acmp .eq 13, 3, 81, 0, 0)] := fq_of2 cd_251 ow_251 cl_251 rfl (pc := 37) (by decide +kernel)
                  j_ivv (pc := 37) (m := 242) (dd := 318) (a := []) (rest := []) D rfl rfl rfl rfl rfl (by decide) (s0_377 H) (by decide +kernel) (fun h22 e1 D =>
                    have T := fj_run_ok _ _ _ _ _ _ H.1 e1
                    have H := shp_st H T
                    j_aldn (pc := 40) D rfl rfl rfl fun D =>
                    j_gfu (pc := 41) H.2.1 D rfl rfl fun q D =>
                    j_ivu (pc := 44) (dd := 311) (a := []) (rest := []) H.2.1 D rfl rfl rfl rfl rfl (fun m28 v26 h25 e1 D =>
                      have T := fj_run_ok _ _ _ _ _ _ H.1 e1
                      have H := shp_st H T
                      j_ifeq (pc := 47) D rfl (fun q =>
                        fk_jump cut_251_71 rfl rfl) (fun q D =>
                        j_aldn (pc := 50) D rfl rfl rfl fun D =>
                        j_gfu (pc := 51) H.2.1 D rfl rfl fun q D =>
                        j_gs (pc := 54) D rfl fun D =>
                        j_ane (pc := 57) D rfl (fun q D =>
                          j_ald (pc := 60) D rfl rfl rfl fun D =>
                          j_gfu (pc := 62) H.2.1 D rfl rfl fun q D =>
                          j_gs (pc := 65) D rfl fun D =>
                          j_aeq (pc := 68) D rfl (fun q =>
                            have D : fk_D 251 [(81, none, .aload_n 0, 1, 0, 0, 0), (82, none, .aload_n 2, 1, 0, 0, 0), (83, none, .getfield 734, 3, 341, 0, 10), (86, none, .aload_n 3, 1, 0, 0, 0), (87, none, .getfield 734, 3, 341, 0, 10), (90, none, .aload 4, 2, 0, 0, 0), (92, none, .getfield 734, 3, 341, 0, 10), (95, none, .invokestatic 737, 3, 2, 6, 1), (98, none, .invokestatic 737, 3, 2, 6, 1), (101, none, .iconst 1, 1, 0, 1, 0), (102, none, .iadd, 1, 0, 0, 0), (103, none, .iload_n 1, 1, 0, 0, 0), (104, none, .invokevirtual 740, 3, 2, 310, 0), (107, none, .new 898, 3, 111, 8, 0), (110, none, .dup, 1, 0, 0, 0), (111, none, .aload_n 0, 1, 0, 0, 0), (112, none, .getfield 3, 3, 182, 115, 12), (115, none, .aload_n 2, 1, 0, 0, 0), (116, none, .aload_n 3, 1, 0, 0, 0), (117, none, .aload 4, 2, 0, 0, 0)] := fq_of2 cd_251 ow_251 cl_251 rfl (pc := 81) (by decide +kernel)
                            j_aldn (pc := 81) D rfl rfl rfl fun D =>
                            j_aldn (pc := 82) D rfl rfl rfl fun D =>
                            j_gfu (pc := 83) H.2.1 D rfl rfl fun q D =>
                            j_aldn (pc := 86) D rfl rfl rfl fun D =>
                            j_gfu (pc := 87) H.2.1 D rfl rfl fun q D =>
                            j_ald (pc := 90) D rfl rfl rfl fun D =>
                            j_gfu (pc := 92) H.2.1 D rfl rfl fun q D =>
                            j_is (pc := 95) (m := 6) (a := [(0, h25 341 v14.toNat 0), (0, h25 341 v20.toNat 0)]) (rest := [(0, h25 341 v8.toNat 0), (4, 377)]) D rfl rfl rfl rfl (fun v30 h29 e1 D =>
                              have T := fj_run_ok _ _ _ _ _ _ H.1 e1
                              have H := shp_st H T
                              j_is (pc := 98) (m := 6) (a := [(0, h25 341 v8.toNat 0), (0, v30)]) (rest := [(4, 377)]) D rfl rfl rfl rfl (fun v33 h32 e1 D =>
                                have T := fj_run_ok _ _ _ _ _ _ H.1 e1
                                have H := shp_st H T
                                j_ic (pc := 101) D rfl fun D =>
                                j_iadd (pc := 102) D rfl fun D =>
                                j_ildn (pc := 103) D rfl rfl rfl fun D =>
                                j_ivv (pc := 104) (m := 243) (dd := 310) (a := [(0, wI (v33 + 1)), (0, x1)]) (rest := []) D rfl rfl rfl rfl rfl (by decide) (s0_377 H) (by decide +kernel) (fun h35 e1 D =>
                                  have T := fj_run_ok _ _ _ _ _ _ H.1 e1
                                  have H := shp_st H T
                                  j_new (pc := 107) D rfl fun r38 h39 er eh39 S D =>
                                  have gt_r38 := nw_gt H.1 er
                                  have kc_r38 := nw_cls H.1 er eh39
                                  have T := fj_hs_ok H.1 S
                                  have H := shp_st H T
                                  j_sh (pc := 110) D rfl rfl rfl fun D =>
                                  j_aldn (pc := 111) D rfl rfl rfl fun D =>
                                  j_gfc (pc := 112) (a := 377) D rfl rfl (by decide) rfl (s0_377 H) rfl (sf_182_377 H) fun D =>
                                  j_aldn (pc := 115) D rfl rfl rfl fun D =>
                                  j_aldn (pc := 116) D rfl rfl rfl fun D =>
                                  j_ald (pc := 117) D rfl rfl rfl fun D =>
                                  have D : fk_D 251 [(119, none, .invokespecial 900, 3, 4, 253, 0), (122, none, .areturn, 1, 0, 0, 0)] := fq_of2 cd_251 ow_251 cl_251 rfl (pc := 119) (by decide +kernel)
                                  j_spv (pc := 119) (m := 253) (a := [(4, 303), (4, v8), (4, v14), (4, v20)]) (rest := [(4, r38)]) D rfl rfl rfl rfl (by rw [show h39 0 r38.toNat 0 = 111 from kc_r38]; decide) (gt_nz gt_r38) (fun h40 e1 D =>
                                    have T := fj_run_ok _ _ _ _ _ _ H.1 e1
                                    have kc_r38 := cls_st H.1 T.2 kc_r38 (by decide)
                                    have H := shp_st H T
                                    j_aret D rt_251) (fun q42 h40 e1 =>
                                    j_tx (hx_251 _))) (fun q37 h35 e1 =>
                                  j_tx (hx_251 _))) (fun q34 h32 e1 =>
                                j_tx (hx_251 _))) (fun q31 h29 e1 =>
                              j_tx (hx_251 _))) (fun q D =>
                            fk_jump cut_251_71 rfl rfl)) (fun q =>
                          fk_jump cut_251_71 rfl rfl))) (fun m28 q27 h25 e1 =>
                      j_tx (hx_251 _))) (fun q24 h22 e1 =>
                    j_tx (hx_251 _))) (fun q21 h19 e1 =>
                  j_tx (hx_251 _))) (fun q18 h16 e1 =>
                j_tx (hx_251 _))) (fun q15 h13 e1 =>
              j_tx (hx_251 _))) (fun q12 h10 e1 =>
            j_tx (hx_251 _))) (fun q9 h7 e1 =>
          j_tx (hx_251 _))) (fun q6 h4 e1 =>
        j_tx (hx_251 _))) (fun q3 h1 e1 =>
      j_tx (hx_251 _))
/-! 252 StatuteHouse$Kind.isSummed()Z -/
theorem cd_252 : fi_code 252 = prog_39_method_6_code := rfl
theorem hx_252 : ∀ pc, fi_hat 252 pc = none := fun pc => by unfold fi_hat; rw [show fi_hh 252 = [] from rfl]; rfl
theorem rt_252 : fi_ret 252 = some .boolean := rfl
theorem nl_252 : fi_nl 252 = 1 := rfl
theorem ow_252 : fi_ow 252 = 59 := rfl
theorem cl_252 : fj_cutT.getD 252 [] = [] := rfl
theorem m_252 (d : Nat) (x0 : Int) {h : fi_H} {k0 : Int} (H : Shp h) (hk : h 0 x0.toNat 0 = k0) (hk0 : k0 ≠ 0) : fj_run (d + 1) 252 h [(4, x0)] =
  if x0 = 3 then
    some (.inl (some (0, 1)), h)
  else
    if x0 = 4 then
      some (.inl (some (0, 1)), h)
    else
      if x0 = 5 then
        some (.inl (some (0, 1)), h)
      else
        if x0 = 8 then
          some (.inl (some (0, 1)), h)
        else
          some (.inl (some (0, 0)), h) := by
  rw [fj_run_eq d (by decide) h [(4, x0)] (Nat.le_of_ble_eq_true (by rw [nl_252]; rfl))]
  show gG (fj_run d) 252 0 [(0, (4, x0))] [] h = _
  exact
    have D : fk_D 252 [(0, none, .aload_n 0, 1, 0, 0, 0), (1, none, .getstatic 7, 3, 4, 3, 0), (4, none, .if_acmp .eq 24, 3, 28, 0, 0), (7, none, .aload_n 0, 1, 0, 0, 0), (8, none, .getstatic 10, 3, 4, 4, 0), (11, none, .if_acmp .eq 17, 3, 28, 0, 0), (14, none, .aload_n 0, 1, 0, 0, 0), (15, none, .getstatic 13, 3, 4, 5, 0), (18, none, .if_acmp .eq 10, 3, 28, 0, 0), (21, none, .aload_n 0, 1, 0, 0, 0), (22, none, .getstatic 22, 3, 4, 8, 0), (25, none, .if_acmp .ne 7, 3, 32, 0, 0), (28, none, .iconst 1, 1, 0, 1, 0), (29, none, .goto 4, 3, 33, 0, 0)] := fq_of2 cd_252 ow_252 cl_252 rfl (pc := 0) (by decide +kernel)
    j_aldn (pc := 0) D rfl rfl rfl fun D =>
    j_gs (pc := 1) D rfl fun D =>
    j_aeq (pc := 4) D rfl (fun q =>
      have D : fk_D 252 [(28, none, .iconst 1, 1, 0, 1, 0), (29, none, .goto 4, 3, 33, 0, 0)] := fq_of2 cd_252 ow_252 cl_252 rfl (pc := 28) (by decide +kernel)
      j_ic (pc := 28) D rfl fun D =>
      j_goto (pc := 29) D rfl <|
      have D : fk_D 252 [(33, none, .ireturn, 1, 0, 0, 0)] := fq_of2 cd_252 ow_252 cl_252 rfl (pc := 33) (by decide +kernel)
      j_zret D rt_252 (gy (by decide))) (fun q D =>
      j_aldn (pc := 7) D rfl rfl rfl fun D =>
      j_gs (pc := 8) D rfl fun D =>
      j_aeq (pc := 11) D rfl (fun q =>
        have D : fk_D 252 [(28, none, .iconst 1, 1, 0, 1, 0), (29, none, .goto 4, 3, 33, 0, 0)] := fq_of2 cd_252 ow_252 cl_252 rfl (pc := 28) (by decide +kernel)
        j_ic (pc := 28) D rfl fun D =>
        j_goto (pc := 29) D rfl <|
        have D : fk_D 252 [(33, none, .ireturn, 1, 0, 0, 0)] := fq_of2 cd_252 ow_252 cl_252 rfl (pc := 33) (by decide +kernel)
        j_zret D rt_252 (gy (by decide))) (fun q D =>
        j_aldn (pc := 14) D rfl rfl rfl fun D =>
        j_gs (pc := 15) D rfl fun D =>
        j_aeq (pc := 18) D rfl (fun q =>
          have D : fk_D 252 [(28, none, .iconst 1, 1, 0, 1, 0), (29, none, .goto 4, 3, 33, 0, 0)] := fq_of2 cd_252 ow_252 cl_252 rfl (pc := 28) (by decide +kernel)
          j_ic (pc := 28) D rfl fun D =>
          j_goto (pc := 29) D rfl <|
          have D : fk_D 252 [(33, none, .ireturn, 1, 0, 0, 0)] := fq_of2 cd_252 ow_252 cl_252 rfl (pc := 33) (by decide +kernel)
          j_zret D rt_252 (gy (by decide))) (fun q D =>
          j_aldn (pc := 21) D rfl rfl rfl fun D =>
          j_gs (pc := 22) D rfl fun D =>
          j_ane (pc := 25) D rfl (fun q D =>
            j_ic (pc := 28) D rfl fun D =>
            j_goto (pc := 29) D rfl <|
            have D : fk_D 252 [(33, none, .ireturn, 1, 0, 0, 0)] := fq_of2 cd_252 ow_252 cl_252 rfl (pc := 33) (by decide +kernel)
            j_zret D rt_252 (gy (by decide))) (fun q =>
            have D : fk_D 252 [(32, none, .iconst 0, 1, 0, 0, 0), (33, none, .ireturn, 1, 0, 0, 0)] := fq_of2 cd_252 ow_252 cl_252 rfl (pc := 32) (by decide +kernel)
            j_ic (pc := 32) D rfl fun D =>
            j_zret D rt_252 (gy (by decide))))))
/-! 253 StatuteHouse$Months.<init>(LStatuteHouse;LStatuteHouse$Part;LStatuteHouse$Part;LStatuteHouse$Part;)V -/
theorem cd_253 : fi_code 253 = prog_47_method_1_code := rfl
theorem hx_253 : ∀ pc, fi_hat 253 pc = none := fun pc => by unfold fi_hat; rw [show fi_hh 253 = [] from rfl]; rfl
theorem rt_253 : fi_ret 253 = none := rfl
theorem nl_253 : fi_nl 253 = 5 := rfl
theorem ow_253 : fi_ow 253 = 11 := rfl
theorem cl_253 : fj_cutT.getD 253 [] = [] := rfl
theorem m_253 (d : Nat) (x0 x1 x2 x3 x4 : Int) {h : fi_H} (H : Shp h) (hk : h 0 x0.toNat 0 = 111) : fj_run (d + 1) 253 h [(4, x0), (4, x1), (4, x2), (4, x3), (4, x4)] =
  if 302 < x0 then
  if h 352 x0.toNat 0 = 0 then
  lt_ (fi_upd h 352 x0.toNat 0 x1) fun h1 =>
  if fi_in (h1 0 x2.toNat 0) 340 = true then
  if fi_in (h1 0 x2.toNat 0) 341 = true then
  if fi_in (h1 0 x3.toNat 0) 341 = true then
  if fi_in (h1 0 x4.toNat 0) 341 = true then
  ca_ (fj_run d 6 h1 [(0, h1 341 x3.toNat 0), (0, h1 341 x4.toNat 0)]) 0
    (fun v3 h2 =>
    ca_ (fj_run d 6 h2 [(0, h1 341 x2.toNat 0), (0, v3)]) 0
      (fun v6 h5 =>
      cv_ (fj_run d 245 h5 [(4, x0), (4, x1), (4, h1 340 x2.toNat 0), (0, wI (v6 + 1))])
        (fun h8 =>
        if 302 < x0 then
        if h8 349 x0.toNat 0 = 0 then
        lt_ (fi_upd h8 349 x0.toNat 0 x2) fun h11 =>
        if 302 < x0 then
        if h11 350 x0.toNat 0 = 0 then
        lt_ (fi_upd h11 350 x0.toNat 0 x3) fun h12 =>
        if 302 < x0 then
        if h12 351 x0.toNat 0 = 0 then
        lt_ (fi_upd h12 351 x0.toNat 0 x4) fun h13 =>
        some (.inl none, h13)
        else none
        else none
        else none
        else none
        else none
        else none)
        (fun q10 h8 => tx_ q10 h8))
      (fun q7 h5 => tx_ q7 h5))
    (fun q4 h2 => tx_ q4 h2)
  else none
  else none
  else none
  else none
  else none
  else none := by
  rw [fj_run_eq d (by decide) h [(4, x0), (4, x1), (4, x2), (4, x3), (4, x4)] (Nat.le_of_ble_eq_true (by rw [nl_253]; rfl))]
  show gG (fj_run d) 253 0 [(0, (4, x0)), (1, (4, x1)), (2, (4, x2)), (3, (4, x3)), (4, (4, x4))] [] h = _
  exact
    have D : fk_D 253 [(0, none, .aload_n 0, 1, 0, 0, 0), (1, none, .aload_n 1, 1, 0, 0, 0), (2, none, .putfield 3, 3, 352, 111, 112), (5, none, .aload_n 0, 1, 0, 0, 0), (6, none, .aload_n 1, 1, 0, 0, 0), (7, none, .aload_n 2, 1, 0, 0, 0), (8, none, .getfield 9, 3, 340, 0, 12), (11, none, .aload_n 2, 1, 0, 0, 0), (12, none, .getfield 15, 3, 341, 0, 10), (15, none, .aload_n 3, 1, 0, 0, 0), (16, none, .getfield 15, 3, 341, 0, 10), (19, none, .aload 4, 2, 0, 0, 0), (21, none, .getfield 15, 3, 341, 0, 10), (24, none, .invokestatic 19, 3, 2, 6, 1), (27, none, .invokestatic 19, 3, 2, 6, 1), (30, none, .iconst 1, 1, 0, 1, 0), (31, none, .iadd, 1, 0, 0, 0), (32, none, .invokespecial 25, 3, 3, 245, 0), (35, none, .aload_n 0, 1, 0, 0, 0), (36, none, .aload_n 2, 1, 0, 0, 0)] := fq_of2 cd_253 ow_253 cl_253 rfl (pc := 0) (by decide +kernel)
    j_aldn (pc := 0) D rfl rfl rfl fun D =>
    j_aldn (pc := 1) D rfl rfl rfl fun D =>
    j_pfF (pc := 2) (a := x0.toNat) (ty := 12) D rfl rfl rfl hk ⟨rfl, rfl⟩ rfl gn (gy rfl) gn fun h1 eh1 S D =>
    have T := fj_hs_ok H.1 S
    have hk := cls_st H.1 T.2 hk (by decide)
    have H := shp_st H T
    j_aldn (pc := 5) D rfl rfl rfl fun D =>
    j_aldn (pc := 6) D rfl rfl rfl fun D =>
    j_aldn (pc := 7) D rfl rfl rfl fun D =>
    j_gfu (pc := 8) H.2.1 D rfl rfl fun q D =>
    j_aldn (pc := 11) D rfl rfl rfl fun D =>
    j_gfu (pc := 12) H.2.1 D rfl rfl fun q D =>
    j_aldn (pc := 15) D rfl rfl rfl fun D =>
    j_gfu (pc := 16) H.2.1 D rfl rfl fun q D =>
    j_ald (pc := 19) D rfl rfl rfl fun D =>
    j_gfu (pc := 21) H.2.1 D rfl rfl fun q D =>
    j_is (pc := 24) (m := 6) (a := [(0, h1 341 x3.toNat 0), (0, h1 341 x4.toNat 0)]) (rest := [(0, h1 341 x2.toNat 0), (4, h1 340 x2.toNat 0), (4, x1), (4, x0)]) D rfl rfl rfl rfl (fun v3 h2 e1 D =>
      have T := fj_run_ok _ _ _ _ _ _ H.1 e1
      have hk := cls_st H.1 T.2 hk (by decide)
      have H := shp_st H T
      j_is (pc := 27) (m := 6) (a := [(0, h1 341 x2.toNat 0), (0, v3)]) (rest := [(4, h1 340 x2.toNat 0), (4, x1), (4, x0)]) D rfl rfl rfl rfl (fun v6 h5 e1 D =>
        have T := fj_run_ok _ _ _ _ _ _ H.1 e1
        have hk := cls_st H.1 T.2 hk (by decide)
        have H := shp_st H T
        j_ic (pc := 30) D rfl fun D =>
        j_iadd (pc := 31) D rfl fun D =>
        j_spv (pc := 32) (m := 245) (a := [(4, x1), (4, h1 340 x2.toNat 0), (0, wI (v6 + 1))]) (rest := []) D rfl rfl rfl rfl (by rw [show h5 0 x0.toNat 0 = 111 from hk]; decide) (nz_cls H.2.1 hk (by decide)) (fun h8 e1 D =>
          have T := fj_run_ok _ _ _ _ _ _ H.1 e1
          have hk := cls_st H.1 T.2 hk (by decide)
          have H := shp_st H T
          j_aldn (pc := 35) D rfl rfl rfl fun D =>
          j_aldn (pc := 36) D rfl rfl rfl fun D =>
          have D : fk_D 253 [(37, none, .putfield 29, 3, 349, 111, 112), (40, none, .aload_n 0, 1, 0, 0, 0), (41, none, .aload_n 3, 1, 0, 0, 0), (42, none, .putfield 33, 3, 350, 111, 112), (45, none, .aload_n 0, 1, 0, 0, 0), (46, none, .aload 4, 2, 0, 0, 0), (48, none, .putfield 36, 3, 351, 111, 112), (51, none, .return_, 1, 0, 0, 0)] := fq_of2 cd_253 ow_253 cl_253 rfl (pc := 37) (by decide +kernel)
          j_pfF (pc := 37) (a := x0.toNat) (ty := 12) D rfl rfl rfl hk ⟨rfl, rfl⟩ rfl gn (gy rfl) gn fun h11 eh11 S D =>
          have T := fj_hs_ok H.1 S
          have hk := cls_st H.1 T.2 hk (by decide)
          have H := shp_st H T
          j_aldn (pc := 40) D rfl rfl rfl fun D =>
          j_aldn (pc := 41) D rfl rfl rfl fun D =>
          j_pfF (pc := 42) (a := x0.toNat) (ty := 12) D rfl rfl rfl hk ⟨rfl, rfl⟩ rfl gn (gy rfl) gn fun h12 eh12 S D =>
          have T := fj_hs_ok H.1 S
          have hk := cls_st H.1 T.2 hk (by decide)
          have H := shp_st H T
          j_aldn (pc := 45) D rfl rfl rfl fun D =>
          j_ald (pc := 46) D rfl rfl rfl fun D =>
          j_pfF (pc := 48) (a := x0.toNat) (ty := 12) D rfl rfl rfl hk ⟨rfl, rfl⟩ rfl gn (gy rfl) gn fun h13 eh13 S D =>
          have T := fj_hs_ok H.1 S
          have hk := cls_st H.1 T.2 hk (by decide)
          have H := shp_st H T
          j_vret D rt_253) (fun q10 h8 e1 =>
          j_tx (hx_253 _))) (fun q7 h5 e1 =>
        j_tx (hx_253 _))) (fun q4 h2 e1 =>
      j_tx (hx_253 _))
/-! 254 StatuteHouse$Reader.set(LStatuteHouse$Fold;I)LStatuteHouse$Part; -/
theorem cd_254 : fi_code 254 = prog_53_method_78_code := rfl
theorem hx_254 : ∀ pc, fi_hat 254 pc = none := fun pc => by unfold fi_hat; rw [show fi_hh 254 = [] from rfl]; rfl
theorem rt_254 : fj_ft (fi_ret 254) = 5 := rfl
theorem nl_254 : fi_nl 254 = 6 := rfl
theorem ow_254 : fi_ow 254 = 15 := rfl
theorem cl_254 : fj_cutT.getD 254 [] = [(63, [0, 1, 2, 3, 4]), (113, [0, 1, 2, 3, 4]), (165, [0, 1, 2, 3, 4])] := rfl
theorem cut_254_63 : fj_cut 254 63 = some [0, 1, 2, 3, 4] := by decide +kernel
noncomputable def c_254_63 (d : Nat) (x1 x2 x3 x4 : Int) (h : fi_H) : fk_R := gG (fj_run d) 254 63 [(0, (4, 377)), (1, (4, x1)), (2, (0, x2)), (3, (4, x3)), (4, (0, x4))] [] h
theorem cut_254_113 : fj_cut 254 113 = some [0, 1, 2, 3, 4] := by decide +kernel
noncomputable def c_254_113 (d : Nat) (x1 x2 x3 x4 : Int) (h : fi_H) : fk_R := gG (fj_run d) 254 113 [(0, (4, 377)), (1, (4, x1)), (2, (0, x2)), (3, (4, x3)), (4, (0, x4))] [] h
theorem cut_254_165 : fj_cut 254 165 = some [0, 1, 2, 3, 4] := by decide +kernel
noncomputable def c_254_165 (d : Nat) (x1 x2 x3 x4 s0 : Int) (h : fi_H) : fk_R := gG (fj_run d) 254 165 [(0, (4, 377)), (1, (4, x1)), (2, (0, x2)), (3, (4, x3)), (4, (0, x4))] [(4, s0)] h
theorem e_254_63 (d : Nat) (x1 x2 x3 x4 : Int) {h : fi_H} (H : Shp h) : c_254_63 d x1 x2 x3 x4 h =
  cv_ (fj_run d 166 h [(4, 377)])
    (fun h1 =>
    cv_ (fj_run d 242 h1 [(4, 377)])
      (fun h4 =>
      if x1 = 54 then
        if fi_in (h4 0 x3.toNat 0) 340 = true then
        dv_ (fi_vt 311 (h4 0 (h4 340 x3.toNat 0).toNat 0)) fun m10 => ca_ (fj_run d m10 h4 [(4, h4 340 x3.toNat 0)]) 0
          (fun v8 h7 =>
          if v8 = 0 then
            c_254_165 d x1 x2 x3 x4 0 h7
          else
            if fi_in (h7 0 x3.toNat 0) 340 = true then
            c_254_165 d x1 x2 x3 x4 (h7 340 x3.toNat 0) h7
            else none)
          (fun q9 h7 => tx_ q9 h7)
        else none
      else
        if x1 = 58 then
          c_254_113 d x1 x2 x3 x4 h4
        else
          if x1 = 59 then
            c_254_113 d x1 x2 x3 x4 h4
          else
            if fi_in (h4 0 x3.toNat 0) 340 = true then
            if h4 340 x3.toNat 0 = 2 then
              if x1 = 55 then
                c_254_165 d x1 x2 x3 x4 3 h4
              else
                if fi_in (h4 0 x3.toNat 0) 340 = true then
                c_254_165 d x1 x2 x3 x4 (h4 340 x3.toNat 0) h4
                else none
            else
              c_254_165 d x1 x2 x3 x4 0 h4
            else none)
      (fun q6 h4 => tx_ q6 h4))
    (fun q3 h1 => tx_ q3 h1) := by
  unfold c_254_63
  exact
    have D : fk_D 254 [(63, some [0, 1, 2, 3, 4], .aload_n 0, 1, 0, 0, 0), (64, none, .invokevirtual 206, 3, 0, 261, 0), (67, none, .aload_n 0, 1, 0, 0, 0), (68, none, .invokevirtual 818, 3, 0, 318, 0), (71, none, .aload_n 1, 1, 0, 0, 0), (72, none, .getstatic 836, 3, 4, 54, 0), (75, none, .if_acmp .ne 24, 3, 99, 0, 0), (78, none, .aload_n 3, 1, 0, 0, 0), (79, none, .getfield 691, 3, 340, 0, 12), (82, none, .invokevirtual 751, 3, 0, 311, 1), (85, none, .ifCond .eq 10, 3, 95, 0, 0), (88, none, .aload_n 3, 1, 0, 0, 0), (89, none, .getfield 691, 3, 340, 0, 12), (92, none, .goto 73, 3, 165, 0, 0)] := fq_of2 cd_254 ow_254 cl_254 rfl (pc := 63) (by decide +kernel)
    j_aldn (pc := 63) D rfl rfl rfl fun D =>
    j_ivv (pc := 64) (m := 166) (dd := 261) (a := []) (rest := []) D rfl rfl rfl rfl rfl (by decide) (s0_377 H) (by decide +kernel) (fun h1 e1 D =>
      have T := fj_run_ok _ _ _ _ _ _ H.1 e1
      have H := shp_st H T
      j_aldn (pc := 67) D rfl rfl rfl fun D =>
      j_ivv (pc := 68) (m := 242) (dd := 318) (a := []) (rest := []) D rfl rfl rfl rfl rfl (by decide) (s0_377 H) (by decide +kernel) (fun h4 e1 D =>
        have T := fj_run_ok _ _ _ _ _ _ H.1 e1
        have H := shp_st H T
        j_aldn (pc := 71) D rfl rfl rfl fun D =>
        j_gs (pc := 72) D rfl fun D =>
        j_ane (pc := 75) D rfl (fun q D =>
          j_aldn (pc := 78) D rfl rfl rfl fun D =>
          j_gfu (pc := 79) H.2.1 D rfl rfl fun q D =>
          j_ivu (pc := 82) (dd := 311) (a := []) (rest := []) H.2.1 D rfl rfl rfl rfl rfl (fun m10 v8 h7 e1 D =>
            have T := fj_run_ok _ _ _ _ _ _ H.1 e1
            have H := shp_st H T
            j_ifeq (pc := 85) D rfl (fun q =>
              have D : fk_D 254 [(95, none, .aconst_null, 1, 0, 0, 0), (96, none, .goto 69, 3, 165, 0, 0)] := fq_of2 cd_254 ow_254 cl_254 rfl (pc := 95) (by decide +kernel)
              j_c0 (pc := 95) (v := (4, 0)) D rfl rfl (by decide +kernel) fun D =>
              j_goto (pc := 96) D rfl <|
              fk_jump cut_254_165 rfl rfl) (fun q D =>
              j_aldn (pc := 88) D rfl rfl rfl fun D =>
              j_gfu (pc := 89) H.2.1 D rfl rfl fun q D =>
              j_goto (pc := 92) D rfl <|
              fk_jump cut_254_165 rfl rfl)) (fun m10 q9 h7 e1 =>
            j_tx (hx_254 _))) (fun q =>
          have D : fk_D 254 [(99, none, .aload_n 1, 1, 0, 0, 0), (100, none, .getstatic 854, 3, 4, 58, 0), (103, none, .if_acmp .eq 10, 3, 113, 0, 0), (106, none, .aload_n 1, 1, 0, 0, 0), (107, none, .getstatic 857, 3, 4, 59, 0), (110, none, .if_acmp .ne 24, 3, 134, 0, 0)] := fq_of2 cd_254 ow_254 cl_254 rfl (pc := 99) (by decide +kernel)
          j_aldn (pc := 99) D rfl rfl rfl fun D =>
          j_gs (pc := 100) D rfl fun D =>
          j_aeq (pc := 103) D rfl (fun q =>
            fk_jump cut_254_113 rfl rfl) (fun q D =>
            j_aldn (pc := 106) D rfl rfl rfl fun D =>
            j_gs (pc := 107) D rfl fun D =>
            j_ane (pc := 110) D rfl (fun q D =>
              fk_jump cut_254_113 rfl rfl) (fun q =>
              have D : fk_D 254 [(134, none, .aload_n 3, 1, 0, 0, 0), (135, none, .getfield 691, 3, 340, 0, 12), (138, none, .getstatic 439, 3, 4, 2, 0), (141, none, .if_acmp .ne 23, 3, 164, 0, 0), (144, none, .aload_n 1, 1, 0, 0, 0), (145, none, .getstatic 846, 3, 4, 55, 0), (148, none, .if_acmp .ne 9, 3, 157, 0, 0), (151, none, .getstatic 408, 3, 4, 3, 0), (154, none, .goto 11, 3, 165, 0, 0)] := fq_of2 cd_254 ow_254 cl_254 rfl (pc := 134) (by decide +kernel)
              j_aldn (pc := 134) D rfl rfl rfl fun D =>
              j_gfu (pc := 135) H.2.1 D rfl rfl fun q D =>
              j_gs (pc := 138) D rfl fun D =>
              j_ane (pc := 141) D rfl (fun q D =>
                j_aldn (pc := 144) D rfl rfl rfl fun D =>
                j_gs (pc := 145) D rfl fun D =>
                j_ane (pc := 148) D rfl (fun q D =>
                  j_gs (pc := 151) D rfl fun D =>
                  j_goto (pc := 154) D rfl <|
                  fk_jump cut_254_165 rfl rfl) (fun q =>
                  have D : fk_D 254 [(157, none, .aload_n 3, 1, 0, 0, 0), (158, none, .getfield 691, 3, 340, 0, 12), (161, none, .goto 4, 3, 165, 0, 0)] := fq_of2 cd_254 ow_254 cl_254 rfl (pc := 157) (by decide +kernel)
                  j_aldn (pc := 157) D rfl rfl rfl fun D =>
                  j_gfu (pc := 158) H.2.1 D rfl rfl fun q D =>
                  j_goto (pc := 161) D rfl <|
                  fk_jump cut_254_165 rfl rfl)) (fun q =>
                have D : fk_D 254 [(164, none, .aconst_null, 1, 0, 0, 0)] := fq_of2 cd_254 ow_254 cl_254 rfl (pc := 164) (by decide +kernel)
                j_c0 (pc := 164) (v := (4, 0)) D rfl rfl (by decide +kernel) fun D =>
                fk_jump cut_254_165 rfl rfl))))) (fun q6 h4 e1 =>
        j_tx (hx_254 _))) (fun q3 h1 e1 =>
      j_tx (hx_254 _))
theorem e_254_113 (d : Nat) (x1 x2 x3 x4 : Int) {h : fi_H} (H : Shp h) : c_254_113 d x1 x2 x3 x4 h =
  if fi_in (h 0 x3.toNat 0) 340 = true then
  dv_ (fi_vt 325 (h 0 (h 340 x3.toNat 0).toNat 0)) fun m4 => ca_ (fj_run d m4 h [(4, h 340 x3.toNat 0)]) 0
    (fun v2 h1 =>
    if v2 = 0 then
      c_254_165 d x1 x2 x3 x4 0 h1
    else
      if fi_in (h1 0 x3.toNat 0) 340 = true then
      c_254_165 d x1 x2 x3 x4 (h1 340 x3.toNat 0) h1
      else none)
    (fun q3 h1 => tx_ q3 h1)
  else none := by
  unfold c_254_113
  exact
    have D : fk_D 254 [(113, some [0, 1, 2, 3, 4], .aload_n 3, 1, 0, 0, 0), (114, none, .getfield 691, 3, 340, 0, 12), (117, none, .invokevirtual 885, 3, 0, 325, 1), (120, none, .ifCond .eq 10, 3, 130, 0, 0), (123, none, .aload_n 3, 1, 0, 0, 0), (124, none, .getfield 691, 3, 340, 0, 12), (127, none, .goto 38, 3, 165, 0, 0)] := fq_of2 cd_254 ow_254 cl_254 rfl (pc := 113) (by decide +kernel)
    j_aldn (pc := 113) D rfl rfl rfl fun D =>
    j_gfu (pc := 114) H.2.1 D rfl rfl fun q D =>
    j_ivu (pc := 117) (dd := 325) (a := []) (rest := []) H.2.1 D rfl rfl rfl rfl rfl (fun m4 v2 h1 e1 D =>
      have T := fj_run_ok _ _ _ _ _ _ H.1 e1
      have H := shp_st H T
      j_ifeq (pc := 120) D rfl (fun q =>
        have D : fk_D 254 [(130, none, .aconst_null, 1, 0, 0, 0), (131, none, .goto 34, 3, 165, 0, 0)] := fq_of2 cd_254 ow_254 cl_254 rfl (pc := 130) (by decide +kernel)
        j_c0 (pc := 130) (v := (4, 0)) D rfl rfl (by decide +kernel) fun D =>
        j_goto (pc := 131) D rfl <|
        fk_jump cut_254_165 rfl rfl) (fun q D =>
        j_aldn (pc := 123) D rfl rfl rfl fun D =>
        j_gfu (pc := 124) H.2.1 D rfl rfl fun q D =>
        j_goto (pc := 127) D rfl <|
        fk_jump cut_254_165 rfl rfl)) (fun m4 q3 h1 e1 =>
      j_tx (hx_254 _))
theorem e_254_165 (d : Nat) (x1 x2 x3 x4 s0 : Int) {h : fi_H} (H : Shp h) : c_254_165 d x1 x2 x3 x4 s0 h =
  if s0 = 0 then
    ca_ (fj_run d 165 h [(4, 303), (0, 5), (0, x2)]) 4
      (fun v2 h1 =>
      if v2 ≠ 0 then
      tx_ v2.toNat h1
      else none)
      (fun q3 h1 => tx_ q3 h1)
  else
    if fi_in (h 0 x3.toNat 0) 341 = true then
    cv_ (fj_run d 243 h [(4, 377), (0, wI ((h 341 x3.toNat 0) + 1)), (0, x2)])
      (fun h4 =>
      nw_ h4 118 8 0 fun r7 h8 =>
      cv_ (fj_run d 256 h8 [(4, r7), (4, 303), (4, x1), (4, s0), (4, x3), (0, x4)])
        (fun h9 =>
        some (.inl (some (4, r7)), h9))
        (fun q11 h9 => tx_ q11 h9))
      (fun q6 h4 => tx_ q6 h4)
    else none := by
  unfold c_254_165
  exact
    have D : fk_D 254 [(165, some [0, 1, 2, 3, 4], .astore 5, 2, 0, 0, 0), (167, none, .aload 5, 2, 0, 0, 0), (169, none, .ifnonnull 13, 3, 182, 0, 0), (172, none, .aload_n 0, 1, 0, 0, 0), (173, none, .getfield 3, 3, 182, 115, 12), (176, none, .iconst 5, 1, 0, 5, 0), (177, none, .iload_n 2, 1, 0, 0, 0), (178, none, .invokevirtual 186, 3, 2, 257, 5), (181, none, .athrow, 1, 0, 0, 0)] := fq_of2 cd_254 ow_254 cl_254 rfl (pc := 165) (by decide +kernel)
    j_ast (pc := 165) (L' := [(5, (4, s0)), (0, (4, 377)), (1, (4, x1)), (2, (0, x2)), (3, (4, x3)), (4, (0, x4))]) D rfl nl_254 rfl rfl fun D =>
    j_ald (pc := 167) D rfl rfl rfl fun D =>
    j_nonnull (pc := 169) D rfl (fun q D =>
      j_aldn (pc := 172) D rfl rfl rfl fun D =>
      j_gfc (pc := 173) (a := 377) D rfl rfl (by decide) rfl (s0_377 H) rfl (sf_182_377 H) fun D =>
      j_ic (pc := 176) D rfl fun D =>
      j_ildn (pc := 177) D rfl rfl rfl fun D =>
      j_iv (pc := 178) (m := 165) (dd := 257) (a := [(0, 5), (0, x2)]) (rest := []) D rfl rfl rfl rfl rfl (by decide) (s0_303 H) (by decide +kernel) (fun v2 h1 e1 D =>
        have T := fj_run_ok _ _ _ _ _ _ H.1 e1
        have H := shp_st H T
        j_at (pc := 181) D gn <|
        j_tx (hx_254 _)) (fun q3 h1 e1 =>
        j_tx (hx_254 _))) (fun q =>
      have D : fk_D 254 [(182, none, .aload_n 0, 1, 0, 0, 0), (183, none, .aload_n 3, 1, 0, 0, 0), (184, none, .getfield 734, 3, 341, 0, 10), (187, none, .iconst 1, 1, 0, 1, 0), (188, none, .iadd, 1, 0, 0, 0), (189, none, .iload_n 2, 1, 0, 0, 0), (190, none, .invokevirtual 740, 3, 2, 310, 0), (193, none, .new 888, 3, 118, 8, 0), (196, none, .dup, 1, 0, 0, 0), (197, none, .aload_n 0, 1, 0, 0, 0), (198, none, .getfield 3, 3, 182, 115, 12), (201, none, .aload_n 1, 1, 0, 0, 0), (202, none, .aload 5, 2, 0, 0, 0), (204, none, .aload_n 3, 1, 0, 0, 0), (205, none, .iload 4, 2, 0, 0, 0), (207, none, .invokespecial 890, 3, 5, 256, 0), (210, none, .areturn, 1, 0, 0, 0)] := fq_of2 cd_254 ow_254 cl_254 rfl (pc := 182) (by decide +kernel)
      j_aldn (pc := 182) D rfl rfl rfl fun D =>
      j_aldn (pc := 183) D rfl rfl rfl fun D =>
      j_gfu (pc := 184) H.2.1 D rfl rfl fun q D =>
      j_ic (pc := 187) D rfl fun D =>
      j_iadd (pc := 188) D rfl fun D =>
      j_ildn (pc := 189) D rfl rfl rfl fun D =>
      j_ivv (pc := 190) (m := 243) (dd := 310) (a := [(0, wI ((h 341 x3.toNat 0) + 1)), (0, x2)]) (rest := []) D rfl rfl rfl rfl rfl (by decide) (s0_377 H) (by decide +kernel) (fun h4 e1 D =>
        have T := fj_run_ok _ _ _ _ _ _ H.1 e1
        have H := shp_st H T
        j_new (pc := 193) D rfl fun r7 h8 er eh8 S D =>
        have gt_r7 := nw_gt H.1 er
        have kc_r7 := nw_cls H.1 er eh8
        have T := fj_hs_ok H.1 S
        have H := shp_st H T
        j_sh (pc := 196) D rfl rfl rfl fun D =>
        j_aldn (pc := 197) D rfl rfl rfl fun D =>
        j_gfc (pc := 198) (a := 377) D rfl rfl (by decide) rfl (s0_377 H) rfl (sf_182_377 H) fun D =>
        j_aldn (pc := 201) D rfl rfl rfl fun D =>
        j_ald (pc := 202) D rfl rfl rfl fun D =>
        j_aldn (pc := 204) D rfl rfl rfl fun D =>
        j_ild (pc := 205) D rfl rfl rfl fun D =>
        j_spv (pc := 207) (m := 256) (a := [(4, 303), (4, x1), (4, s0), (4, x3), (0, x4)]) (rest := [(4, r7)]) D rfl rfl rfl rfl (by rw [show h8 0 r7.toNat 0 = 118 from kc_r7]; decide) (gt_nz gt_r7) (fun h9 e1 D =>
          have T := fj_run_ok _ _ _ _ _ _ H.1 e1
          have kc_r7 := cls_st H.1 T.2 kc_r7 (by decide)
          have H := shp_st H T
          j_aret D rt_254) (fun q11 h9 e1 =>
          j_tx (hx_254 _))) (fun q6 h4 e1 =>
        j_tx (hx_254 _)))
theorem m_254 (d : Nat) (x1 x2 : Int) {h : fi_H} (H : Shp h) : fj_run (d + 1) 254 h [(4, 377), (4, x1), (0, x2)] =
  cv_ (fj_run d 166 h [(4, 377)])
    (fun h1 =>
    cv_ (fj_run d 248 h1 [(4, 377)])
      (fun h4 =>
      ca_ (fj_run d 231 h4 [(4, 377)]) 4
        (fun v8 h7 =>
        cv_ (fj_run d 182 h7 [(4, 377), (0, 44)])
          (fun h10 =>
          ca_ (fj_run d 162 h10 [(4, 377), (4, 159)]) 0
            (fun v14 h13 =>
            if v14 = 0 then
              ca_ (fj_run d 210 h13 [(4, 377)]) 0
                (fun v17 h16 =>
                if 0 ≤ v17 ∧ v17 < 40 then
                if h16 0 (h16 12 320 v17.toNat).toNat 0 = 124 then
                if h16 324 (h16 12 320 v17.toNat).toNat 0 = 9 then
                  c_254_63 d x1 x2 v8 v17 h16
                else
                  ca_ (fj_run d 164 h16 [(4, 377), (0, 2)]) 4
                    (fun v22 h21 =>
                    if v22 ≠ 0 then
                    tx_ v22.toNat h21
                    else none)
                    (fun q23 h21 => tx_ q23 h21)
                else none
                else none)
                (fun q18 h16 => tx_ q18 h16)
            else
              c_254_63 d x1 x2 v8 (-1) h13)
            (fun q15 h13 => tx_ q15 h13))
          (fun q12 h10 => tx_ q12 h10))
        (fun q9 h7 => tx_ q9 h7))
      (fun q6 h4 => tx_ q6 h4))
    (fun q3 h1 => tx_ q3 h1) := by
  rw [fj_run_eq d (by decide) h [(4, 377), (4, x1), (0, x2)] (Nat.le_of_ble_eq_true (by rw [nl_254]; rfl))]
  show gG (fj_run d) 254 0 [(0, (4, 377)), (1, (4, x1)), (2, (0, x2))] [] h = _
  exact
    have D : fk_D 254 [(0, none, .aload_n 0, 1, 0, 0, 0), (1, none, .invokevirtual 206, 3, 0, 261, 0), (4, none, .aload_n 0, 1, 0, 0, 0), (5, none, .invokevirtual 879, 3, 0, 324, 0), (8, none, .aload_n 0, 1, 0, 0, 0), (9, none, .invokevirtual 688, 3, 0, 301, 5), (12, none, .astore_n 3, 1, 0, 0, 0), (13, none, .aload_n 0, 1, 0, 0, 0), (14, none, .bipush 44, 2, 0, 44, 0), (16, none, .invokevirtual 216, 3, 1, 264, 0), (19, none, .iconst (-1), 1, 0, (-1), 0), (20, none, .istore 4, 2, 0, 0, 0), (22, none, .aload_n 0, 1, 0, 0, 0), (23, none, .ldc_w 350, 3, 4, 159, 0), (26, none, .invokevirtual 209, 3, 1, 262, 1), (29, none, .ifCond .ne 34, 3, 63, 0, 0), (32, none, .aload_n 0, 1, 0, 0, 0), (33, none, .invokevirtual 531, 3, 0, 281, 1), (36, none, .istore 4, 2, 0, 0, 0), (38, none, .aload_n 0, 1, 0, 0, 0)] := fq_of2 cd_254 ow_254 cl_254 rfl (pc := 0) (by decide +kernel)
    j_aldn (pc := 0) D rfl rfl rfl fun D =>
    j_ivv (pc := 1) (m := 166) (dd := 261) (a := []) (rest := []) D rfl rfl rfl rfl rfl (by decide) (s0_377 H) (by decide +kernel) (fun h1 e1 D =>
      have T := fj_run_ok _ _ _ _ _ _ H.1 e1
      have H := shp_st H T
      j_aldn (pc := 4) D rfl rfl rfl fun D =>
      j_ivv (pc := 5) (m := 248) (dd := 324) (a := []) (rest := []) D rfl rfl rfl rfl rfl (by decide) (s0_377 H) (by decide +kernel) (fun h4 e1 D =>
        have T := fj_run_ok _ _ _ _ _ _ H.1 e1
        have H := shp_st H T
        j_aldn (pc := 8) D rfl rfl rfl fun D =>
        j_iv (pc := 9) (m := 231) (dd := 301) (a := []) (rest := []) D rfl rfl rfl rfl rfl (by decide) (s0_377 H) (by decide +kernel) (fun v8 h7 e1 D =>
          have T := fj_run_ok _ _ _ _ _ _ H.1 e1
          have H := shp_st H T
          j_astn (pc := 12) (L' := [(3, (4, v8)), (0, (4, 377)), (1, (4, x1)), (2, (0, x2))]) D rfl nl_254 rfl rfl fun D =>
          j_aldn (pc := 13) D rfl rfl rfl fun D =>
          j_bp (pc := 14) D rfl fun D =>
          j_ivv (pc := 16) (m := 182) (dd := 264) (a := [(0, 44)]) (rest := []) D rfl rfl rfl rfl rfl (by decide) (s0_377 H) (by decide +kernel) (fun h10 e1 D =>
            have T := fj_run_ok _ _ _ _ _ _ H.1 e1
            have H := shp_st H T
            j_ic (pc := 19) D rfl fun D =>
            j_ist (pc := 20) (L' := [(4, (0, (-1))), (3, (4, v8)), (0, (4, 377)), (1, (4, x1)), (2, (0, x2))]) D rfl nl_254 rfl rfl fun D =>
            j_aldn (pc := 22) D rfl rfl rfl fun D =>
            j_ldcw (pc := 23) D rfl fun D =>
            j_iv (pc := 26) (m := 162) (dd := 262) (a := [(4, 159)]) (rest := []) D rfl rfl rfl rfl rfl (by decide) (s0_377 H) (by decide +kernel) (fun v14 h13 e1 D =>
              have T := fj_run_ok _ _ _ _ _ _ H.1 e1
              have H := shp_st H T
              j_ifne (pc := 29) D rfl (fun q D =>
                j_aldn (pc := 32) D rfl rfl rfl fun D =>
                j_iv (pc := 33) (m := 210) (dd := 281) (a := []) (rest := []) D rfl rfl rfl rfl rfl (by decide) (s0_377 H) (by decide +kernel) (fun v17 h16 e1 D =>
                  have T := fj_run_ok _ _ _ _ _ _ H.1 e1
                  have H := shp_st H T
                  j_ist (pc := 36) (L' := [(4, (0, v17)), (3, (4, v8)), (0, (4, 377)), (1, (4, x1)), (2, (0, x2))]) D rfl nl_254 rfl rfl fun D =>
                  j_aldn (pc := 38) D rfl rfl rfl fun D =>
                  have D : fk_D 254 [(39, none, .getfield 3, 3, 182, 115, 12), (42, none, .getfield 368, 3, 214, 100, 12), (45, none, .iload 4, 2, 0, 0, 0), (47, none, .aaload, 1, 0, 0, 0), (48, none, .getfield 448, 3, 324, (-124), 12), (51, none, .getstatic 464, 3, 4, 9, 0), (54, none, .if_acmp .eq 9, 3, 63, 0, 0), (57, none, .aload_n 0, 1, 0, 0, 0), (58, none, .iconst 2, 1, 0, 2, 0), (59, none, .invokevirtual 190, 3, 1, 258, 5), (62, none, .athrow, 1, 0, 0, 0)] := fq_of2 cd_254 ow_254 cl_254 rfl (pc := 39) (by decide +kernel)
                  j_gfc (pc := 39) (a := 377) D rfl rfl (by decide) rfl (s0_377 H) rfl (sf_182_377 H) fun D =>
                  j_gfc (pc := 42) (a := 303) D rfl rfl (by decide) rfl (s0_303 H) rfl (sf_214_303 H) fun D =>
                  j_ild (pc := 45) D rfl rfl rfl fun D =>
                  j_al (pc := 47) (a := 320) (e := 12) D rfl rfl rfl (by decide) (s0_320 H) (s1_320 H) ⟨rfl, rfl, rfl⟩ rfl gn fun qb19 D =>
                  j_gfo (pc := 48) H.2.1 D rfl rfl rfl rfl fun kc20 D =>
                  j_gs (pc := 51) D rfl fun D =>
                  j_aeq (pc := 54) D rfl (fun q =>
                    fk_jump cut_254_63 rfl rfl) (fun q D =>
                    j_aldn (pc := 57) D rfl rfl rfl fun D =>
                    j_ic (pc := 58) D rfl fun D =>
                    j_iv (pc := 59) (m := 164) (dd := 258) (a := [(0, 2)]) (rest := []) D rfl rfl rfl rfl rfl (by decide) (s0_377 H) (by decide +kernel) (fun v22 h21 e1 D =>
                      have T := fj_run_ok _ _ _ _ _ _ H.1 e1
                      have H := shp_st H T
                      j_at (pc := 62) D gn <|
                      j_tx (hx_254 _)) (fun q23 h21 e1 =>
                      j_tx (hx_254 _)))) (fun q18 h16 e1 =>
                  j_tx (hx_254 _))) (fun q =>
                fk_jump cut_254_63 rfl rfl)) (fun q15 h13 e1 =>
              j_tx (hx_254 _))) (fun q12 h10 e1 =>
            j_tx (hx_254 _))) (fun q9 h7 e1 =>
          j_tx (hx_254 _))) (fun q6 h4 e1 =>
        j_tx (hx_254 _))) (fun q3 h1 e1 =>
      j_tx (hx_254 _))
/-! 255 StatuteHouse$Kind.isOrdered()Z -/
theorem cd_255 : fi_code 255 = prog_39_method_5_code := rfl
theorem hx_255 : ∀ pc, fi_hat 255 pc = none := fun pc => by unfold fi_hat; rw [show fi_hh 255 = [] from rfl]; rfl
theorem rt_255 : fi_ret 255 = some .boolean := rfl
theorem nl_255 : fi_nl 255 = 1 := rfl
theorem ow_255 : fi_ow 255 = 59 := rfl
theorem cl_255 : fj_cutT.getD 255 [] = [] := rfl
theorem m_255 (d : Nat) (x0 : Int) {h : fi_H} {k0 : Int} (H : Shp h) (hk : h 0 x0.toNat 0 = k0) (hk0 : k0 ≠ 0) : fj_run (d + 1) 255 h [(4, x0)] =
  if x0 = 3 then
    some (.inl (some (0, 1)), h)
  else
    if x0 = 4 then
      some (.inl (some (0, 1)), h)
    else
      if x0 = 5 then
        some (.inl (some (0, 1)), h)
      else
        if x0 = 8 then
          some (.inl (some (0, 1)), h)
        else
          if x0 = 6 then
            some (.inl (some (0, 1)), h)
          else
            some (.inl (some (0, 0)), h) := by
  rw [fj_run_eq d (by decide) h [(4, x0)] (Nat.le_of_ble_eq_true (by rw [nl_255]; rfl))]
  show gG (fj_run d) 255 0 [(0, (4, x0))] [] h = _
  exact
    have D : fk_D 255 [(0, none, .aload_n 0, 1, 0, 0, 0), (1, none, .getstatic 7, 3, 4, 3, 0), (4, none, .if_acmp .eq 31, 3, 35, 0, 0), (7, none, .aload_n 0, 1, 0, 0, 0), (8, none, .getstatic 10, 3, 4, 4, 0), (11, none, .if_acmp .eq 24, 3, 35, 0, 0), (14, none, .aload_n 0, 1, 0, 0, 0), (15, none, .getstatic 13, 3, 4, 5, 0), (18, none, .if_acmp .eq 17, 3, 35, 0, 0), (21, none, .aload_n 0, 1, 0, 0, 0), (22, none, .getstatic 22, 3, 4, 8, 0), (25, none, .if_acmp .eq 10, 3, 35, 0, 0), (28, none, .aload_n 0, 1, 0, 0, 0), (29, none, .getstatic 16, 3, 4, 6, 0), (32, none, .if_acmp .ne 7, 3, 39, 0, 0), (35, none, .iconst 1, 1, 0, 1, 0), (36, none, .goto 4, 3, 40, 0, 0)] := fq_of2 cd_255 ow_255 cl_255 rfl (pc := 0) (by decide +kernel)
    j_aldn (pc := 0) D rfl rfl rfl fun D =>
    j_gs (pc := 1) D rfl fun D =>
    j_aeq (pc := 4) D rfl (fun q =>
      have D : fk_D 255 [(35, none, .iconst 1, 1, 0, 1, 0), (36, none, .goto 4, 3, 40, 0, 0)] := fq_of2 cd_255 ow_255 cl_255 rfl (pc := 35) (by decide +kernel)
      j_ic (pc := 35) D rfl fun D =>
      j_goto (pc := 36) D rfl <|
      have D : fk_D 255 [(40, none, .ireturn, 1, 0, 0, 0)] := fq_of2 cd_255 ow_255 cl_255 rfl (pc := 40) (by decide +kernel)
      j_zret D rt_255 (gy (by decide))) (fun q D =>
      j_aldn (pc := 7) D rfl rfl rfl fun D =>
      j_gs (pc := 8) D rfl fun D =>
      j_aeq (pc := 11) D rfl (fun q =>
        have D : fk_D 255 [(35, none, .iconst 1, 1, 0, 1, 0), (36, none, .goto 4, 3, 40, 0, 0)] := fq_of2 cd_255 ow_255 cl_255 rfl (pc := 35) (by decide +kernel)
        j_ic (pc := 35) D rfl fun D =>
        j_goto (pc := 36) D rfl <|
        have D : fk_D 255 [(40, none, .ireturn, 1, 0, 0, 0)] := fq_of2 cd_255 ow_255 cl_255 rfl (pc := 40) (by decide +kernel)
        j_zret D rt_255 (gy (by decide))) (fun q D =>
        j_aldn (pc := 14) D rfl rfl rfl fun D =>
        j_gs (pc := 15) D rfl fun D =>
        j_aeq (pc := 18) D rfl (fun q =>
          have D : fk_D 255 [(35, none, .iconst 1, 1, 0, 1, 0), (36, none, .goto 4, 3, 40, 0, 0)] := fq_of2 cd_255 ow_255 cl_255 rfl (pc := 35) (by decide +kernel)
          j_ic (pc := 35) D rfl fun D =>
          j_goto (pc := 36) D rfl <|
          have D : fk_D 255 [(40, none, .ireturn, 1, 0, 0, 0)] := fq_of2 cd_255 ow_255 cl_255 rfl (pc := 40) (by decide +kernel)
          j_zret D rt_255 (gy (by decide))) (fun q D =>
          j_aldn (pc := 21) D rfl rfl rfl fun D =>
          j_gs (pc := 22) D rfl fun D =>
          j_aeq (pc := 25) D rfl (fun q =>
            have D : fk_D 255 [(35, none, .iconst 1, 1, 0, 1, 0), (36, none, .goto 4, 3, 40, 0, 0)] := fq_of2 cd_255 ow_255 cl_255 rfl (pc := 35) (by decide +kernel)
            j_ic (pc := 35) D rfl fun D =>
            j_goto (pc := 36) D rfl <|
            have D : fk_D 255 [(40, none, .ireturn, 1, 0, 0, 0)] := fq_of2 cd_255 ow_255 cl_255 rfl (pc := 40) (by decide +kernel)
            j_zret D rt_255 (gy (by decide))) (fun q D =>
            j_aldn (pc := 28) D rfl rfl rfl fun D =>
            j_gs (pc := 29) D rfl fun D =>
            j_ane (pc := 32) D rfl (fun q D =>
              j_ic (pc := 35) D rfl fun D =>
              j_goto (pc := 36) D rfl <|
              have D : fk_D 255 [(40, none, .ireturn, 1, 0, 0, 0)] := fq_of2 cd_255 ow_255 cl_255 rfl (pc := 40) (by decide +kernel)
              j_zret D rt_255 (gy (by decide))) (fun q =>
              have D : fk_D 255 [(39, none, .iconst 0, 1, 0, 0, 0), (40, none, .ireturn, 1, 0, 0, 0)] := fq_of2 cd_255 ow_255 cl_255 rfl (pc := 39) (by decide +kernel)
              j_ic (pc := 39) D rfl fun D =>
              j_zret D rt_255 (gy (by decide)))))))
/-! 256 StatuteHouse$SetPart.<init>(LStatuteHouse;LStatuteHouse$Fold;LStatuteHouse$Kind;LStatuteHouse$Part;I)V -/
theorem cd_256 : fi_code 256 = prog_56_method_1_code := rfl
theorem hx_256 : ∀ pc, fi_hat 256 pc = none := fun pc => by unfold fi_hat; rw [show fi_hh 256 = [] from rfl]; rfl
theorem rt_256 : fi_ret 256 = none := rfl
theorem nl_256 : fi_nl 256 = 6 := rfl
theorem ow_256 : fi_ow 256 = 18 := rfl
theorem cl_256 : fj_cutT.getD 256 [] = [] := rfl
theorem m_256 (d : Nat) (x0 x1 x2 x3 x4 x5 : Int) {h : fi_H} (H : Shp h) (hk : h 0 x0.toNat 0 = 118) : fj_run (d + 1) 256 h [(4, x0), (4, x1), (4, x2), (4, x3), (4, x4), (0, x5)] =
  if 302 < x0 then
  if h 356 x0.toNat 0 = 0 then
  lt_ (fi_upd h 356 x0.toNat 0 x1) fun h1 =>
  if fi_in (h1 0 x4.toNat 0) 341 = true then
  cv_ (fj_run d 245 h1 [(4, x0), (4, x1), (4, x3), (0, wI ((h1 341 x4.toNat 0) + 1))])
    (fun h2 =>
    if 302 < x0 then
    if h2 353 x0.toNat 0 = 0 then
    lt_ (fi_upd h2 353 x0.toNat 0 x2) fun h5 =>
    if 302 < x0 then
    if h5 354 x0.toNat 0 = 0 then
    lt_ (fi_upd h5 354 x0.toNat 0 x4) fun h6 =>
    if 302 < x0 then
    if h6 355 x0.toNat 0 = 0 then
    lt_ (fi_upd h6 355 x0.toNat 0 x5) fun h7 =>
    some (.inl none, h7)
    else none
    else none
    else none
    else none
    else none
    else none)
    (fun q4 h2 => tx_ q4 h2)
  else none
  else none
  else none := by
  rw [fj_run_eq d (by decide) h [(4, x0), (4, x1), (4, x2), (4, x3), (4, x4), (0, x5)] (Nat.le_of_ble_eq_true (by rw [nl_256]; rfl))]
  show gG (fj_run d) 256 0 [(0, (4, x0)), (1, (4, x1)), (2, (4, x2)), (3, (4, x3)), (4, (4, x4)), (5, (0, x5))] [] h = _
  exact
    have D : fk_D 256 [(0, none, .aload_n 0, 1, 0, 0, 0), (1, none, .aload_n 1, 1, 0, 0, 0), (2, none, .putfield 3, 3, 356, 118, 112), (5, none, .aload_n 0, 1, 0, 0, 0), (6, none, .aload_n 1, 1, 0, 0, 0), (7, none, .aload_n 3, 1, 0, 0, 0), (8, none, .aload 4, 2, 0, 0, 0), (10, none, .getfield 9, 3, 341, 0, 10), (13, none, .iconst 1, 1, 0, 1, 0), (14, none, .iadd, 1, 0, 0, 0), (15, none, .invokespecial 15, 3, 3, 245, 0), (18, none, .aload_n 0, 1, 0, 0, 0), (19, none, .aload_n 2, 1, 0, 0, 0), (20, none, .putfield 19, 3, 353, 118, 112), (23, none, .aload_n 0, 1, 0, 0, 0), (24, none, .aload 4, 2, 0, 0, 0), (26, none, .putfield 23, 3, 354, 118, 112), (29, none, .aload_n 0, 1, 0, 0, 0), (30, none, .iload 5, 2, 0, 0, 0), (32, none, .putfield 27, 3, 355, 118, 110)] := fq_of2 cd_256 ow_256 cl_256 rfl (pc := 0) (by decide +kernel)
    j_aldn (pc := 0) D rfl rfl rfl fun D =>
    j_aldn (pc := 1) D rfl rfl rfl fun D =>
    j_pfF (pc := 2) (a := x0.toNat) (ty := 12) D rfl rfl rfl hk ⟨rfl, rfl⟩ rfl gn (gy rfl) gn fun h1 eh1 S D =>
    have T := fj_hs_ok H.1 S
    have hk := cls_st H.1 T.2 hk (by decide)
    have H := shp_st H T
    j_aldn (pc := 5) D rfl rfl rfl fun D =>
    j_aldn (pc := 6) D rfl rfl rfl fun D =>
    j_aldn (pc := 7) D rfl rfl rfl fun D =>
    j_ald (pc := 8) D rfl rfl rfl fun D =>
    j_gfu (pc := 10) H.2.1 D rfl rfl fun q D =>
    j_ic (pc := 13) D rfl fun D =>
    j_iadd (pc := 14) D rfl fun D =>
    j_spv (pc := 15) (m := 245) (a := [(4, x1), (4, x3), (0, wI ((h1 341 x4.toNat 0) + 1))]) (rest := []) D rfl rfl rfl rfl (by rw [show h1 0 x0.toNat 0 = 118 from hk]; decide) (nz_cls H.2.1 hk (by decide)) (fun h2 e1 D =>
      have T := fj_run_ok _ _ _ _ _ _ H.1 e1
      have hk := cls_st H.1 T.2 hk (by decide)
      have H := shp_st H T
      j_aldn (pc := 18) D rfl rfl rfl fun D =>
      j_aldn (pc := 19) D rfl rfl rfl fun D =>
      j_pfF (pc := 20) (a := x0.toNat) (ty := 12) D rfl rfl rfl hk ⟨rfl, rfl⟩ rfl gn (gy rfl) gn fun h5 eh5 S D =>
      have T := fj_hs_ok H.1 S
      have hk := cls_st H.1 T.2 hk (by decide)
      have H := shp_st H T
      j_aldn (pc := 23) D rfl rfl rfl fun D =>
      j_ald (pc := 24) D rfl rfl rfl fun D =>
      j_pfF (pc := 26) (a := x0.toNat) (ty := 12) D rfl rfl rfl hk ⟨rfl, rfl⟩ rfl gn (gy rfl) gn fun h6 eh6 S D =>
      have T := fj_hs_ok H.1 S
      have hk := cls_st H.1 T.2 hk (by decide)
      have H := shp_st H T
      j_aldn (pc := 29) D rfl rfl rfl fun D =>
      j_ild (pc := 30) D rfl rfl rfl fun D =>
      j_pfF (pc := 32) (a := x0.toNat) (ty := 10) D rfl rfl rfl hk ⟨rfl, rfl⟩ rfl gn (gy rfl) gn fun h7 eh7 S D =>
      have T := fj_hs_ok H.1 S
      have hk := cls_st H.1 T.2 hk (by decide)
      have H := shp_st H T
      have D : fk_D 256 [(35, none, .return_, 1, 0, 0, 0)] := fq_of2 cd_256 ow_256 cl_256 rfl (pc := 35) (by decide +kernel)
      j_vret D rt_256) (fun q4 h2 e1 =>
      j_tx (hx_256 _))
/-! 257 StatuteHouse$Reader.tabled(Ljava/lang/String;I)LStatuteHouse$Part; -/
theorem cd_257 : fi_code 257 = prog_53_method_79_code := rfl
theorem hx_257 : ∀ pc, fi_hat 257 pc = none := fun pc => by unfold fi_hat; rw [show fi_hh 257 = [] from rfl]; rfl
theorem rt_257 : fj_ft (fi_ret 257) = 5 := rfl
theorem nl_257 : fi_nl 257 = 6 := rfl
theorem ow_257 : fi_ow 257 = 15 := rfl
theorem cl_257 : fj_cutT.getD 257 [] = [(97, [0, 1, 2, 3, 4, 5]), (115, [0, 2]), (125, [0, 1, 2, 3, 4, 5]), (164, [3, 4])] := rfl
theorem cut_257_97 : fj_cut 257 97 = some [0, 1, 2, 3, 4, 5] := by decide +kernel
noncomputable def c_257_97 (d : Nat) (x1 x2 x3 x4 x5 : Int) (h : fi_H) : fk_R := gG (fj_run d) 257 97 [(0, (4, 377)), (1, (4, x1)), (2, (0, x2)), (3, (0, x3)), (4, (4, x4)), (5, (4, x5))] [] h
theorem cut_257_115 : fj_cut 257 115 = some [0, 2] := by decide +kernel
noncomputable def c_257_115 (d : Nat) (x2 : Int) (h : fi_H) : fk_R := gG (fj_run d) 257 115 [(0, (4, 377)), (2, (0, x2))] [] h
theorem cut_257_125 : fj_cut 257 125 = some [0, 1, 2, 3, 4, 5] := by decide +kernel
noncomputable def c_257_125 (d : Nat) (x1 x2 x3 x4 x5 : Int) (h : fi_H) : fk_R := gG (fj_run d) 257 125 [(0, (4, 377)), (1, (4, x1)), (2, (0, x2)), (3, (0, x3)), (4, (4, x4)), (5, (4, x5))] [] h
theorem cut_257_164 : fj_cut 257 164 = some [3, 4] := by decide +kernel
noncomputable def c_257_164 (d : Nat) (x3 x4 s0 s1 s2 s3 s4 : Int) (h : fi_H) : fk_R := gG (fj_run d) 257 164 [(3, (0, x3)), (4, (4, x4))] [(4, s4), (4, s3), (4, s2), (4, s1), (4, s0)] h
theorem e_257_97 (d : Nat) (x1 x2 x3 x4 x5 : Int) {h : fi_H} (H : Shp h) : c_257_97 d x1 x2 x3 x4 x5 h =
  dv_ (fi_vt 216 (h 0 x1.toNat 0)) fun m4 => ca_ (fj_run d m4 h [(4, x1), (4, 259)]) 0
    (fun v2 h1 =>
    if v2 = 0 then
      c_257_125 d x1 x2 x3 x4 x5 h1
    else
      if x5 = 4 then
        c_257_125 d x1 x2 x3 x4 x5 h1
      else
        c_257_115 d x2 h1)
    (fun q3 h1 => tx_ q3 h1) := by
  unfold c_257_97
  exact
    have D : fk_D 257 [(97, some [0, 1, 2, 3, 4, 5], .aload_n 1, 1, 0, 0, 0), (98, none, .ldc_w 348, 3, 4, 259, 0), (101, none, .invokevirtual 194, 3, 1, 216, 1), (104, none, .ifCond .eq 21, 3, 125, 0, 0), (107, none, .aload 5, 2, 0, 0, 0), (109, none, .getstatic 431, 3, 4, 4, 0), (112, none, .if_acmp .eq 13, 3, 125, 0, 0)] := fq_of2 cd_257 ow_257 cl_257 rfl (pc := 97) (by decide +kernel)
    j_aldn (pc := 97) D rfl rfl rfl fun D =>
    j_ldcw (pc := 98) D rfl fun D =>
    j_ivu (pc := 101) (dd := 216) (a := [(4, 259)]) (rest := []) H.2.1 D rfl rfl rfl rfl rfl (fun m4 v2 h1 e1 D =>
      have T := fj_run_ok _ _ _ _ _ _ H.1 e1
      have H := shp_st H T
      j_ifeq (pc := 104) D rfl (fun q =>
        fk_jump cut_257_125 rfl rfl) (fun q D =>
        j_ald (pc := 107) D rfl rfl rfl fun D =>
        j_gs (pc := 109) D rfl fun D =>
        j_aeq (pc := 112) D rfl (fun q =>
          fk_jump cut_257_125 rfl rfl) (fun q D =>
          fk_jump cut_257_115 rfl rfl))) (fun m4 q3 h1 e1 =>
      j_tx (hx_257 _))
theorem e_257_115 (d : Nat) (x2 : Int) {h : fi_H} (H : Shp h) : c_257_115 d x2 h =
  ca_ (fj_run d 165 h [(4, 303), (0, 5), (0, x2)]) 4
    (fun v2 h1 =>
    if v2 ≠ 0 then
    tx_ v2.toNat h1
    else none)
    (fun q3 h1 => tx_ q3 h1) := by
  unfold c_257_115
  exact
    have D : fk_D 257 [(115, some [0, 2], .aload_n 0, 1, 0, 0, 0), (116, none, .getfield 3, 3, 182, 115, 12), (119, none, .iconst 5, 1, 0, 5, 0), (120, none, .iload_n 2, 1, 0, 0, 0), (121, none, .invokevirtual 186, 3, 2, 257, 5), (124, none, .athrow, 1, 0, 0, 0)] := fq_of2 cd_257 ow_257 cl_257 rfl (pc := 115) (by decide +kernel)
    j_aldn (pc := 115) D rfl rfl rfl fun D =>
    j_gfc (pc := 116) (a := 377) D rfl rfl (by decide) rfl (s0_377 H) rfl (sf_182_377 H) fun D =>
    j_ic (pc := 119) D rfl fun D =>
    j_ildn (pc := 120) D rfl rfl rfl fun D =>
    j_iv (pc := 121) (m := 165) (dd := 257) (a := [(0, 5), (0, x2)]) (rest := []) D rfl rfl rfl rfl rfl (by decide) (s0_303 H) (by decide +kernel) (fun v2 h1 e1 D =>
      have T := fj_run_ok _ _ _ _ _ _ H.1 e1
      have H := shp_st H T
      j_at (pc := 124) D gn <|
      j_tx (hx_257 _)) (fun q3 h1 e1 =>
      j_tx (hx_257 _))
theorem e_257_125 (d : Nat) (x1 x2 x3 x4 x5 : Int) {h : fi_H} (H : Shp h) : c_257_125 d x1 x2 x3 x4 x5 h =
  if fi_in (h 0 x4.toNat 0) 341 = true then
  cv_ (fj_run d 243 h [(4, 377), (0, wI ((h 341 x4.toNat 0) + 1)), (0, x2)])
    (fun h1 =>
    nw_ h1 122 8 0 fun r4 h5 =>
    dv_ (fi_vt 216 (h5 0 x1.toNat 0)) fun m9 => ca_ (fj_run d m9 h5 [(4, x1), (4, 255)]) 0
      (fun v7 h6 =>
      if v7 = 0 then
        c_257_164 d x3 x4 r4 r4 303 x1 4 h6
      else
        c_257_164 d x3 x4 r4 r4 303 x1 x5 h6)
      (fun q8 h6 => tx_ q8 h6))
    (fun q3 h1 => tx_ q3 h1)
  else none := by
  unfold c_257_125
  exact
    have D : fk_D 257 [(125, some [0, 1, 2, 3, 4, 5], .aload_n 0, 1, 0, 0, 0), (126, none, .aload 4, 2, 0, 0, 0), (128, none, .getfield 734, 3, 341, 0, 10), (131, none, .iconst 1, 1, 0, 1, 0), (132, none, .iadd, 1, 0, 0, 0), (133, none, .iload_n 2, 1, 0, 0, 0), (134, none, .invokevirtual 740, 3, 2, 310, 0), (137, none, .new 893, 3, 122, 8, 0), (140, none, .dup, 1, 0, 0, 0), (141, none, .aload_n 0, 1, 0, 0, 0), (142, none, .getfield 3, 3, 182, 115, 12), (145, none, .aload_n 1, 1, 0, 0, 0), (146, none, .aload_n 1, 1, 0, 0, 0), (147, none, .ldc_w 344, 3, 4, 255, 0), (150, none, .invokevirtual 194, 3, 1, 216, 1), (153, none, .ifCond .eq 8, 3, 161, 0, 0), (156, none, .aload 5, 2, 0, 0, 0), (158, none, .goto 6, 3, 164, 0, 0)] := fq_of2 cd_257 ow_257 cl_257 rfl (pc := 125) (by decide +kernel)
    j_aldn (pc := 125) D rfl rfl rfl fun D =>
    j_ald (pc := 126) D rfl rfl rfl fun D =>
    j_gfu (pc := 128) H.2.1 D rfl rfl fun q D =>
    j_ic (pc := 131) D rfl fun D =>
    j_iadd (pc := 132) D rfl fun D =>
    j_ildn (pc := 133) D rfl rfl rfl fun D =>
    j_ivv (pc := 134) (m := 243) (dd := 310) (a := [(0, wI ((h 341 x4.toNat 0) + 1)), (0, x2)]) (rest := []) D rfl rfl rfl rfl rfl (by decide) (s0_377 H) (by decide +kernel) (fun h1 e1 D =>
      have T := fj_run_ok _ _ _ _ _ _ H.1 e1
      have H := shp_st H T
      j_new (pc := 137) D rfl fun r4 h5 er eh5 S D =>
      have gt_r4 := nw_gt H.1 er
      have kc_r4 := nw_cls H.1 er eh5
      have T := fj_hs_ok H.1 S
      have H := shp_st H T
      j_sh (pc := 140) D rfl rfl rfl fun D =>
      j_aldn (pc := 141) D rfl rfl rfl fun D =>
      j_gfc (pc := 142) (a := 377) D rfl rfl (by decide) rfl (s0_377 H) rfl (sf_182_377 H) fun D =>
      j_aldn (pc := 145) D rfl rfl rfl fun D =>
      j_aldn (pc := 146) D rfl rfl rfl fun D =>
      j_ldcw (pc := 147) D rfl fun D =>
      j_ivu (pc := 150) (dd := 216) (a := [(4, 255)]) (rest := [(4, x1), (4, 303), (4, r4), (4, r4)]) H.2.1 D rfl rfl rfl rfl rfl (fun m9 v7 h6 e1 D =>
        have T := fj_run_ok _ _ _ _ _ _ H.1 e1
        have kc_r4 := cls_st H.1 T.2 kc_r4 (by decide)
        have H := shp_st H T
        j_ifeq (pc := 153) D rfl (fun q =>
          have D : fk_D 257 [(161, none, .getstatic 431, 3, 4, 4, 0)] := fq_of2 cd_257 ow_257 cl_257 rfl (pc := 161) (by decide +kernel)
          j_gs (pc := 161) D rfl fun D =>
          fk_jump cut_257_164 rfl rfl) (fun q D =>
          j_ald (pc := 156) D rfl rfl rfl fun D =>
          j_goto (pc := 158) D rfl <|
          fk_jump cut_257_164 rfl rfl)) (fun m9 q8 h6 e1 =>
        j_tx (hx_257 _))) (fun q3 h1 e1 =>
      j_tx (hx_257 _))
theorem e_257_164 (d : Nat) (x3 x4 s0 s1 s2 s3 s4 : Int) {h : fi_H} (H : Shp h) : c_257_164 d x3 x4 s0 s1 s2 s3 s4 h =
  if 100 ≤ h 0 s1.toNat 0 ∧ h 0 s1.toNat 0 < 134 then
  cv_ (fj_run d 258 h [(4, s1), (4, s2), (4, s3), (4, s4), (0, x3), (4, x4)])
    (fun h1 =>
    some (.inl (some (4, s0)), h1))
    (fun q3 h1 => tx_ q3 h1)
  else none := by
  unfold c_257_164
  exact
    have D : fk_D 257 [(164, some [3, 4], .iload_n 3, 1, 0, 0, 0), (165, none, .aload 4, 2, 0, 0, 0), (167, none, .invokespecial 895, 3, 5, 258, 0), (170, none, .areturn, 1, 0, 0, 0)] := fq_of2 cd_257 ow_257 cl_257 rfl (pc := 164) (by decide +kernel)
    j_ildn (pc := 164) D rfl rfl rfl fun D =>
    j_ald (pc := 165) D rfl rfl rfl fun D =>
    j_spuv (pc := 167) (m := 258) (a := [(4, s2), (4, s3), (4, s4), (0, x3), (4, x4)]) (rest := [(4, s0)]) H.2.1 D rfl rfl rfl rfl (fun h1 e1 D =>
      have T := fj_run_ok _ _ _ _ _ _ H.1 e1
      have H := shp_st H T
      j_aret D rt_257) (fun q3 h1 e1 =>
      j_tx (hx_257 _))
theorem m_257 (d : Nat) (x1 x2 : Int) {h : fi_H} (H : Shp h) : fj_run (d + 1) 257 h [(4, 377), (4, x1), (0, x2)] =
  cv_ (fj_run d 166 h [(4, 377)])
    (fun h1 =>
    cv_ (fj_run d 248 h1 [(4, 377)])
      (fun h4 =>
      ca_ (fj_run d 211 h4 [(4, 377)]) 0
        (fun v8 h7 =>
        if 0 ≤ v8 ∧ v8 < 40 then
        if h7 0 (h7 12 320 v8.toNat).toNat 0 = 124 then
        if h7 323 (h7 12 320 v8.toNat).toNat 0 = 0 then
          ca_ (fj_run d 164 h7 [(4, 377), (0, 2)]) 4
            (fun v13 h12 =>
            if v13 ≠ 0 then
            tx_ v13.toNat h12
            else none)
            (fun q14 h12 => tx_ q14 h12)
        else
          cv_ (fj_run d 166 h7 [(4, 377)])
            (fun h15 =>
            cv_ (fj_run d 182 h15 [(4, 377), (0, 44)])
              (fun h18 =>
              ca_ (fj_run d 231 h18 [(4, 377)]) 4
                (fun v22 h21 =>
                cv_ (fj_run d 242 h21 [(4, 377)])
                  (fun h24 =>
                  if h24 0 (h24 12 320 v8.toNat).toNat 0 = 124 then
                  if fi_in (h24 0 v22.toNat 0) 340 = true then
                  if h24 340 v22.toNat 0 = 4 then
                    dv_ (fi_vt 216 (h24 0 x1.toNat 0)) fun m31 => ca_ (fj_run d m31 h24 [(4, x1), (4, 257)]) 0
                      (fun v29 h28 =>
                      if v29 = 0 then
                        c_257_97 d x1 x2 v8 v22 (h24 324 (h24 12 320 v8.toNat).toNat 0) h28
                      else
                        if h24 324 (h24 12 320 v8.toNat).toNat 0 = 5 then
                          c_257_97 d x1 x2 v8 v22 (h24 324 (h24 12 320 v8.toNat).toNat 0) h28
                        else
                          c_257_115 d x2 h28)
                      (fun q30 h28 => tx_ q30 h28)
                  else
                    c_257_115 d x2 h24
                  else none
                  else none)
                  (fun q26 h24 => tx_ q26 h24))
                (fun q23 h21 => tx_ q23 h21))
              (fun q20 h18 => tx_ q20 h18))
            (fun q17 h15 => tx_ q17 h15)
        else none
        else none)
        (fun q9 h7 => tx_ q9 h7))
      (fun q6 h4 => tx_ q6 h4))
    (fun q3 h1 => tx_ q3 h1) := by
  rw [fj_run_eq d (by decide) h [(4, 377), (4, x1), (0, x2)] (Nat.le_of_ble_eq_true (by rw [nl_257]; rfl))]
  show gG (fj_run d) 257 0 [(0, (4, 377)), (1, (4, x1)), (2, (0, x2))] [] h = _
  exact
    have D : fk_D 257 [(0, none, .aload_n 0, 1, 0, 0, 0), (1, none, .invokevirtual 206, 3, 0, 261, 0), (4, none, .aload_n 0, 1, 0, 0, 0), (5, none, .invokevirtual 879, 3, 0, 324, 0), (8, none, .aload_n 0, 1, 0, 0, 0), (9, none, .invokevirtual 632, 3, 0, 293, 1), (12, none, .istore_n 3, 1, 0, 0, 0), (13, none, .aload_n 0, 1, 0, 0, 0), (14, none, .getfield 3, 3, 182, 115, 12), (17, none, .getfield 368, 3, 214, 100, 12), (20, none, .iload_n 3, 1, 0, 0, 0), (21, none, .aaload, 1, 0, 0, 0), (22, none, .getfield 648, 3, 323, (-124), 4), (25, none, .ifCond .ne 9, 3, 34, 0, 0), (28, none, .aload_n 0, 1, 0, 0, 0), (29, none, .iconst 2, 1, 0, 2, 0), (30, none, .invokevirtual 190, 3, 1, 258, 5), (33, none, .athrow, 1, 0, 0, 0)] := fq_of2 cd_257 ow_257 cl_257 rfl (pc := 0) (by decide +kernel)
    j_aldn (pc := 0) D rfl rfl rfl fun D =>
    j_ivv (pc := 1) (m := 166) (dd := 261) (a := []) (rest := []) D rfl rfl rfl rfl rfl (by decide) (s0_377 H) (by decide +kernel) (fun h1 e1 D =>
      have T := fj_run_ok _ _ _ _ _ _ H.1 e1
      have H := shp_st H T
      j_aldn (pc := 4) D rfl rfl rfl fun D =>
      j_ivv (pc := 5) (m := 248) (dd := 324) (a := []) (rest := []) D rfl rfl rfl rfl rfl (by decide) (s0_377 H) (by decide +kernel) (fun h4 e1 D =>
        have T := fj_run_ok _ _ _ _ _ _ H.1 e1
        have H := shp_st H T
        j_aldn (pc := 8) D rfl rfl rfl fun D =>
        j_iv (pc := 9) (m := 211) (dd := 293) (a := []) (rest := []) D rfl rfl rfl rfl rfl (by decide) (s0_377 H) (by decide +kernel) (fun v8 h7 e1 D =>
          have T := fj_run_ok _ _ _ _ _ _ H.1 e1
          have H := shp_st H T
          j_istn (pc := 12) (L' := [(3, (0, v8)), (0, (4, 377)), (1, (4, x1)), (2, (0, x2))]) D rfl nl_257 rfl rfl fun D =>
          j_aldn (pc := 13) D rfl rfl rfl fun D =>
          j_gfc (pc := 14) (a := 377) D rfl rfl (by decide) rfl (s0_377 H) rfl (sf_182_377 H) fun D =>
          j_gfc (pc := 17) (a := 303) D rfl rfl (by decide) rfl (s0_303 H) rfl (sf_214_303 H) fun D =>
          j_ildn (pc := 20) D rfl rfl rfl fun D =>
          j_al (pc := 21) (a := 320) (e := 12) D rfl rfl rfl (by decide) (s0_320 H) (s1_320 H) ⟨rfl, rfl, rfl⟩ rfl gn fun qb10 D =>
          j_gfo (pc := 22) H.2.1 D rfl rfl rfl rfl fun kc11 D =>
          j_ifne (pc := 25) D rfl (fun q D =>
            j_aldn (pc := 28) D rfl rfl rfl fun D =>
            j_ic (pc := 29) D rfl fun D =>
            j_iv (pc := 30) (m := 164) (dd := 258) (a := [(0, 2)]) (rest := []) D rfl rfl rfl rfl rfl (by decide) (s0_377 H) (by decide +kernel) (fun v13 h12 e1 D =>
              have T := fj_run_ok _ _ _ _ _ _ H.1 e1
              have H := shp_st H T
              j_at (pc := 33) D gn <|
              j_tx (hx_257 _)) (fun q14 h12 e1 =>
              j_tx (hx_257 _))) (fun q =>
            have D : fk_D 257 [(34, none, .aload_n 0, 1, 0, 0, 0), (35, none, .invokevirtual 206, 3, 0, 261, 0), (38, none, .aload_n 0, 1, 0, 0, 0), (39, none, .bipush 44, 2, 0, 44, 0), (41, none, .invokevirtual 216, 3, 1, 264, 0), (44, none, .aload_n 0, 1, 0, 0, 0), (45, none, .invokevirtual 688, 3, 0, 301, 5), (48, none, .astore 4, 2, 0, 0, 0), (50, none, .aload_n 0, 1, 0, 0, 0), (51, none, .invokevirtual 818, 3, 0, 318, 0), (54, none, .aload_n 0, 1, 0, 0, 0), (55, none, .getfield 3, 3, 182, 115, 12), (58, none, .getfield 368, 3, 214, 100, 12), (61, none, .iload_n 3, 1, 0, 0, 0), (62, none, .aaload, 1, 0, 0, 0), (63, none, .getfield 448, 3, 324, (-124), 12), (66, none, .astore 5, 2, 0, 0, 0), (68, none, .aload 4, 2, 0, 0, 0), (70, none, .getfield 691, 3, 340, 0, 12), (73, none, .getstatic 431, 3, 4, 4, 0)] := fq_of2 cd_257 ow_257 cl_257 rfl (pc := 34) (by decide +kernel)
            j_aldn (pc := 34) D rfl rfl rfl fun D =>
            j_ivv (pc := 35) (m := 166) (dd := 261) (a := []) (rest := []) D rfl rfl rfl rfl rfl (by decide) (s0_377 H) (by decide +kernel) (fun h15 e1 D =>
              have T := fj_run_ok _ _ _ _ _ _ H.1 e1
              have H := shp_st H T
              j_aldn (pc := 38) D rfl rfl rfl fun D =>
              j_bp (pc := 39) D rfl fun D =>
              j_ivv (pc := 41) (m := 182) (dd := 264) (a := [(0, 44)]) (rest := []) D rfl rfl rfl rfl rfl (by decide) (s0_377 H) (by decide +kernel) (fun h18 e1 D =>
                have T := fj_run_ok _ _ _ _ _ _ H.1 e1
                have H := shp_st H T
                j_aldn (pc := 44) D rfl rfl rfl fun D =>
                j_iv (pc := 45) (m := 231) (dd := 301) (a := []) (rest := []) D rfl rfl rfl rfl rfl (by decide) (s0_377 H) (by decide +kernel) (fun v22 h21 e1 D =>
                  have T := fj_run_ok _ _ _ _ _ _ H.1 e1
                  have H := shp_st H T
                  j_ast (pc := 48) (L' := [(4, (4, v22)), (3, (0, v8)), (0, (4, 377)), (1, (4, x1)), (2, (0, x2))]) D rfl nl_257 rfl rfl fun D =>
                  j_aldn (pc := 50) D rfl rfl rfl fun D =>
                  j_ivv (pc := 51) (m := 242) (dd := 318) (a := []) (rest := []) D rfl rfl rfl rfl rfl (by decide) (s0_377 H) (by decide +kernel) (fun h24 e1 D =>
                    have T := fj_run_ok _ _ _ _ _ _ H.1 e1
                    have H := shp_st H T
                    j_aldn (pc := 54) D rfl rfl rfl fun D =>
                    j_gfc (pc := 55) (a := 377) D rfl rfl (by decide) rfl (s0_377 H) rfl (sf_182_377 H) fun D =>
                    j_gfc (pc := 58) (a := 303) D rfl rfl (by decide) rfl (s0_303 H) rfl (sf_214_303 H) fun D =>
                    j_ildn (pc := 61) D rfl rfl rfl fun D =>
                    j_al (pc := 62) (a := 320) (e := 12) D rfl rfl rfl (by decide) (s0_320 H) (s1_320 H) ⟨rfl, rfl, rfl⟩ rfl (gy qb10) fun q D =>
                    j_gfo (pc := 63) H.2.1 D rfl rfl rfl rfl fun kc27 D =>
                    j_ast (pc := 66) (L' := [(5, (4, h24 324 (h24 12 320 v8.toNat).toNat 0)), (4, (4, v22)), (3, (0, v8)), (0, (4, 377)), (1, (4, x1)), (2, (0, x2))]) D rfl nl_257 rfl rfl fun D =>
                    j_ald (pc := 68) D rfl rfl rfl fun D =>
                    j_gfu (pc := 70) H.2.1 D rfl rfl fun q D =>
                    j_gs (pc := 73) D rfl fun D =>
                    have D : fk_D 257 [(76, none, .if_acmp .ne 39, 3, 115, 0, 0), (79, none, .aload_n 1, 1, 0, 0, 0), (80, none, .ldc_w 346, 3, 4, 257, 0), (83, none, .invokevirtual 194, 3, 1, 216, 1), (86, none, .ifCond .eq 11, 3, 97, 0, 0), (89, none, .aload 5, 2, 0, 0, 0), (91, none, .getstatic 420, 3, 4, 5, 0), (94, none, .if_acmp .ne 21, 3, 115, 0, 0)] := fq_of2 cd_257 ow_257 cl_257 rfl (pc := 76) (by decide +kernel)
                    j_ane (pc := 76) D rfl (fun q D =>
                      j_aldn (pc := 79) D rfl rfl rfl fun D =>
                      j_ldcw (pc := 80) D rfl fun D =>
                      j_ivu (pc := 83) (dd := 216) (a := [(4, 257)]) (rest := []) H.2.1 D rfl rfl rfl rfl rfl (fun m31 v29 h28 e1 D =>
                        have T := fj_run_ok _ _ _ _ _ _ H.1 e1
                        have kc27 := cls_st H.1 T.2 kc27 (by decide)
                        have H := shp_st H T
                        j_ifeq (pc := 86) D rfl (fun q =>
                          fk_jump cut_257_97 rfl rfl) (fun q D =>
                          j_ald (pc := 89) D rfl rfl rfl fun D =>
                          j_gs (pc := 91) D rfl fun D =>
                          j_ane (pc := 94) D rfl (fun q D =>
                            fk_jump cut_257_97 rfl rfl) (fun q =>
                            fk_jump cut_257_115 rfl rfl))) (fun m31 q30 h28 e1 =>
                        j_tx (hx_257 _))) (fun q =>
                      fk_jump cut_257_115 rfl rfl)) (fun q26 h24 e1 =>
                    j_tx (hx_257 _))) (fun q23 h21 e1 =>
                  j_tx (hx_257 _))) (fun q20 h18 e1 =>
                j_tx (hx_257 _))) (fun q17 h15 e1 =>
              j_tx (hx_257 _)))) (fun q9 h7 e1 =>
          j_tx (hx_257 _))) (fun q6 h4 e1 =>
        j_tx (hx_257 _))) (fun q3 h1 e1 =>
      j_tx (hx_257 _))
/-! 258 StatuteHouse$TablePart.<init>(LStatuteHouse;Ljava/lang/String;LStatuteHouse$Kind;ILStatuteHouse$Part;)V -/
theorem cd_258 : fi_code 258 = prog_61_method_1_code := rfl
theorem hx_258 : ∀ pc, fi_hat 258 pc = none := fun pc => by unfold fi_hat; rw [show fi_hh 258 = [] from rfl]; rfl
theorem rt_258 : fi_ret 258 = none := rfl
theorem nl_258 : fi_nl 258 = 6 := rfl
theorem ow_258 : fi_ow 258 = 22 := rfl
theorem cl_258 : fj_cutT.getD 258 [] = [] := rfl
theorem m_258 (d : Nat) (x0 x1 x2 x3 x4 x5 : Int) {h : fi_H} (H : Shp h) (hk : h 0 x0.toNat 0 = 122) : fj_run (d + 1) 258 h [(4, x0), (4, x1), (4, x2), (4, x3), (0, x4), (4, x5)] =
  if 302 < x0 then
  if h 360 x0.toNat 0 = 0 then
  lt_ (fi_upd h 360 x0.toNat 0 x1) fun h1 =>
  if fi_in (h1 0 x5.toNat 0) 341 = true then
  cv_ (fj_run d 245 h1 [(4, x0), (4, x1), (4, x3), (0, wI ((h1 341 x5.toNat 0) + 1))])
    (fun h2 =>
    if 302 < x0 then
    if h2 357 x0.toNat 0 = 0 then
    lt_ (fi_upd h2 357 x0.toNat 0 x2) fun h5 =>
    if 302 < x0 then
    if h5 358 x0.toNat 0 = 0 then
    lt_ (fi_upd h5 358 x0.toNat 0 x4) fun h6 =>
    if 302 < x0 then
    if h6 359 x0.toNat 0 = 0 then
    lt_ (fi_upd h6 359 x0.toNat 0 x5) fun h7 =>
    some (.inl none, h7)
    else none
    else none
    else none
    else none
    else none
    else none)
    (fun q4 h2 => tx_ q4 h2)
  else none
  else none
  else none := by
  rw [fj_run_eq d (by decide) h [(4, x0), (4, x1), (4, x2), (4, x3), (0, x4), (4, x5)] (Nat.le_of_ble_eq_true (by rw [nl_258]; rfl))]
  show gG (fj_run d) 258 0 [(0, (4, x0)), (1, (4, x1)), (2, (4, x2)), (3, (4, x3)), (4, (0, x4)), (5, (4, x5))] [] h = _
  exact
    have D : fk_D 258 [(0, none, .aload_n 0, 1, 0, 0, 0), (1, none, .aload_n 1, 1, 0, 0, 0), (2, none, .putfield 3, 3, 360, 122, 112), (5, none, .aload_n 0, 1, 0, 0, 0), (6, none, .aload_n 1, 1, 0, 0, 0), (7, none, .aload_n 3, 1, 0, 0, 0), (8, none, .aload 5, 2, 0, 0, 0), (10, none, .getfield 9, 3, 341, 0, 10), (13, none, .iconst 1, 1, 0, 1, 0), (14, none, .iadd, 1, 0, 0, 0), (15, none, .invokespecial 15, 3, 3, 245, 0), (18, none, .aload_n 0, 1, 0, 0, 0), (19, none, .aload_n 2, 1, 0, 0, 0), (20, none, .putfield 19, 3, 357, 122, 112), (23, none, .aload_n 0, 1, 0, 0, 0), (24, none, .iload 4, 2, 0, 0, 0), (26, none, .putfield 23, 3, 358, 122, 110), (29, none, .aload_n 0, 1, 0, 0, 0), (30, none, .aload 5, 2, 0, 0, 0), (32, none, .putfield 26, 3, 359, 122, 112)] := fq_of2 cd_258 ow_258 cl_258 rfl (pc := 0) (by decide +kernel)
    j_aldn (pc := 0) D rfl rfl rfl fun D =>
    j_aldn (pc := 1) D rfl rfl rfl fun D =>
    j_pfF (pc := 2) (a := x0.toNat) (ty := 12) D rfl rfl rfl hk ⟨rfl, rfl⟩ rfl gn (gy rfl) gn fun h1 eh1 S D =>
    have T := fj_hs_ok H.1 S
    have hk := cls_st H.1 T.2 hk (by decide)
    have H := shp_st H T
    j_aldn (pc := 5) D rfl rfl rfl fun D =>
    j_aldn (pc := 6) D rfl rfl rfl fun D =>
    j_aldn (pc := 7) D rfl rfl rfl fun D =>
    j_ald (pc := 8) D rfl rfl rfl fun D =>
    j_gfu (pc := 10) H.2.1 D rfl rfl fun q D =>
    j_ic (pc := 13) D rfl fun D =>
    j_iadd (pc := 14) D rfl fun D =>
    j_spv (pc := 15) (m := 245) (a := [(4, x1), (4, x3), (0, wI ((h1 341 x5.toNat 0) + 1))]) (rest := []) D rfl rfl rfl rfl (by rw [show h1 0 x0.toNat 0 = 122 from hk]; decide) (nz_cls H.2.1 hk (by decide)) (fun h2 e1 D =>
      have T := fj_run_ok _ _ _ _ _ _ H.1 e1
      have hk := cls_st H.1 T.2 hk (by decide)
      have H := shp_st H T
      j_aldn (pc := 18) D rfl rfl rfl fun D =>
      j_aldn (pc := 19) D rfl rfl rfl fun D =>
      j_pfF (pc := 20) (a := x0.toNat) (ty := 12) D rfl rfl rfl hk ⟨rfl, rfl⟩ rfl gn (gy rfl) gn fun h5 eh5 S D =>
      have T := fj_hs_ok H.1 S
      have hk := cls_st H.1 T.2 hk (by decide)
      have H := shp_st H T
      j_aldn (pc := 23) D rfl rfl rfl fun D =>
      j_ild (pc := 24) D rfl rfl rfl fun D =>
      j_pfF (pc := 26) (a := x0.toNat) (ty := 10) D rfl rfl rfl hk ⟨rfl, rfl⟩ rfl gn (gy rfl) gn fun h6 eh6 S D =>
      have T := fj_hs_ok H.1 S
      have hk := cls_st H.1 T.2 hk (by decide)
      have H := shp_st H T
      j_aldn (pc := 29) D rfl rfl rfl fun D =>
      j_ald (pc := 30) D rfl rfl rfl fun D =>
      j_pfF (pc := 32) (a := x0.toNat) (ty := 12) D rfl rfl rfl hk ⟨rfl, rfl⟩ rfl gn (gy rfl) gn fun h7 eh7 S D =>
      have T := fj_hs_ok H.1 S
      have hk := cls_st H.1 T.2 hk (by decide)
      have H := shp_st H T
      have D : fk_D 258 [(35, none, .return_, 1, 0, 0, 0)] := fq_of2 cd_258 ow_258 cl_258 rfl (pc := 35) (by decide +kernel)
      j_vret D rt_258) (fun q4 h2 e1 =>
      j_tx (hx_258 _))
/-! 259 StatuteHouse$Reader.call(LStatuteHouse$Function;I)LStatuteHouse$Part; -/
theorem cd_259 : fi_code 259 = prog_53_method_81_code := rfl
theorem hx_259 : ∀ pc, fi_hat 259 pc = none := fun pc => by unfold fi_hat; rw [show fi_hh 259 = [] from rfl]; rfl
theorem rt_259 : fj_ft (fi_ret 259) = 5 := rfl
theorem nl_259 : fi_nl 259 = 6 := rfl
theorem ow_259 : fi_ow 259 = 15 := rfl
theorem cl_259 : fj_cutT.getD 259 [] = [(22, [0, 1, 2, 3, 4, 5]), (42, [0, 1, 2, 3, 4, 5])] := rfl
theorem cut_259_22 : fj_cut 259 22 = some [0, 1, 2, 3, 4, 5] := by decide +kernel
noncomputable def c_259_22 (d : Nat) (x1 x2 x3 x4 x5 : Int) (h : fi_H) : fk_R := gG (fj_run d) 259 22 [(0, (4, 377)), (1, (4, x1)), (2, (0, x2)), (3, (4, x3)), (4, (0, x4)), (5, (0, x5))] [] h
theorem cut_259_42 : fj_cut 259 42 = some [0, 1, 2, 3, 4, 5] := by decide +kernel
noncomputable def c_259_42 (d : Nat) (x1 x2 x3 x4 x5 : Int) (h : fi_H) : fk_R := gG (fj_run d) 259 42 [(0, (4, 377)), (1, (4, x1)), (2, (0, x2)), (3, (4, x3)), (4, (0, x4)), (5, (0, x5))] [] h
theorem e_259_22 (d : Nat) (x1 x2 x3 x4 x5 : Int) {h : fi_H} (H : Shp h) : c_259_22 d x1 x2 x3 x4 x5 h =
  if fi_in (h 0 x1.toNat 0) 574 = true then
  if x5 < h 574 x1.toNat 0 then
    if 0 < x5 then
      cv_ (fj_run d 182 h [(4, 377), (0, 44)])
        (fun h1 =>
        c_259_42 d x1 x2 x3 x4 x5 h1)
        (fun q3 h1 => tx_ q3 h1)
    else
      c_259_42 d x1 x2 x3 x4 x5 h
  else
    cv_ (fj_run d 242 h [(4, 377)])
      (fun h4 =>
      dv_ (fi_vt 210 (h4 0 x1.toNat 0)) fun m10 => ca_ (fj_run d m10 h4 [(4, x1), (4, x3)]) 4
        (fun v8 h7 =>
        if v8 = 0 then
          ca_ (fj_run d 165 h7 [(4, 303), (0, 5), (0, x2)]) 4
            (fun v12 h11 =>
            if v12 ≠ 0 then
            tx_ v12.toNat h11
            else none)
            (fun q13 h11 => tx_ q13 h11)
        else
          cv_ (fj_run d 243 h7 [(4, 377), (0, wI (x4 + 1)), (0, x2)])
            (fun h14 =>
            nw_ h14 102 7 0 fun r17 h18 =>
            cv_ (fj_run d 287 h18 [(4, r17), (4, 303), (4, x1), (4, x3), (0, wI (x4 + 1))])
              (fun h19 =>
              some (.inl (some (4, r17)), h19))
              (fun q21 h19 => tx_ q21 h19))
            (fun q16 h14 => tx_ q16 h14))
        (fun q9 h7 => tx_ q9 h7))
      (fun q6 h4 => tx_ q6 h4)
  else none := by
  unfold c_259_22
  exact
    have D : fk_D 259 [(22, some [0, 1, 2, 3, 4, 5], .iload 5, 2, 0, 0, 0), (24, none, .aload_n 1, 1, 0, 0, 0), (25, none, .getfield 903, 3, 574, 0, 10), (28, none, .if_icmp .ge 42, 3, 70, 0, 0), (31, none, .iload 5, 2, 0, 0, 0), (33, none, .ifCond .le 9, 3, 42, 0, 0), (36, none, .aload_n 0, 1, 0, 0, 0), (37, none, .bipush 44, 2, 0, 44, 0), (39, none, .invokevirtual 216, 3, 1, 264, 0)] := fq_of2 cd_259 ow_259 cl_259 rfl (pc := 22) (by decide +kernel)
    j_ild (pc := 22) D rfl rfl rfl fun D =>
    j_aldn (pc := 24) D rfl rfl rfl fun D =>
    j_gfu (pc := 25) H.2.1 D rfl rfl fun q D =>
    j_ige (pc := 28) D rfl (fun q D =>
      j_ild (pc := 31) D rfl rfl rfl fun D =>
      j_ifle (pc := 33) D rfl (fun q D =>
        j_aldn (pc := 36) D rfl rfl rfl fun D =>
        j_bp (pc := 37) D rfl fun D =>
        j_ivv (pc := 39) (m := 182) (dd := 264) (a := [(0, 44)]) (rest := []) D rfl rfl rfl rfl rfl (by decide) (s0_377 H) (by decide +kernel) (fun h1 e1 D =>
          have T := fj_run_ok _ _ _ _ _ _ H.1 e1
          have H := shp_st H T
          fk_jump cut_259_42 rfl rfl) (fun q3 h1 e1 =>
          j_tx (hx_259 _))) (fun q =>
        fk_jump cut_259_42 rfl rfl)) (fun q =>
      have D : fk_D 259 [(70, none, .aload_n 0, 1, 0, 0, 0), (71, none, .invokevirtual 818, 3, 0, 318, 0), (74, none, .aload_n 1, 1, 0, 0, 0), (75, none, .aload_n 3, 1, 0, 0, 0), (76, none, .invokevirtual 904, 3, 1, 210, 5), (79, none, .ifnonnull 13, 3, 92, 0, 0), (82, none, .aload_n 0, 1, 0, 0, 0), (83, none, .getfield 3, 3, 182, 115, 12), (86, none, .iconst 5, 1, 0, 5, 0), (87, none, .iload_n 2, 1, 0, 0, 0), (88, none, .invokevirtual 186, 3, 2, 257, 5), (91, none, .athrow, 1, 0, 0, 0)] := fq_of2 cd_259 ow_259 cl_259 rfl (pc := 70) (by decide +kernel)
      j_aldn (pc := 70) D rfl rfl rfl fun D =>
      j_ivv (pc := 71) (m := 242) (dd := 318) (a := []) (rest := []) D rfl rfl rfl rfl rfl (by decide) (s0_377 H) (by decide +kernel) (fun h4 e1 D =>
        have T := fj_run_ok _ _ _ _ _ _ H.1 e1
        have H := shp_st H T
        j_aldn (pc := 74) D rfl rfl rfl fun D =>
        j_aldn (pc := 75) D rfl rfl rfl fun D =>
        j_ivu (pc := 76) (dd := 210) (a := [(4, x3)]) (rest := []) H.2.1 D rfl rfl rfl rfl rfl (fun m10 v8 h7 e1 D =>
          have T := fj_run_ok _ _ _ _ _ _ H.1 e1
          have H := shp_st H T
          j_nonnull (pc := 79) D rfl (fun q D =>
            j_aldn (pc := 82) D rfl rfl rfl fun D =>
            j_gfc (pc := 83) (a := 377) D rfl rfl (by decide) rfl (s0_377 H) rfl (sf_182_377 H) fun D =>
            j_ic (pc := 86) D rfl fun D =>
            j_ildn (pc := 87) D rfl rfl rfl fun D =>
            j_iv (pc := 88) (m := 165) (dd := 257) (a := [(0, 5), (0, x2)]) (rest := []) D rfl rfl rfl rfl rfl (by decide) (s0_303 H) (by decide +kernel) (fun v12 h11 e1 D =>
              have T := fj_run_ok _ _ _ _ _ _ H.1 e1
              have H := shp_st H T
              j_at (pc := 91) D gn <|
              j_tx (hx_259 _)) (fun q13 h11 e1 =>
              j_tx (hx_259 _))) (fun q =>
            have D : fk_D 259 [(92, none, .aload_n 0, 1, 0, 0, 0), (93, none, .iload 4, 2, 0, 0, 0), (95, none, .iconst 1, 1, 0, 1, 0), (96, none, .iadd, 1, 0, 0, 0), (97, none, .iload_n 2, 1, 0, 0, 0), (98, none, .invokevirtual 740, 3, 2, 310, 0), (101, none, .new 908, 3, 102, 7, 0), (104, none, .dup, 1, 0, 0, 0), (105, none, .aload_n 0, 1, 0, 0, 0), (106, none, .getfield 3, 3, 182, 115, 12), (109, none, .aload_n 1, 1, 0, 0, 0), (110, none, .aload_n 3, 1, 0, 0, 0), (111, none, .iload 4, 2, 0, 0, 0), (113, none, .iconst 1, 1, 0, 1, 0), (114, none, .iadd, 1, 0, 0, 0), (115, none, .invokespecial 910, 3, 4, 287, 0), (118, none, .areturn, 1, 0, 0, 0)] := fq_of2 cd_259 ow_259 cl_259 rfl (pc := 92) (by decide +kernel)
            j_aldn (pc := 92) D rfl rfl rfl fun D =>
            j_ild (pc := 93) D rfl rfl rfl fun D =>
            j_ic (pc := 95) D rfl fun D =>
            j_iadd (pc := 96) D rfl fun D =>
            j_ildn (pc := 97) D rfl rfl rfl fun D =>
            j_ivv (pc := 98) (m := 243) (dd := 310) (a := [(0, wI (x4 + 1)), (0, x2)]) (rest := []) D rfl rfl rfl rfl rfl (by decide) (s0_377 H) (by decide +kernel) (fun h14 e1 D =>
              have T := fj_run_ok _ _ _ _ _ _ H.1 e1
              have H := shp_st H T
              j_new (pc := 101) D rfl fun r17 h18 er eh18 S D =>
              have gt_r17 := nw_gt H.1 er
              have kc_r17 := nw_cls H.1 er eh18
              have T := fj_hs_ok H.1 S
              have H := shp_st H T
              j_sh (pc := 104) D rfl rfl rfl fun D =>
              j_aldn (pc := 105) D rfl rfl rfl fun D =>
              j_gfc (pc := 106) (a := 377) D rfl rfl (by decide) rfl (s0_377 H) rfl (sf_182_377 H) fun D =>
              j_aldn (pc := 109) D rfl rfl rfl fun D =>
              j_aldn (pc := 110) D rfl rfl rfl fun D =>
              j_ild (pc := 111) D rfl rfl rfl fun D =>
              j_ic (pc := 113) D rfl fun D =>
              j_iadd (pc := 114) D rfl fun D =>
              j_spv (pc := 115) (m := 287) (a := [(4, 303), (4, x1), (4, x3), (0, wI (x4 + 1))]) (rest := [(4, r17)]) D rfl rfl rfl rfl (by rw [show h18 0 r17.toNat 0 = 102 from kc_r17]; decide) (gt_nz gt_r17) (fun h19 e1 D =>
                have T := fj_run_ok _ _ _ _ _ _ H.1 e1
                have kc_r17 := cls_st H.1 T.2 kc_r17 (by decide)
                have H := shp_st H T
                j_aret D rt_259) (fun q21 h19 e1 =>
                j_tx (hx_259 _))) (fun q16 h14 e1 =>
              j_tx (hx_259 _)))) (fun m10 q9 h7 e1 =>
          j_tx (hx_259 _))) (fun q6 h4 e1 =>
        j_tx (hx_259 _)))
theorem e_259_42 (d : Nat) (x1 x2 x3 x4 x5 : Int) {h : fi_H} (H : Shp h) : c_259_42 d x1 x2 x3 x4 x5 h =
  ca_ (fj_run d 231 h [(4, 377)]) 4
    (fun v2 h1 =>
    if 302 < x3 ∧ (20 ≤ h1 0 x3.toNat 0 ∧ h1 0 x3.toNat 0 < 30) then
    if 0 ≤ x5 ∧ x5 < h1 1 x3.toNat 0 then
    if h1 0 x3.toNat 0 ≠ 28 ∧ (v2 = 0 ∨ (fi_sup (h1 0 v2.toNat 0)).contains (fi_comp (h1 0 x3.toNat 0)) = true) then
    lt_ (fi_upd h1 12 x3.toNat x5.toNat v2) fun h4 =>
    if (20 ≤ h4 0 x3.toNat 0 ∧ h4 0 x3.toNat 0 < 30) ∧ 0 ≤ x5 ∧ x5 < h4 1 x3.toNat 0 then
    if fi_in (h4 0 (h4 12 x3.toNat x5.toNat).toNat 0) 341 = true then
    ca_ (fj_run d 6 h4 [(0, x4), (0, h4 341 (h4 12 x3.toNat x5.toNat).toNat 0)]) 0
      (fun v6 h5 =>
      c_259_22 d x1 x2 x3 v6 (wI (x5 + 1)) h5)
      (fun q7 h5 => tx_ q7 h5)
    else none
    else none
    else none
    else none
    else none)
    (fun q3 h1 => tx_ q3 h1) := by
  unfold c_259_42
  exact
    have D : fk_D 259 [(42, some [0, 1, 2, 3, 4, 5], .aload_n 3, 1, 0, 0, 0), (43, none, .iload 5, 2, 0, 0, 0), (45, none, .aload_n 0, 1, 0, 0, 0), (46, none, .invokevirtual 688, 3, 0, 301, 5), (49, none, .aastore, 1, 0, 0, 0), (50, none, .iload 4, 2, 0, 0, 0), (52, none, .aload_n 3, 1, 0, 0, 0), (53, none, .iload 5, 2, 0, 0, 0), (55, none, .aaload, 1, 0, 0, 0), (56, none, .getfield 734, 3, 341, 0, 10), (59, none, .invokestatic 737, 3, 2, 6, 1), (62, none, .istore 4, 2, 0, 0, 0), (64, none, .iinc 5 1, 3, 0, 1, 0), (67, none, .goto (-45), 3, 22, 0, 0)] := fq_of2 cd_259 ow_259 cl_259 rfl (pc := 42) (by decide +kernel)
    j_aldn (pc := 42) D rfl rfl rfl fun D =>
    j_ild (pc := 43) D rfl rfl rfl fun D =>
    j_aldn (pc := 45) D rfl rfl rfl fun D =>
    j_iv (pc := 46) (m := 231) (dd := 301) (a := []) (rest := [(0, x5), (4, x3)]) D rfl rfl rfl rfl rfl (by decide) (s0_377 H) (by decide +kernel) (fun v2 h1 e1 D =>
      have T := fj_run_ok _ _ _ _ _ _ H.1 e1
      have H := shp_st H T
      j_asur (pc := 49) D rfl rfl gn gn gn fun h4 eh4 S q q2 D =>
      have T := fj_hs_ok H.1 S
      have H := shp_st H T
      j_ild (pc := 50) D rfl rfl rfl fun D =>
      j_aldn (pc := 52) D rfl rfl rfl fun D =>
      j_ild (pc := 53) D rfl rfl rfl fun D =>
      j_alr (pc := 55) H.2.1 D rfl rfl fun q q2 D =>
      j_gfu (pc := 56) H.2.1 D rfl rfl fun q D =>
      j_is (pc := 59) (m := 6) (a := [(0, x4), (0, h4 341 (h4 12 x3.toNat x5.toNat).toNat 0)]) (rest := []) D rfl rfl rfl rfl (fun v6 h5 e1 D =>
        have T := fj_run_ok _ _ _ _ _ _ H.1 e1
        have H := shp_st H T
        j_ist (pc := 62) (L' := [(4, (0, v6)), (0, (4, 377)), (1, (4, x1)), (2, (0, x2)), (3, (4, x3)), (5, (0, x5))]) D rfl nl_259 rfl rfl fun D =>
        j_inc (pc := 64) (L' := [(5, (0, wI (x5 + 1))), (4, (0, v6)), (0, (4, 377)), (1, (4, x1)), (2, (0, x2)), (3, (4, x3))]) D rfl rfl rfl (by decide +kernel) rfl fun D =>
        j_goto (pc := 67) D rfl <|
        fk_jump cut_259_22 rfl rfl) (fun q7 h5 e1 =>
        j_tx (hx_259 _))) (fun q3 h1 e1 =>
      j_tx (hx_259 _))
theorem m_259 (d : Nat) (x1 x2 : Int) {h : fi_H} (H : Shp h) : fj_run (d + 1) 259 h [(4, 377), (4, x1), (0, x2)] =
  cv_ (fj_run d 166 h [(4, 377)])
    (fun h1 =>
    cv_ (fj_run d 248 h1 [(4, 377)])
      (fun h4 =>
      if fi_in (h4 0 x1.toNat 0) 574 = true then
      if 0 ≤ h4 574 x1.toNat 0 ∧ h4 574 x1.toNat 0 < 4 then
      nw_ h4 27 (h4 574 x1.toNat 0) (h4 574 x1.toNat 0) fun r7 h8 =>
      c_259_22 d x1 x2 r7 0 0 h8
      else none
      else none)
      (fun q6 h4 => tx_ q6 h4))
    (fun q3 h1 => tx_ q3 h1) := by
  rw [fj_run_eq d (by decide) h [(4, 377), (4, x1), (0, x2)] (Nat.le_of_ble_eq_true (by rw [nl_259]; rfl))]
  show gG (fj_run d) 259 0 [(0, (4, 377)), (1, (4, x1)), (2, (0, x2))] [] h = _
  exact
    have D : fk_D 259 [(0, none, .aload_n 0, 1, 0, 0, 0), (1, none, .invokevirtual 206, 3, 0, 261, 0), (4, none, .aload_n 0, 1, 0, 0, 0), (5, none, .invokevirtual 879, 3, 0, 324, 0), (8, none, .aload_n 1, 1, 0, 0, 0), (9, none, .getfield 903, 3, 574, 0, 10), (12, none, .anewarray 692, 3, 166, 27, 0), (15, none, .astore_n 3, 1, 0, 0, 0), (16, none, .iconst 0, 1, 0, 0, 0), (17, none, .istore 4, 2, 0, 0, 0), (19, none, .iconst 0, 1, 0, 0, 0), (20, none, .istore 5, 2, 0, 0, 0)] := fq_of2 cd_259 ow_259 cl_259 rfl (pc := 0) (by decide +kernel)
    j_aldn (pc := 0) D rfl rfl rfl fun D =>
    j_ivv (pc := 1) (m := 166) (dd := 261) (a := []) (rest := []) D rfl rfl rfl rfl rfl (by decide) (s0_377 H) (by decide +kernel) (fun h1 e1 D =>
      have T := fj_run_ok _ _ _ _ _ _ H.1 e1
      have H := shp_st H T
      j_aldn (pc := 4) D rfl rfl rfl fun D =>
      j_ivv (pc := 5) (m := 248) (dd := 324) (a := []) (rest := []) D rfl rfl rfl rfl rfl (by decide) (s0_377 H) (by decide +kernel) (fun h4 e1 D =>
        have T := fj_run_ok _ _ _ _ _ _ H.1 e1
        have H := shp_st H T
        j_aldn (pc := 8) D rfl rfl rfl fun D =>
        j_gfu (pc := 9) H.2.1 D rfl rfl fun q D =>
        j_ana (pc := 12) (N := 4) D rfl rfl gn fun r7 h8 er eh8 S q D =>
        have gt_r7 := nw_gt H.1 er
        have kc_r7 := nw_cls H.1 er eh8
        have kl_r7 := nw_len H.1 er eh8
        have T := fj_hs_ok H.1 S
        have H := shp_st H T
        j_astn (pc := 15) (L' := [(3, (4, r7)), (0, (4, 377)), (1, (4, x1)), (2, (0, x2))]) D rfl nl_259 rfl rfl fun D =>
        j_ic (pc := 16) D rfl fun D =>
        j_ist (pc := 17) (L' := [(4, (0, 0)), (3, (4, r7)), (0, (4, 377)), (1, (4, x1)), (2, (0, x2))]) D rfl nl_259 rfl rfl fun D =>
        j_ic (pc := 19) D rfl fun D =>
        j_ist (pc := 20) (L' := [(5, (0, 0)), (4, (0, 0)), (3, (4, r7)), (0, (4, 377)), (1, (4, x1)), (2, (0, x2))]) D rfl nl_259 rfl rfl fun D =>
        fk_jump cut_259_22 rfl rfl) (fun q6 h4 e1 =>
        j_tx (hx_259 _))) (fun q3 h1 e1 =>
      j_tx (hx_259 _))
/-! 260 StatuteHouse$Function.kindOf([LStatuteHouse$Part;)LStatuteHouse$Kind; -/
theorem cd_260 : fi_code 260 = prog_12_method_7_code := rfl
theorem hx_260 : ∀ pc, fi_hat 260 pc = none := fun pc => by unfold fi_hat; rw [show fi_hh 260 = [] from rfl]; rfl
theorem rt_260 : fj_ft (fi_ret 260) = 5 := rfl
theorem nl_260 : fi_nl 260 = 2 := rfl
theorem ow_260 : fi_ow 260 = 34 := rfl
theorem cl_260 : fj_cutT.getD 260 [] = [(25, [0, 1]), (43, [])] := rfl
theorem cut_260_25 : fj_cut 260 25 = some [0, 1] := by decide +kernel
noncomputable def c_260_25 (d : Nat) (x0 x1 s0 s1 s2 : Int) (h : fi_H) : fk_R := gG (fj_run d) 260 25 [(0, (4, x0)), (1, (4, x1))] [(4, s2), (4, s1), (4, s0)] h
theorem cut_260_43 : fj_cut 260 43 = some [] := by decide +kernel
noncomputable def c_260_43 (d : Nat) (s0 s1 s2 s3 : Int) (h : fi_H) : fk_R := gG (fj_run d) 260 43 [] [(4, s3), (4, s2), (4, s1), (4, s0)] h
theorem e_260_25 (d : Nat) (x0 x1 s0 s1 s2 : Int) {h : fi_H} {k0 : Int} (H : Shp h) (hk : h 0 x0.toNat 0 = k0) (hk0 : k0 ≠ 0) : c_260_25 d x0 x1 s0 s1 s2 h =
  if fi_in (h 0 x0.toNat 0) 574 = true then
  if 2 < h 574 x0.toNat 0 then
    if (20 ≤ h 0 x1.toNat 0 ∧ h 0 x1.toNat 0 < 30) ∧ 0 ≤ (2 : Int) ∧ 2 < h 1 x1.toNat 0 then
    if fi_in (h 0 (h 12 x1.toNat 2).toNat 0) 340 = true then
    c_260_43 d s0 s1 s2 (h 340 (h 12 x1.toNat 2).toNat 0) h
    else none
    else none
  else
    c_260_43 d s0 s1 s2 0 h
  else none := by
  unfold c_260_25
  exact
    have D : fk_D 260 [(25, some [0, 1], .aload_n 0, 1, 0, 0, 0), (26, none, .getfield 95, 3, 574, 0, 10), (29, none, .iconst 2, 1, 0, 2, 0), (30, none, .if_icmp .le 12, 3, 42, 0, 0), (33, none, .aload_n 1, 1, 0, 0, 0), (34, none, .iconst 2, 1, 0, 2, 0), (35, none, .aaload, 1, 0, 0, 0), (36, none, .getfield 107, 3, 340, 0, 12), (39, none, .goto 4, 3, 43, 0, 0)] := fq_of2 cd_260 ow_260 cl_260 rfl (pc := 25) (by decide +kernel)
    j_aldn (pc := 25) D rfl rfl rfl fun D =>
    j_gfu (pc := 26) H.2.1 D rfl rfl fun q D =>
    j_ic (pc := 29) D rfl fun D =>
    j_ile (pc := 30) D rfl (fun q D =>
      j_aldn (pc := 33) D rfl rfl rfl fun D =>
      j_ic (pc := 34) D rfl fun D =>
      j_alr (pc := 35) H.2.1 D rfl rfl fun q q2 D =>
      j_gfu (pc := 36) H.2.1 D rfl rfl fun q D =>
      j_goto (pc := 39) D rfl <|
      fk_jump cut_260_43 rfl rfl) (fun q =>
      have D : fk_D 260 [(42, none, .aconst_null, 1, 0, 0, 0)] := fq_of2 cd_260 ow_260 cl_260 rfl (pc := 42) (by decide +kernel)
      j_c0 (pc := 42) (v := (4, 0)) D rfl rfl (by decide +kernel) fun D =>
      fk_jump cut_260_43 rfl rfl)
theorem e_260_43 (d : Nat) (s0 s1 s2 s3 : Int) {h : fi_H} (H : Shp h) : c_260_43 d s0 s1 s2 s3 h =
  dv_ (fi_vt 214 (h 0 s0.toNat 0)) fun m4 => ca_ (fj_run d m4 h [(4, s0), (4, s1), (4, s2), (4, s3)]) 4
    (fun v2 h1 =>
    some (.inl (some (4, v2)), h1))
    (fun q3 h1 => tx_ q3 h1) := by
  unfold c_260_43
  exact
    have D : fk_D 260 [(43, some [], .invokevirtual 112, 3, 3, 214, 5), (46, none, .areturn, 1, 0, 0, 0)] := fq_of2 cd_260 ow_260 cl_260 rfl (pc := 43) (by decide +kernel)
    j_ivu (pc := 43) (dd := 214) (a := [(4, s1), (4, s2), (4, s3)]) (rest := []) H.2.1 D rfl rfl rfl rfl rfl (fun m4 v2 h1 e1 D =>
      have T := fj_run_ok _ _ _ _ _ _ H.1 e1
      have H := shp_st H T
      j_aret D rt_260) (fun m4 q3 h1 e1 =>
      j_tx (hx_260 _))
theorem m_260 (d : Nat) (x0 x1 : Int) {h : fi_H} {k0 : Int} (H : Shp h) (hk : h 0 x0.toNat 0 = k0) (hk0 : k0 ≠ 0) : fj_run (d + 1) 260 h [(4, x0), (4, x1)] =
  if (20 ≤ h 0 x1.toNat 0 ∧ h 0 x1.toNat 0 < 30) ∧ 0 ≤ (0 : Int) ∧ 0 < h 1 x1.toNat 0 then
  if fi_in (h 0 (h 12 x1.toNat 0).toNat 0) 340 = true then
  if fi_in (h 0 x0.toNat 0) 574 = true then
  if 1 < h 574 x0.toNat 0 then
    if (20 ≤ h 0 x1.toNat 0 ∧ h 0 x1.toNat 0 < 30) ∧ 0 ≤ (1 : Int) ∧ 1 < h 1 x1.toNat 0 then
    if fi_in (h 0 (h 12 x1.toNat 1).toNat 0) 340 = true then
    c_260_25 d x0 x1 x0 (h 340 (h 12 x1.toNat 0).toNat 0) (h 340 (h 12 x1.toNat 1).toNat 0) h
    else none
    else none
  else
    c_260_25 d x0 x1 x0 (h 340 (h 12 x1.toNat 0).toNat 0) 0 h
  else none
  else none
  else none := by
  rw [fj_run_eq d (by decide) h [(4, x0), (4, x1)] (Nat.le_of_ble_eq_true (by rw [nl_260]; rfl))]
  show gG (fj_run d) 260 0 [(0, (4, x0)), (1, (4, x1))] [] h = _
  exact
    have D : fk_D 260 [(0, none, .aload_n 0, 1, 0, 0, 0), (1, none, .aload_n 1, 1, 0, 0, 0), (2, none, .iconst 0, 1, 0, 0, 0), (3, none, .aaload, 1, 0, 0, 0), (4, none, .getfield 107, 3, 340, 0, 12), (7, none, .aload_n 0, 1, 0, 0, 0), (8, none, .getfield 95, 3, 574, 0, 10), (11, none, .iconst 1, 1, 0, 1, 0), (12, none, .if_icmp .le 12, 3, 24, 0, 0), (15, none, .aload_n 1, 1, 0, 0, 0), (16, none, .iconst 1, 1, 0, 1, 0), (17, none, .aaload, 1, 0, 0, 0), (18, none, .getfield 107, 3, 340, 0, 12), (21, none, .goto 4, 3, 25, 0, 0)] := fq_of2 cd_260 ow_260 cl_260 rfl (pc := 0) (by decide +kernel)
    j_aldn (pc := 0) D rfl rfl rfl fun D =>
    j_aldn (pc := 1) D rfl rfl rfl fun D =>
    j_ic (pc := 2) D rfl fun D =>
    j_alr (pc := 3) H.2.1 D rfl rfl fun q q2 D =>
    j_gfu (pc := 4) H.2.1 D rfl rfl fun q D =>
    j_aldn (pc := 7) D rfl rfl rfl fun D =>
    j_gfu (pc := 8) H.2.1 D rfl rfl fun q D =>
    j_ic (pc := 11) D rfl fun D =>
    j_ile (pc := 12) D rfl (fun q D =>
      j_aldn (pc := 15) D rfl rfl rfl fun D =>
      j_ic (pc := 16) D rfl fun D =>
      j_alr (pc := 17) H.2.1 D rfl rfl fun q q2 D =>
      j_gfu (pc := 18) H.2.1 D rfl rfl fun q D =>
      j_goto (pc := 21) D rfl <|
      fk_jump cut_260_25 rfl rfl) (fun q =>
      have D : fk_D 260 [(24, none, .aconst_null, 1, 0, 0, 0)] := fq_of2 cd_260 ow_260 cl_260 rfl (pc := 24) (by decide +kernel)
      j_c0 (pc := 24) (v := (4, 0)) D rfl rfl (by decide +kernel) fun D =>
      fk_jump cut_260_25 rfl rfl)
/-! 261 StatuteHouse$Function$1.gives(LStatuteHouse$Kind;LStatuteHouse$Kind;LStatuteHouse$Kind;)LStatuteHouse$Kind; -/
theorem cd_261 : fi_code 261 = prog_13_method_2_code := rfl
theorem hx_261 : ∀ pc, fi_hat 261 pc = none := fun pc => by unfold fi_hat; rw [show fi_hh 261 = [] from rfl]; rfl
theorem rt_261 : fj_ft (fi_ret 261) = 5 := rfl
theorem nl_261 : fi_nl 261 = 4 := rfl
theorem ow_261 : fi_ow 261 = 35 := rfl
theorem cl_261 : fj_cutT.getD 261 [] = [] := rfl
theorem m_261 (d : Nat) (x0 x1 x2 x3 : Int) {h : fi_H} {k0 : Int} (H : Shp h) (hk : h 0 x0.toNat 0 = k0) (hk0 : k0 ≠ 0) : fj_run (d + 1) 261 h [(4, x0), (4, x1), (4, x2), (4, x3)] =
  if x1 = 2 then
    if x2 = x3 then
      some (.inl (some (4, x2)), h)
    else
      some (.inl (some (4, 0)), h)
  else
    some (.inl (some (4, 0)), h) := by
  rw [fj_run_eq d (by decide) h [(4, x0), (4, x1), (4, x2), (4, x3)] (Nat.le_of_ble_eq_true (by rw [nl_261]; rfl))]
  show gG (fj_run d) 261 0 [(0, (4, x0)), (1, (4, x1)), (2, (4, x2)), (3, (4, x3))] [] h = _
  exact
    have D : fk_D 261 [(0, none, .aload_n 1, 1, 0, 0, 0), (1, none, .getstatic 7, 3, 4, 2, 0), (4, none, .if_acmp .ne 12, 3, 16, 0, 0), (7, none, .aload_n 2, 1, 0, 0, 0), (8, none, .aload_n 3, 1, 0, 0, 0), (9, none, .if_acmp .ne 7, 3, 16, 0, 0), (12, none, .aload_n 2, 1, 0, 0, 0), (13, none, .goto 4, 3, 17, 0, 0)] := fq_of2 cd_261 ow_261 cl_261 rfl (pc := 0) (by decide +kernel)
    j_aldn (pc := 0) D rfl rfl rfl fun D =>
    j_gs (pc := 1) D rfl fun D =>
    j_ane (pc := 4) D rfl (fun q D =>
      j_aldn (pc := 7) D rfl rfl rfl fun D =>
      j_aldn (pc := 8) D rfl rfl rfl fun D =>
      j_ane (pc := 9) D rfl (fun q D =>
        j_aldn (pc := 12) D rfl rfl rfl fun D =>
        j_goto (pc := 13) D rfl <|
        have D : fk_D 261 [(17, none, .areturn, 1, 0, 0, 0)] := fq_of2 cd_261 ow_261 cl_261 rfl (pc := 17) (by decide +kernel)
        j_aret D rt_261) (fun q =>
        have D : fk_D 261 [(16, none, .aconst_null, 1, 0, 0, 0), (17, none, .areturn, 1, 0, 0, 0)] := fq_of2 cd_261 ow_261 cl_261 rfl (pc := 16) (by decide +kernel)
        j_c0 (pc := 16) (v := (4, 0)) D rfl rfl (by decide +kernel) fun D =>
        j_aret D rt_261)) (fun q =>
      have D : fk_D 261 [(16, none, .aconst_null, 1, 0, 0, 0), (17, none, .areturn, 1, 0, 0, 0)] := fq_of2 cd_261 ow_261 cl_261 rfl (pc := 16) (by decide +kernel)
      j_c0 (pc := 16) (v := (4, 0)) D rfl rfl (by decide +kernel) fun D =>
      j_aret D rt_261)
/-! 262 StatuteHouse$Function$10.gives(LStatuteHouse$Kind;LStatuteHouse$Kind;LStatuteHouse$Kind;)LStatuteHouse$Kind; -/
theorem cd_262 : fi_code 262 = prog_14_method_2_code := rfl
theorem hx_262 : ∀ pc, fi_hat 262 pc = none := fun pc => by unfold fi_hat; rw [show fi_hh 262 = [] from rfl]; rfl
theorem rt_262 : fj_ft (fi_ret 262) = 5 := rfl
theorem nl_262 : fi_nl 262 = 4 := rfl
theorem ow_262 : fi_ow 262 = 36 := rfl
theorem cl_262 : fj_cutT.getD 262 [] = [] := rfl
theorem m_262 (d : Nat) (x0 x1 x2 x3 : Int) {h : fi_H} {k0 : Int} (H : Shp h) (hk : h 0 x0.toNat 0 = k0) (hk0 : k0 ≠ 0) : fj_run (d + 1) 262 h [(4, x0), (4, x1), (4, x2), (4, x3)] =
  ca_ (fj_run d 263 h [(4, x1), (4, x2)]) 4
    (fun v2 h1 =>
    some (.inl (some (4, v2)), h1))
    (fun q3 h1 => tx_ q3 h1) := by
  rw [fj_run_eq d (by decide) h [(4, x0), (4, x1), (4, x2), (4, x3)] (Nat.le_of_ble_eq_true (by rw [nl_262]; rfl))]
  show gG (fj_run d) 262 0 [(0, (4, x0)), (1, (4, x1)), (2, (4, x2)), (3, (4, x3))] [] h = _
  exact
    have D : fk_D 262 [(0, none, .aload_n 1, 1, 0, 0, 0), (1, none, .aload_n 2, 1, 0, 0, 0), (2, none, .invokestatic 7, 3, 2, 263, 5), (5, none, .areturn, 1, 0, 0, 0)] := fq_of2 cd_262 ow_262 cl_262 rfl (pc := 0) (by decide +kernel)
    j_aldn (pc := 0) D rfl rfl rfl fun D =>
    j_aldn (pc := 1) D rfl rfl rfl fun D =>
    j_is (pc := 2) (m := 263) (a := [(4, x1), (4, x2)]) (rest := []) D rfl rfl rfl rfl (fun v2 h1 e1 D =>
      have T := fj_run_ok _ _ _ _ _ _ H.1 e1
      have hk := cls_st H.1 T.2 hk hk0
      have H := shp_st H T
      j_aret D rt_262) (fun q3 h1 e1 =>
      j_tx (hx_262 _))
/-! 263 StatuteHouse$Function.moneys(LStatuteHouse$Kind;LStatuteHouse$Kind;)LStatuteHouse$Kind; -/
theorem cd_263 : fi_code 263 = prog_12_method_5_code := rfl
theorem hx_263 : ∀ pc, fi_hat 263 pc = none := fun pc => by unfold fi_hat; rw [show fi_hh 263 = [] from rfl]; rfl
theorem rt_263 : fj_ft (fi_ret 263) = 5 := rfl
theorem nl_263 : fi_nl 263 = 2 := rfl
theorem ow_263 : fi_ow 263 = 34 := rfl
theorem cl_263 : fj_cutT.getD 263 [] = [] := rfl
theorem m_263 (d : Nat) (x0 x1 : Int) {h : fi_H} (H : Shp h) : fj_run (d + 1) 263 h [(4, x0), (4, x1)] =
  if x0 = 4 then
    if x1 = x0 then
      some (.inl (some (4, x0)), h)
    else
      some (.inl (some (4, 0)), h)
  else
    some (.inl (some (4, 0)), h) := by
  rw [fj_run_eq d (by decide) h [(4, x0), (4, x1)] (Nat.le_of_ble_eq_true (by rw [nl_263]; rfl))]
  show gG (fj_run d) 263 0 [(0, (4, x0)), (1, (4, x1))] [] h = _
  exact
    have D : fk_D 263 [(0, none, .aload_n 0, 1, 0, 0, 0), (1, none, .getstatic 104, 3, 4, 4, 0), (4, none, .if_acmp .ne 12, 3, 16, 0, 0), (7, none, .aload_n 1, 1, 0, 0, 0), (8, none, .aload_n 0, 1, 0, 0, 0), (9, none, .if_acmp .ne 7, 3, 16, 0, 0), (12, none, .aload_n 0, 1, 0, 0, 0), (13, none, .goto 4, 3, 17, 0, 0)] := fq_of2 cd_263 ow_263 cl_263 rfl (pc := 0) (by decide +kernel)
    j_aldn (pc := 0) D rfl rfl rfl fun D =>
    j_gs (pc := 1) D rfl fun D =>
    j_ane (pc := 4) D rfl (fun q D =>
      j_aldn (pc := 7) D rfl rfl rfl fun D =>
      j_aldn (pc := 8) D rfl rfl rfl fun D =>
      j_ane (pc := 9) D rfl (fun q D =>
        j_aldn (pc := 12) D rfl rfl rfl fun D =>
        j_goto (pc := 13) D rfl <|
        have D : fk_D 263 [(17, none, .areturn, 1, 0, 0, 0)] := fq_of2 cd_263 ow_263 cl_263 rfl (pc := 17) (by decide +kernel)
        j_aret D rt_263) (fun q =>
        have D : fk_D 263 [(16, none, .aconst_null, 1, 0, 0, 0), (17, none, .areturn, 1, 0, 0, 0)] := fq_of2 cd_263 ow_263 cl_263 rfl (pc := 16) (by decide +kernel)
        j_c0 (pc := 16) (v := (4, 0)) D rfl rfl (by decide +kernel) fun D =>
        j_aret D rt_263)) (fun q =>
      have D : fk_D 263 [(16, none, .aconst_null, 1, 0, 0, 0), (17, none, .areturn, 1, 0, 0, 0)] := fq_of2 cd_263 ow_263 cl_263 rfl (pc := 16) (by decide +kernel)
      j_c0 (pc := 16) (v := (4, 0)) D rfl rfl (by decide +kernel) fun D =>
      j_aret D rt_263)
/-! 264 StatuteHouse$Function$11.gives(LStatuteHouse$Kind;LStatuteHouse$Kind;LStatuteHouse$Kind;)LStatuteHouse$Kind; -/
theorem cd_264 : fi_code 264 = prog_15_method_2_code := rfl
theorem hx_264 : ∀ pc, fi_hat 264 pc = none := fun pc => by unfold fi_hat; rw [show fi_hh 264 = [] from rfl]; rfl
theorem rt_264 : fj_ft (fi_ret 264) = 5 := rfl
theorem nl_264 : fi_nl 264 = 4 := rfl
theorem ow_264 : fi_ow 264 = 37 := rfl
theorem cl_264 : fj_cutT.getD 264 [] = [] := rfl
theorem m_264 (d : Nat) (x0 x1 x2 x3 : Int) {h : fi_H} {k0 : Int} (H : Shp h) (hk : h 0 x0.toNat 0 = k0) (hk0 : k0 ≠ 0) : fj_run (d + 1) 264 h [(4, x0), (4, x1), (4, x2), (4, x3)] =
  if x1 = 3 then
    if x2 = x1 then
      if x3 = x1 then
        some (.inl (some (4, 6)), h)
      else
        some (.inl (some (4, 0)), h)
    else
      some (.inl (some (4, 0)), h)
  else
    some (.inl (some (4, 0)), h) := by
  rw [fj_run_eq d (by decide) h [(4, x0), (4, x1), (4, x2), (4, x3)] (Nat.le_of_ble_eq_true (by rw [nl_264]; rfl))]
  show gG (fj_run d) 264 0 [(0, (4, x0)), (1, (4, x1)), (2, (4, x2)), (3, (4, x3))] [] h = _
  exact
    have D : fk_D 264 [(0, none, .aload_n 1, 1, 0, 0, 0), (1, none, .getstatic 7, 3, 4, 3, 0), (4, none, .if_acmp .ne 19, 3, 23, 0, 0), (7, none, .aload_n 2, 1, 0, 0, 0), (8, none, .aload_n 1, 1, 0, 0, 0), (9, none, .if_acmp .ne 14, 3, 23, 0, 0), (12, none, .aload_n 3, 1, 0, 0, 0), (13, none, .aload_n 1, 1, 0, 0, 0), (14, none, .if_acmp .ne 9, 3, 23, 0, 0), (17, none, .getstatic 13, 3, 4, 6, 0), (20, none, .goto 4, 3, 24, 0, 0)] := fq_of2 cd_264 ow_264 cl_264 rfl (pc := 0) (by decide +kernel)
    j_aldn (pc := 0) D rfl rfl rfl fun D =>
    j_gs (pc := 1) D rfl fun D =>
    j_ane (pc := 4) D rfl (fun q D =>
      j_aldn (pc := 7) D rfl rfl rfl fun D =>
      j_aldn (pc := 8) D rfl rfl rfl fun D =>
      j_ane (pc := 9) D rfl (fun q D =>
        j_aldn (pc := 12) D rfl rfl rfl fun D =>
        j_aldn (pc := 13) D rfl rfl rfl fun D =>
        j_ane (pc := 14) D rfl (fun q D =>
          j_gs (pc := 17) D rfl fun D =>
          j_goto (pc := 20) D rfl <|
          have D : fk_D 264 [(24, none, .areturn, 1, 0, 0, 0)] := fq_of2 cd_264 ow_264 cl_264 rfl (pc := 24) (by decide +kernel)
          j_aret D rt_264) (fun q =>
          have D : fk_D 264 [(23, none, .aconst_null, 1, 0, 0, 0), (24, none, .areturn, 1, 0, 0, 0)] := fq_of2 cd_264 ow_264 cl_264 rfl (pc := 23) (by decide +kernel)
          j_c0 (pc := 23) (v := (4, 0)) D rfl rfl (by decide +kernel) fun D =>
          j_aret D rt_264)) (fun q =>
        have D : fk_D 264 [(23, none, .aconst_null, 1, 0, 0, 0), (24, none, .areturn, 1, 0, 0, 0)] := fq_of2 cd_264 ow_264 cl_264 rfl (pc := 23) (by decide +kernel)
        j_c0 (pc := 23) (v := (4, 0)) D rfl rfl (by decide +kernel) fun D =>
        j_aret D rt_264)) (fun q =>
      have D : fk_D 264 [(23, none, .aconst_null, 1, 0, 0, 0), (24, none, .areturn, 1, 0, 0, 0)] := fq_of2 cd_264 ow_264 cl_264 rfl (pc := 23) (by decide +kernel)
      j_c0 (pc := 23) (v := (4, 0)) D rfl rfl (by decide +kernel) fun D =>
      j_aret D rt_264)
/-! 265 StatuteHouse$Function$12.gives(LStatuteHouse$Kind;LStatuteHouse$Kind;LStatuteHouse$Kind;)LStatuteHouse$Kind; -/
theorem cd_265 : fi_code 265 = prog_16_method_2_code := rfl
theorem hx_265 : ∀ pc, fi_hat 265 pc = none := fun pc => by unfold fi_hat; rw [show fi_hh 265 = [] from rfl]; rfl
theorem rt_265 : fj_ft (fi_ret 265) = 5 := rfl
theorem nl_265 : fi_nl 265 = 4 := rfl
theorem ow_265 : fi_ow 265 = 38 := rfl
theorem cl_265 : fj_cutT.getD 265 [] = [] := rfl
theorem m_265 (d : Nat) (x0 x1 x2 x3 : Int) {h : fi_H} {k0 : Int} (H : Shp h) (hk : h 0 x0.toNat 0 = k0) (hk0 : k0 ≠ 0) : fj_run (d + 1) 265 h [(4, x0), (4, x1), (4, x2), (4, x3)] =
  if x1 = 6 then
    some (.inl (some (4, x1)), h)
  else
    some (.inl (some (4, 0)), h) := by
  rw [fj_run_eq d (by decide) h [(4, x0), (4, x1), (4, x2), (4, x3)] (Nat.le_of_ble_eq_true (by rw [nl_265]; rfl))]
  show gG (fj_run d) 265 0 [(0, (4, x0)), (1, (4, x1)), (2, (4, x2)), (3, (4, x3))] [] h = _
  exact
    have D : fk_D 265 [(0, none, .aload_n 1, 1, 0, 0, 0), (1, none, .getstatic 7, 3, 4, 6, 0), (4, none, .if_acmp .ne 7, 3, 11, 0, 0), (7, none, .aload_n 1, 1, 0, 0, 0), (8, none, .goto 4, 3, 12, 0, 0)] := fq_of2 cd_265 ow_265 cl_265 rfl (pc := 0) (by decide +kernel)
    j_aldn (pc := 0) D rfl rfl rfl fun D =>
    j_gs (pc := 1) D rfl fun D =>
    j_ane (pc := 4) D rfl (fun q D =>
      j_aldn (pc := 7) D rfl rfl rfl fun D =>
      j_goto (pc := 8) D rfl <|
      have D : fk_D 265 [(12, none, .areturn, 1, 0, 0, 0)] := fq_of2 cd_265 ow_265 cl_265 rfl (pc := 12) (by decide +kernel)
      j_aret D rt_265) (fun q =>
      have D : fk_D 265 [(11, none, .aconst_null, 1, 0, 0, 0), (12, none, .areturn, 1, 0, 0, 0)] := fq_of2 cd_265 ow_265 cl_265 rfl (pc := 11) (by decide +kernel)
      j_c0 (pc := 11) (v := (4, 0)) D rfl rfl (by decide +kernel) fun D =>
      j_aret D rt_265)
/-! 266 StatuteHouse$Function$13.gives(LStatuteHouse$Kind;LStatuteHouse$Kind;LStatuteHouse$Kind;)LStatuteHouse$Kind; -/
theorem cd_266 : fi_code 266 = prog_17_method_2_code := rfl
theorem hx_266 : ∀ pc, fi_hat 266 pc = none := fun pc => by unfold fi_hat; rw [show fi_hh 266 = [] from rfl]; rfl
theorem rt_266 : fj_ft (fi_ret 266) = 5 := rfl
theorem nl_266 : fi_nl 266 = 4 := rfl
theorem ow_266 : fi_ow 266 = 39 := rfl
theorem cl_266 : fj_cutT.getD 266 [] = [] := rfl
theorem m_266 (d : Nat) (x0 x1 x2 x3 : Int) {h : fi_H} {k0 : Int} (H : Shp h) (hk : h 0 x0.toNat 0 = k0) (hk0 : k0 ≠ 0) : fj_run (d + 1) 266 h [(4, x0), (4, x1), (4, x2), (4, x3)] =
  if x1 = 6 then
    some (.inl (some (4, x1)), h)
  else
    some (.inl (some (4, 0)), h) := by
  rw [fj_run_eq d (by decide) h [(4, x0), (4, x1), (4, x2), (4, x3)] (Nat.le_of_ble_eq_true (by rw [nl_266]; rfl))]
  show gG (fj_run d) 266 0 [(0, (4, x0)), (1, (4, x1)), (2, (4, x2)), (3, (4, x3))] [] h = _
  exact
    have D : fk_D 266 [(0, none, .aload_n 1, 1, 0, 0, 0), (1, none, .getstatic 7, 3, 4, 6, 0), (4, none, .if_acmp .ne 7, 3, 11, 0, 0), (7, none, .aload_n 1, 1, 0, 0, 0), (8, none, .goto 4, 3, 12, 0, 0)] := fq_of2 cd_266 ow_266 cl_266 rfl (pc := 0) (by decide +kernel)
    j_aldn (pc := 0) D rfl rfl rfl fun D =>
    j_gs (pc := 1) D rfl fun D =>
    j_ane (pc := 4) D rfl (fun q D =>
      j_aldn (pc := 7) D rfl rfl rfl fun D =>
      j_goto (pc := 8) D rfl <|
      have D : fk_D 266 [(12, none, .areturn, 1, 0, 0, 0)] := fq_of2 cd_266 ow_266 cl_266 rfl (pc := 12) (by decide +kernel)
      j_aret D rt_266) (fun q =>
      have D : fk_D 266 [(11, none, .aconst_null, 1, 0, 0, 0), (12, none, .areturn, 1, 0, 0, 0)] := fq_of2 cd_266 ow_266 cl_266 rfl (pc := 11) (by decide +kernel)
      j_c0 (pc := 11) (v := (4, 0)) D rfl rfl (by decide +kernel) fun D =>
      j_aret D rt_266)
/-! 267 StatuteHouse$Function$14.gives(LStatuteHouse$Kind;LStatuteHouse$Kind;LStatuteHouse$Kind;)LStatuteHouse$Kind; -/
theorem cd_267 : fi_code 267 = prog_18_method_2_code := rfl
theorem hx_267 : ∀ pc, fi_hat 267 pc = none := fun pc => by unfold fi_hat; rw [show fi_hh 267 = [] from rfl]; rfl
theorem rt_267 : fj_ft (fi_ret 267) = 5 := rfl
theorem nl_267 : fi_nl 267 = 4 := rfl
theorem ow_267 : fi_ow 267 = 40 := rfl
theorem cl_267 : fj_cutT.getD 267 [] = [] := rfl
theorem m_267 (d : Nat) (x0 x1 x2 x3 : Int) {h : fi_H} {k0 : Int} (H : Shp h) (hk : h 0 x0.toNat 0 = k0) (hk0 : k0 ≠ 0) : fj_run (d + 1) 267 h [(4, x0), (4, x1), (4, x2), (4, x3)] =
  if x1 = 6 then
    some (.inl (some (4, 3)), h)
  else
    some (.inl (some (4, 0)), h) := by
  rw [fj_run_eq d (by decide) h [(4, x0), (4, x1), (4, x2), (4, x3)] (Nat.le_of_ble_eq_true (by rw [nl_267]; rfl))]
  show gG (fj_run d) 267 0 [(0, (4, x0)), (1, (4, x1)), (2, (4, x2)), (3, (4, x3))] [] h = _
  exact
    have D : fk_D 267 [(0, none, .aload_n 1, 1, 0, 0, 0), (1, none, .getstatic 7, 3, 4, 6, 0), (4, none, .if_acmp .ne 9, 3, 13, 0, 0), (7, none, .getstatic 13, 3, 4, 3, 0), (10, none, .goto 4, 3, 14, 0, 0)] := fq_of2 cd_267 ow_267 cl_267 rfl (pc := 0) (by decide +kernel)
    j_aldn (pc := 0) D rfl rfl rfl fun D =>
    j_gs (pc := 1) D rfl fun D =>
    j_ane (pc := 4) D rfl (fun q D =>
      j_gs (pc := 7) D rfl fun D =>
      j_goto (pc := 10) D rfl <|
      have D : fk_D 267 [(14, none, .areturn, 1, 0, 0, 0)] := fq_of2 cd_267 ow_267 cl_267 rfl (pc := 14) (by decide +kernel)
      j_aret D rt_267) (fun q =>
      have D : fk_D 267 [(13, none, .aconst_null, 1, 0, 0, 0), (14, none, .areturn, 1, 0, 0, 0)] := fq_of2 cd_267 ow_267 cl_267 rfl (pc := 13) (by decide +kernel)
      j_c0 (pc := 13) (v := (4, 0)) D rfl rfl (by decide +kernel) fun D =>
      j_aret D rt_267)
/-! 268 StatuteHouse$Function$15.gives(LStatuteHouse$Kind;LStatuteHouse$Kind;LStatuteHouse$Kind;)LStatuteHouse$Kind; -/
theorem cd_268 : fi_code 268 = prog_19_method_2_code := rfl
theorem hx_268 : ∀ pc, fi_hat 268 pc = none := fun pc => by unfold fi_hat; rw [show fi_hh 268 = [] from rfl]; rfl
theorem rt_268 : fj_ft (fi_ret 268) = 5 := rfl
theorem nl_268 : fi_nl 268 = 4 := rfl
theorem ow_268 : fi_ow 268 = 41 := rfl
theorem cl_268 : fj_cutT.getD 268 [] = [] := rfl
theorem m_268 (d : Nat) (x0 x1 x2 x3 : Int) {h : fi_H} {k0 : Int} (H : Shp h) (hk : h 0 x0.toNat 0 = k0) (hk0 : k0 ≠ 0) : fj_run (d + 1) 268 h [(4, x0), (4, x1), (4, x2), (4, x3)] =
  if x1 = 6 then
    some (.inl (some (4, 3)), h)
  else
    some (.inl (some (4, 0)), h) := by
  rw [fj_run_eq d (by decide) h [(4, x0), (4, x1), (4, x2), (4, x3)] (Nat.le_of_ble_eq_true (by rw [nl_268]; rfl))]
  show gG (fj_run d) 268 0 [(0, (4, x0)), (1, (4, x1)), (2, (4, x2)), (3, (4, x3))] [] h = _
  exact
    have D : fk_D 268 [(0, none, .aload_n 1, 1, 0, 0, 0), (1, none, .getstatic 7, 3, 4, 6, 0), (4, none, .if_acmp .ne 9, 3, 13, 0, 0), (7, none, .getstatic 13, 3, 4, 3, 0), (10, none, .goto 4, 3, 14, 0, 0)] := fq_of2 cd_268 ow_268 cl_268 rfl (pc := 0) (by decide +kernel)
    j_aldn (pc := 0) D rfl rfl rfl fun D =>
    j_gs (pc := 1) D rfl fun D =>
    j_ane (pc := 4) D rfl (fun q D =>
      j_gs (pc := 7) D rfl fun D =>
      j_goto (pc := 10) D rfl <|
      have D : fk_D 268 [(14, none, .areturn, 1, 0, 0, 0)] := fq_of2 cd_268 ow_268 cl_268 rfl (pc := 14) (by decide +kernel)
      j_aret D rt_268) (fun q =>
      have D : fk_D 268 [(13, none, .aconst_null, 1, 0, 0, 0), (14, none, .areturn, 1, 0, 0, 0)] := fq_of2 cd_268 ow_268 cl_268 rfl (pc := 13) (by decide +kernel)
      j_c0 (pc := 13) (v := (4, 0)) D rfl rfl (by decide +kernel) fun D =>
      j_aret D rt_268)
/-! 269 StatuteHouse$Function$16.gives(LStatuteHouse$Kind;LStatuteHouse$Kind;LStatuteHouse$Kind;)LStatuteHouse$Kind; -/
theorem cd_269 : fi_code 269 = prog_20_method_2_code := rfl
theorem hx_269 : ∀ pc, fi_hat 269 pc = none := fun pc => by unfold fi_hat; rw [show fi_hh 269 = [] from rfl]; rfl
theorem rt_269 : fj_ft (fi_ret 269) = 5 := rfl
theorem nl_269 : fi_nl 269 = 4 := rfl
theorem ow_269 : fi_ow 269 = 42 := rfl
theorem cl_269 : fj_cutT.getD 269 [] = [] := rfl
theorem m_269 (d : Nat) (x0 x1 x2 x3 : Int) {h : fi_H} {k0 : Int} (H : Shp h) (hk : h 0 x0.toNat 0 = k0) (hk0 : k0 ≠ 0) : fj_run (d + 1) 269 h [(4, x0), (4, x1), (4, x2), (4, x3)] =
  if x1 = 6 then
    some (.inl (some (4, 3)), h)
  else
    some (.inl (some (4, 0)), h) := by
  rw [fj_run_eq d (by decide) h [(4, x0), (4, x1), (4, x2), (4, x3)] (Nat.le_of_ble_eq_true (by rw [nl_269]; rfl))]
  show gG (fj_run d) 269 0 [(0, (4, x0)), (1, (4, x1)), (2, (4, x2)), (3, (4, x3))] [] h = _
  exact
    have D : fk_D 269 [(0, none, .aload_n 1, 1, 0, 0, 0), (1, none, .getstatic 7, 3, 4, 6, 0), (4, none, .if_acmp .ne 9, 3, 13, 0, 0), (7, none, .getstatic 13, 3, 4, 3, 0), (10, none, .goto 4, 3, 14, 0, 0)] := fq_of2 cd_269 ow_269 cl_269 rfl (pc := 0) (by decide +kernel)
    j_aldn (pc := 0) D rfl rfl rfl fun D =>
    j_gs (pc := 1) D rfl fun D =>
    j_ane (pc := 4) D rfl (fun q D =>
      j_gs (pc := 7) D rfl fun D =>
      j_goto (pc := 10) D rfl <|
      have D : fk_D 269 [(14, none, .areturn, 1, 0, 0, 0)] := fq_of2 cd_269 ow_269 cl_269 rfl (pc := 14) (by decide +kernel)
      j_aret D rt_269) (fun q =>
      have D : fk_D 269 [(13, none, .aconst_null, 1, 0, 0, 0), (14, none, .areturn, 1, 0, 0, 0)] := fq_of2 cd_269 ow_269 cl_269 rfl (pc := 13) (by decide +kernel)
      j_c0 (pc := 13) (v := (4, 0)) D rfl rfl (by decide +kernel) fun D =>
      j_aret D rt_269)
/-! 270 StatuteHouse$Function$17.gives(LStatuteHouse$Kind;LStatuteHouse$Kind;LStatuteHouse$Kind;)LStatuteHouse$Kind; -/
theorem cd_270 : fi_code 270 = prog_21_method_2_code := rfl
theorem hx_270 : ∀ pc, fi_hat 270 pc = none := fun pc => by unfold fi_hat; rw [show fi_hh 270 = [] from rfl]; rfl
theorem rt_270 : fj_ft (fi_ret 270) = 5 := rfl
theorem nl_270 : fi_nl 270 = 4 := rfl
theorem ow_270 : fi_ow 270 = 43 := rfl
theorem cl_270 : fj_cutT.getD 270 [] = [] := rfl
theorem m_270 (d : Nat) (x0 x1 x2 x3 : Int) {h : fi_H} {k0 : Int} (H : Shp h) (hk : h 0 x0.toNat 0 = k0) (hk0 : k0 ≠ 0) : fj_run (d + 1) 270 h [(4, x0), (4, x1), (4, x2), (4, x3)] =
  if x1 = 6 then
    some (.inl (some (4, 3)), h)
  else
    some (.inl (some (4, 0)), h) := by
  rw [fj_run_eq d (by decide) h [(4, x0), (4, x1), (4, x2), (4, x3)] (Nat.le_of_ble_eq_true (by rw [nl_270]; rfl))]
  show gG (fj_run d) 270 0 [(0, (4, x0)), (1, (4, x1)), (2, (4, x2)), (3, (4, x3))] [] h = _
  exact
    have D : fk_D 270 [(0, none, .aload_n 1, 1, 0, 0, 0), (1, none, .getstatic 7, 3, 4, 6, 0), (4, none, .if_acmp .ne 9, 3, 13, 0, 0), (7, none, .getstatic 13, 3, 4, 3, 0), (10, none, .goto 4, 3, 14, 0, 0)] := fq_of2 cd_270 ow_270 cl_270 rfl (pc := 0) (by decide +kernel)
    j_aldn (pc := 0) D rfl rfl rfl fun D =>
    j_gs (pc := 1) D rfl fun D =>
    j_ane (pc := 4) D rfl (fun q D =>
      j_gs (pc := 7) D rfl fun D =>
      j_goto (pc := 10) D rfl <|
      have D : fk_D 270 [(14, none, .areturn, 1, 0, 0, 0)] := fq_of2 cd_270 ow_270 cl_270 rfl (pc := 14) (by decide +kernel)
      j_aret D rt_270) (fun q =>
      have D : fk_D 270 [(13, none, .aconst_null, 1, 0, 0, 0), (14, none, .areturn, 1, 0, 0, 0)] := fq_of2 cd_270 ow_270 cl_270 rfl (pc := 13) (by decide +kernel)
      j_c0 (pc := 13) (v := (4, 0)) D rfl rfl (by decide +kernel) fun D =>
      j_aret D rt_270)
/-! 271 StatuteHouse$Function$18.gives(LStatuteHouse$Kind;LStatuteHouse$Kind;LStatuteHouse$Kind;)LStatuteHouse$Kind; -/
theorem cd_271 : fi_code 271 = prog_22_method_2_code := rfl
theorem hx_271 : ∀ pc, fi_hat 271 pc = none := fun pc => by unfold fi_hat; rw [show fi_hh 271 = [] from rfl]; rfl
theorem rt_271 : fj_ft (fi_ret 271) = 5 := rfl
theorem nl_271 : fi_nl 271 = 4 := rfl
theorem ow_271 : fi_ow 271 = 44 := rfl
theorem cl_271 : fj_cutT.getD 271 [] = [] := rfl
theorem m_271 (d : Nat) (x0 x1 x2 x3 : Int) {h : fi_H} {k0 : Int} (H : Shp h) (hk : h 0 x0.toNat 0 = k0) (hk0 : k0 ≠ 0) : fj_run (d + 1) 271 h [(4, x0), (4, x1), (4, x2), (4, x3)] =
  if x1 = 6 then
    some (.inl (some (4, 2)), h)
  else
    some (.inl (some (4, 0)), h) := by
  rw [fj_run_eq d (by decide) h [(4, x0), (4, x1), (4, x2), (4, x3)] (Nat.le_of_ble_eq_true (by rw [nl_271]; rfl))]
  show gG (fj_run d) 271 0 [(0, (4, x0)), (1, (4, x1)), (2, (4, x2)), (3, (4, x3))] [] h = _
  exact
    have D : fk_D 271 [(0, none, .aload_n 1, 1, 0, 0, 0), (1, none, .getstatic 7, 3, 4, 6, 0), (4, none, .if_acmp .ne 9, 3, 13, 0, 0), (7, none, .getstatic 13, 3, 4, 2, 0), (10, none, .goto 4, 3, 14, 0, 0)] := fq_of2 cd_271 ow_271 cl_271 rfl (pc := 0) (by decide +kernel)
    j_aldn (pc := 0) D rfl rfl rfl fun D =>
    j_gs (pc := 1) D rfl fun D =>
    j_ane (pc := 4) D rfl (fun q D =>
      j_gs (pc := 7) D rfl fun D =>
      j_goto (pc := 10) D rfl <|
      have D : fk_D 271 [(14, none, .areturn, 1, 0, 0, 0)] := fq_of2 cd_271 ow_271 cl_271 rfl (pc := 14) (by decide +kernel)
      j_aret D rt_271) (fun q =>
      have D : fk_D 271 [(13, none, .aconst_null, 1, 0, 0, 0), (14, none, .areturn, 1, 0, 0, 0)] := fq_of2 cd_271 ow_271 cl_271 rfl (pc := 13) (by decide +kernel)
      j_c0 (pc := 13) (v := (4, 0)) D rfl rfl (by decide +kernel) fun D =>
      j_aret D rt_271)
/-! 272 StatuteHouse$Function$19.gives(LStatuteHouse$Kind;LStatuteHouse$Kind;LStatuteHouse$Kind;)LStatuteHouse$Kind; -/
theorem cd_272 : fi_code 272 = prog_23_method_2_code := rfl
theorem hx_272 : ∀ pc, fi_hat 272 pc = none := fun pc => by unfold fi_hat; rw [show fi_hh 272 = [] from rfl]; rfl
theorem rt_272 : fj_ft (fi_ret 272) = 5 := rfl
theorem nl_272 : fi_nl 272 = 4 := rfl
theorem ow_272 : fi_ow 272 = 45 := rfl
theorem cl_272 : fj_cutT.getD 272 [] = [] := rfl
theorem m_272 (d : Nat) (x0 x1 x2 x3 : Int) {h : fi_H} {k0 : Int} (H : Shp h) (hk : h 0 x0.toNat 0 = k0) (hk0 : k0 ≠ 0) : fj_run (d + 1) 272 h [(4, x0), (4, x1), (4, x2), (4, x3)] =
  if x1 = 6 then
    some (.inl (some (4, x1)), h)
  else
    some (.inl (some (4, 0)), h) := by
  rw [fj_run_eq d (by decide) h [(4, x0), (4, x1), (4, x2), (4, x3)] (Nat.le_of_ble_eq_true (by rw [nl_272]; rfl))]
  show gG (fj_run d) 272 0 [(0, (4, x0)), (1, (4, x1)), (2, (4, x2)), (3, (4, x3))] [] h = _
  exact
    have D : fk_D 272 [(0, none, .aload_n 1, 1, 0, 0, 0), (1, none, .getstatic 7, 3, 4, 6, 0), (4, none, .if_acmp .ne 7, 3, 11, 0, 0), (7, none, .aload_n 1, 1, 0, 0, 0), (8, none, .goto 4, 3, 12, 0, 0)] := fq_of2 cd_272 ow_272 cl_272 rfl (pc := 0) (by decide +kernel)
    j_aldn (pc := 0) D rfl rfl rfl fun D =>
    j_gs (pc := 1) D rfl fun D =>
    j_ane (pc := 4) D rfl (fun q D =>
      j_aldn (pc := 7) D rfl rfl rfl fun D =>
      j_goto (pc := 8) D rfl <|
      have D : fk_D 272 [(12, none, .areturn, 1, 0, 0, 0)] := fq_of2 cd_272 ow_272 cl_272 rfl (pc := 12) (by decide +kernel)
      j_aret D rt_272) (fun q =>
      have D : fk_D 272 [(11, none, .aconst_null, 1, 0, 0, 0), (12, none, .areturn, 1, 0, 0, 0)] := fq_of2 cd_272 ow_272 cl_272 rfl (pc := 11) (by decide +kernel)
      j_c0 (pc := 11) (v := (4, 0)) D rfl rfl (by decide +kernel) fun D =>
      j_aret D rt_272)
/-! 273 StatuteHouse$Function$2.gives(LStatuteHouse$Kind;LStatuteHouse$Kind;LStatuteHouse$Kind;)LStatuteHouse$Kind; -/
theorem cd_273 : fi_code 273 = prog_24_method_2_code := rfl
theorem hx_273 : ∀ pc, fi_hat 273 pc = none := fun pc => by unfold fi_hat; rw [show fi_hh 273 = [] from rfl]; rfl
theorem rt_273 : fj_ft (fi_ret 273) = 5 := rfl
theorem nl_273 : fi_nl 273 = 4 := rfl
theorem ow_273 : fi_ow 273 = 46 := rfl
theorem cl_273 : fj_cutT.getD 273 [] = [] := rfl
theorem m_273 (d : Nat) (x0 x1 x2 x3 : Int) {h : fi_H} {k0 : Int} (H : Shp h) (hk : h 0 x0.toNat 0 = k0) (hk0 : k0 ≠ 0) : fj_run (d + 1) 273 h [(4, x0), (4, x1), (4, x2), (4, x3)] =
  ca_ (fj_run d 274 h [(4, x1), (4, x2)]) 0
    (fun v2 h1 =>
    if v2 = 0 then
      some (.inl (some (4, 0)), h1)
    else
      some (.inl (some (4, 3)), h1))
    (fun q3 h1 => tx_ q3 h1) := by
  rw [fj_run_eq d (by decide) h [(4, x0), (4, x1), (4, x2), (4, x3)] (Nat.le_of_ble_eq_true (by rw [nl_273]; rfl))]
  show gG (fj_run d) 273 0 [(0, (4, x0)), (1, (4, x1)), (2, (4, x2)), (3, (4, x3))] [] h = _
  exact
    have D : fk_D 273 [(0, none, .aload_n 1, 1, 0, 0, 0), (1, none, .aload_n 2, 1, 0, 0, 0), (2, none, .invokestatic 7, 3, 2, 274, 1), (5, none, .ifCond .eq 9, 3, 14, 0, 0), (8, none, .getstatic 11, 3, 4, 3, 0), (11, none, .goto 4, 3, 15, 0, 0)] := fq_of2 cd_273 ow_273 cl_273 rfl (pc := 0) (by decide +kernel)
    j_aldn (pc := 0) D rfl rfl rfl fun D =>
    j_aldn (pc := 1) D rfl rfl rfl fun D =>
    j_is (pc := 2) (m := 274) (a := [(4, x1), (4, x2)]) (rest := []) D rfl rfl rfl rfl (fun v2 h1 e1 D =>
      have T := fj_run_ok _ _ _ _ _ _ H.1 e1
      have hk := cls_st H.1 T.2 hk hk0
      have H := shp_st H T
      j_ifeq (pc := 5) D rfl (fun q =>
        have D : fk_D 273 [(14, none, .aconst_null, 1, 0, 0, 0), (15, none, .areturn, 1, 0, 0, 0)] := fq_of2 cd_273 ow_273 cl_273 rfl (pc := 14) (by decide +kernel)
        j_c0 (pc := 14) (v := (4, 0)) D rfl rfl (by decide +kernel) fun D =>
        j_aret D rt_273) (fun q D =>
        j_gs (pc := 8) D rfl fun D =>
        j_goto (pc := 11) D rfl <|
        have D : fk_D 273 [(15, none, .areturn, 1, 0, 0, 0)] := fq_of2 cd_273 ow_273 cl_273 rfl (pc := 15) (by decide +kernel)
        j_aret D rt_273)) (fun q3 h1 e1 =>
      j_tx (hx_273 _))
/-! 274 StatuteHouse$Function.dates(LStatuteHouse$Kind;LStatuteHouse$Kind;)Z -/
theorem cd_274 : fi_code 274 = prog_12_method_4_code := rfl
theorem hx_274 : ∀ pc, fi_hat 274 pc = none := fun pc => by unfold fi_hat; rw [show fi_hh 274 = [] from rfl]; rfl
theorem rt_274 : fi_ret 274 = some .boolean := rfl
theorem nl_274 : fi_nl 274 = 2 := rfl
theorem ow_274 : fi_ow 274 = 34 := rfl
theorem cl_274 : fj_cutT.getD 274 [] = [] := rfl
theorem m_274 (d : Nat) (x0 x1 : Int) {h : fi_H} (H : Shp h) : fj_run (d + 1) 274 h [(4, x0), (4, x1)] =
  if x0 = 6 then
    if x1 = x0 then
      some (.inl (some (0, 1)), h)
    else
      some (.inl (some (0, 0)), h)
  else
    some (.inl (some (0, 0)), h) := by
  rw [fj_run_eq d (by decide) h [(4, x0), (4, x1)] (Nat.le_of_ble_eq_true (by rw [nl_274]; rfl))]
  show gG (fj_run d) 274 0 [(0, (4, x0)), (1, (4, x1))] [] h = _
  exact
    have D : fk_D 274 [(0, none, .aload_n 0, 1, 0, 0, 0), (1, none, .getstatic 99, 3, 4, 6, 0), (4, none, .if_acmp .ne 12, 3, 16, 0, 0), (7, none, .aload_n 1, 1, 0, 0, 0), (8, none, .aload_n 0, 1, 0, 0, 0), (9, none, .if_acmp .ne 7, 3, 16, 0, 0), (12, none, .iconst 1, 1, 0, 1, 0), (13, none, .goto 4, 3, 17, 0, 0)] := fq_of2 cd_274 ow_274 cl_274 rfl (pc := 0) (by decide +kernel)
    j_aldn (pc := 0) D rfl rfl rfl fun D =>
    j_gs (pc := 1) D rfl fun D =>
    j_ane (pc := 4) D rfl (fun q D =>
      j_aldn (pc := 7) D rfl rfl rfl fun D =>
      j_aldn (pc := 8) D rfl rfl rfl fun D =>
      j_ane (pc := 9) D rfl (fun q D =>
        j_ic (pc := 12) D rfl fun D =>
        j_goto (pc := 13) D rfl <|
        have D : fk_D 274 [(17, none, .ireturn, 1, 0, 0, 0)] := fq_of2 cd_274 ow_274 cl_274 rfl (pc := 17) (by decide +kernel)
        j_zret D rt_274 (gy (by decide))) (fun q =>
        have D : fk_D 274 [(16, none, .iconst 0, 1, 0, 0, 0), (17, none, .ireturn, 1, 0, 0, 0)] := fq_of2 cd_274 ow_274 cl_274 rfl (pc := 16) (by decide +kernel)
        j_ic (pc := 16) D rfl fun D =>
        j_zret D rt_274 (gy (by decide)))) (fun q =>
      have D : fk_D 274 [(16, none, .iconst 0, 1, 0, 0, 0), (17, none, .ireturn, 1, 0, 0, 0)] := fq_of2 cd_274 ow_274 cl_274 rfl (pc := 16) (by decide +kernel)
      j_ic (pc := 16) D rfl fun D =>
      j_zret D rt_274 (gy (by decide)))
/-! 275 StatuteHouse$Function$20.gives(LStatuteHouse$Kind;LStatuteHouse$Kind;LStatuteHouse$Kind;)LStatuteHouse$Kind; -/
theorem cd_275 : fi_code 275 = prog_25_method_2_code := rfl
theorem hx_275 : ∀ pc, fi_hat 275 pc = none := fun pc => by unfold fi_hat; rw [show fi_hh 275 = [] from rfl]; rfl
theorem rt_275 : fj_ft (fi_ret 275) = 5 := rfl
theorem nl_275 : fi_nl 275 = 4 := rfl
theorem ow_275 : fi_ow 275 = 47 := rfl
theorem cl_275 : fj_cutT.getD 275 [] = [] := rfl
theorem m_275 (d : Nat) (x0 x1 x2 x3 : Int) {h : fi_H} {k0 : Int} (H : Shp h) (hk : h 0 x0.toNat 0 = k0) (hk0 : k0 ≠ 0) : fj_run (d + 1) 275 h [(4, x0), (4, x1), (4, x2), (4, x3)] =
  dv_ (fi_vt 311 (h 0 x1.toNat 0)) fun m4 => ca_ (fj_run d m4 h [(4, x1)]) 0
    (fun v2 h1 =>
    if v2 = 0 then
      some (.inl (some (4, 0)), h1)
    else
      some (.inl (some (4, x1)), h1))
    (fun q3 h1 => tx_ q3 h1) := by
  rw [fj_run_eq d (by decide) h [(4, x0), (4, x1), (4, x2), (4, x3)] (Nat.le_of_ble_eq_true (by rw [nl_275]; rfl))]
  show gG (fj_run d) 275 0 [(0, (4, x0)), (1, (4, x1)), (2, (4, x2)), (3, (4, x3))] [] h = _
  exact
    have D : fk_D 275 [(0, none, .aload_n 1, 1, 0, 0, 0), (1, none, .invokevirtual 7, 3, 0, 311, 1), (4, none, .ifCond .eq 7, 3, 11, 0, 0), (7, none, .aload_n 1, 1, 0, 0, 0), (8, none, .goto 4, 3, 12, 0, 0)] := fq_of2 cd_275 ow_275 cl_275 rfl (pc := 0) (by decide +kernel)
    j_aldn (pc := 0) D rfl rfl rfl fun D =>
    j_ivu (pc := 1) (dd := 311) (a := []) (rest := []) H.2.1 D rfl rfl rfl rfl rfl (fun m4 v2 h1 e1 D =>
      have T := fj_run_ok _ _ _ _ _ _ H.1 e1
      have hk := cls_st H.1 T.2 hk hk0
      have H := shp_st H T
      j_ifeq (pc := 4) D rfl (fun q =>
        have D : fk_D 275 [(11, none, .aconst_null, 1, 0, 0, 0), (12, none, .areturn, 1, 0, 0, 0)] := fq_of2 cd_275 ow_275 cl_275 rfl (pc := 11) (by decide +kernel)
        j_c0 (pc := 11) (v := (4, 0)) D rfl rfl (by decide +kernel) fun D =>
        j_aret D rt_275) (fun q D =>
        j_aldn (pc := 7) D rfl rfl rfl fun D =>
        j_goto (pc := 8) D rfl <|
        have D : fk_D 275 [(12, none, .areturn, 1, 0, 0, 0)] := fq_of2 cd_275 ow_275 cl_275 rfl (pc := 12) (by decide +kernel)
        j_aret D rt_275)) (fun m4 q3 h1 e1 =>
      j_tx (hx_275 _))
/-! 276 StatuteHouse$Function$21.gives(LStatuteHouse$Kind;LStatuteHouse$Kind;LStatuteHouse$Kind;)LStatuteHouse$Kind; -/
theorem cd_276 : fi_code 276 = prog_26_method_2_code := rfl
theorem hx_276 : ∀ pc, fi_hat 276 pc = none := fun pc => by unfold fi_hat; rw [show fi_hh 276 = [] from rfl]; rfl
theorem rt_276 : fj_ft (fi_ret 276) = 5 := rfl
theorem nl_276 : fi_nl 276 = 4 := rfl
theorem ow_276 : fi_ow 276 = 48 := rfl
theorem cl_276 : fj_cutT.getD 276 [] = [] := rfl
theorem m_276 (d : Nat) (x0 x1 x2 x3 : Int) {h : fi_H} {k0 : Int} (H : Shp h) (hk : h 0 x0.toNat 0 = k0) (hk0 : k0 ≠ 0) : fj_run (d + 1) 276 h [(4, x0), (4, x1), (4, x2), (4, x3)] =
  if x1 = 3 then
    some (.inl (some (4, 8)), h)
  else
    if x1 = 4 then
      some (.inl (some (4, 8)), h)
    else
      if x1 = 5 then
        some (.inl (some (4, 8)), h)
      else
        some (.inl (some (4, 0)), h) := by
  rw [fj_run_eq d (by decide) h [(4, x0), (4, x1), (4, x2), (4, x3)] (Nat.le_of_ble_eq_true (by rw [nl_276]; rfl))]
  show gG (fj_run d) 276 0 [(0, (4, x0)), (1, (4, x1)), (2, (4, x2)), (3, (4, x3))] [] h = _
  exact
    have D : fk_D 276 [(0, none, .aload_n 1, 1, 0, 0, 0), (1, none, .getstatic 7, 3, 4, 3, 0), (4, none, .if_acmp .eq 17, 3, 21, 0, 0), (7, none, .aload_n 1, 1, 0, 0, 0), (8, none, .getstatic 13, 3, 4, 4, 0), (11, none, .if_acmp .eq 10, 3, 21, 0, 0), (14, none, .aload_n 1, 1, 0, 0, 0), (15, none, .getstatic 16, 3, 4, 5, 0), (18, none, .if_acmp .ne 9, 3, 27, 0, 0), (21, none, .getstatic 19, 3, 4, 8, 0), (24, none, .goto 4, 3, 28, 0, 0)] := fq_of2 cd_276 ow_276 cl_276 rfl (pc := 0) (by decide +kernel)
    j_aldn (pc := 0) D rfl rfl rfl fun D =>
    j_gs (pc := 1) D rfl fun D =>
    j_aeq (pc := 4) D rfl (fun q =>
      have D : fk_D 276 [(21, none, .getstatic 19, 3, 4, 8, 0), (24, none, .goto 4, 3, 28, 0, 0)] := fq_of2 cd_276 ow_276 cl_276 rfl (pc := 21) (by decide +kernel)
      j_gs (pc := 21) D rfl fun D =>
      j_goto (pc := 24) D rfl <|
      have D : fk_D 276 [(28, none, .areturn, 1, 0, 0, 0)] := fq_of2 cd_276 ow_276 cl_276 rfl (pc := 28) (by decide +kernel)
      j_aret D rt_276) (fun q D =>
      j_aldn (pc := 7) D rfl rfl rfl fun D =>
      j_gs (pc := 8) D rfl fun D =>
      j_aeq (pc := 11) D rfl (fun q =>
        have D : fk_D 276 [(21, none, .getstatic 19, 3, 4, 8, 0), (24, none, .goto 4, 3, 28, 0, 0)] := fq_of2 cd_276 ow_276 cl_276 rfl (pc := 21) (by decide +kernel)
        j_gs (pc := 21) D rfl fun D =>
        j_goto (pc := 24) D rfl <|
        have D : fk_D 276 [(28, none, .areturn, 1, 0, 0, 0)] := fq_of2 cd_276 ow_276 cl_276 rfl (pc := 28) (by decide +kernel)
        j_aret D rt_276) (fun q D =>
        j_aldn (pc := 14) D rfl rfl rfl fun D =>
        j_gs (pc := 15) D rfl fun D =>
        j_ane (pc := 18) D rfl (fun q D =>
          j_gs (pc := 21) D rfl fun D =>
          j_goto (pc := 24) D rfl <|
          have D : fk_D 276 [(28, none, .areturn, 1, 0, 0, 0)] := fq_of2 cd_276 ow_276 cl_276 rfl (pc := 28) (by decide +kernel)
          j_aret D rt_276) (fun q =>
          have D : fk_D 276 [(27, none, .aconst_null, 1, 0, 0, 0), (28, none, .areturn, 1, 0, 0, 0)] := fq_of2 cd_276 ow_276 cl_276 rfl (pc := 27) (by decide +kernel)
          j_c0 (pc := 27) (v := (4, 0)) D rfl rfl (by decide +kernel) fun D =>
          j_aret D rt_276)))
/-! 277 StatuteHouse$Function$22.gives(LStatuteHouse$Kind;LStatuteHouse$Kind;LStatuteHouse$Kind;)LStatuteHouse$Kind; -/
theorem cd_277 : fi_code 277 = prog_27_method_2_code := rfl
theorem hx_277 : ∀ pc, fi_hat 277 pc = none := fun pc => by unfold fi_hat; rw [show fi_hh 277 = [] from rfl]; rfl
theorem rt_277 : fj_ft (fi_ret 277) = 5 := rfl
theorem nl_277 : fi_nl 277 = 4 := rfl
theorem ow_277 : fi_ow 277 = 49 := rfl
theorem cl_277 : fj_cutT.getD 277 [] = [] := rfl
theorem m_277 (d : Nat) (x0 x1 x2 x3 : Int) {h : fi_H} {k0 : Int} (H : Shp h) (hk : h 0 x0.toNat 0 = k0) (hk0 : k0 ≠ 0) : fj_run (d + 1) 277 h [(4, x0), (4, x1), (4, x2), (4, x3)] =
  if x1 = 8 then
    some (.inl (some (4, x1)), h)
  else
    some (.inl (some (4, 0)), h) := by
  rw [fj_run_eq d (by decide) h [(4, x0), (4, x1), (4, x2), (4, x3)] (Nat.le_of_ble_eq_true (by rw [nl_277]; rfl))]
  show gG (fj_run d) 277 0 [(0, (4, x0)), (1, (4, x1)), (2, (4, x2)), (3, (4, x3))] [] h = _
  exact
    have D : fk_D 277 [(0, none, .aload_n 1, 1, 0, 0, 0), (1, none, .getstatic 9, 3, 4, 8, 0), (4, none, .if_acmp .ne 7, 3, 11, 0, 0), (7, none, .aload_n 1, 1, 0, 0, 0), (8, none, .goto 4, 3, 12, 0, 0)] := fq_of2 cd_277 ow_277 cl_277 rfl (pc := 0) (by decide +kernel)
    j_aldn (pc := 0) D rfl rfl rfl fun D =>
    j_gs (pc := 1) D rfl fun D =>
    j_ane (pc := 4) D rfl (fun q D =>
      j_aldn (pc := 7) D rfl rfl rfl fun D =>
      j_goto (pc := 8) D rfl <|
      have D : fk_D 277 [(12, none, .areturn, 1, 0, 0, 0)] := fq_of2 cd_277 ow_277 cl_277 rfl (pc := 12) (by decide +kernel)
      j_aret D rt_277) (fun q =>
      have D : fk_D 277 [(11, none, .aconst_null, 1, 0, 0, 0), (12, none, .areturn, 1, 0, 0, 0)] := fq_of2 cd_277 ow_277 cl_277 rfl (pc := 11) (by decide +kernel)
      j_c0 (pc := 11) (v := (4, 0)) D rfl rfl (by decide +kernel) fun D =>
      j_aret D rt_277)
/-! 278 StatuteHouse$Function$23.gives(LStatuteHouse$Kind;LStatuteHouse$Kind;LStatuteHouse$Kind;)LStatuteHouse$Kind; -/
theorem cd_278 : fi_code 278 = prog_28_method_2_code := rfl
theorem hx_278 : ∀ pc, fi_hat 278 pc = none := fun pc => by unfold fi_hat; rw [show fi_hh 278 = [] from rfl]; rfl
theorem rt_278 : fj_ft (fi_ret 278) = 5 := rfl
theorem nl_278 : fi_nl 278 = 4 := rfl
theorem ow_278 : fi_ow 278 = 50 := rfl
theorem cl_278 : fj_cutT.getD 278 [] = [] := rfl
theorem m_278 (d : Nat) (x0 x1 x2 x3 : Int) {h : fi_H} {k0 : Int} (H : Shp h) (hk : h 0 x0.toNat 0 = k0) (hk0 : k0 ≠ 0) : fj_run (d + 1) 278 h [(4, x0), (4, x1), (4, x2), (4, x3)] =
  if x1 = 8 then
    some (.inl (some (4, 4)), h)
  else
    some (.inl (some (4, 0)), h) := by
  rw [fj_run_eq d (by decide) h [(4, x0), (4, x1), (4, x2), (4, x3)] (Nat.le_of_ble_eq_true (by rw [nl_278]; rfl))]
  show gG (fj_run d) 278 0 [(0, (4, x0)), (1, (4, x1)), (2, (4, x2)), (3, (4, x3))] [] h = _
  exact
    have D : fk_D 278 [(0, none, .aload_n 1, 1, 0, 0, 0), (1, none, .getstatic 9, 3, 4, 8, 0), (4, none, .if_acmp .ne 9, 3, 13, 0, 0), (7, none, .getstatic 15, 3, 4, 4, 0), (10, none, .goto 4, 3, 14, 0, 0)] := fq_of2 cd_278 ow_278 cl_278 rfl (pc := 0) (by decide +kernel)
    j_aldn (pc := 0) D rfl rfl rfl fun D =>
    j_gs (pc := 1) D rfl fun D =>
    j_ane (pc := 4) D rfl (fun q D =>
      j_gs (pc := 7) D rfl fun D =>
      j_goto (pc := 10) D rfl <|
      have D : fk_D 278 [(14, none, .areturn, 1, 0, 0, 0)] := fq_of2 cd_278 ow_278 cl_278 rfl (pc := 14) (by decide +kernel)
      j_aret D rt_278) (fun q =>
      have D : fk_D 278 [(13, none, .aconst_null, 1, 0, 0, 0), (14, none, .areturn, 1, 0, 0, 0)] := fq_of2 cd_278 ow_278 cl_278 rfl (pc := 13) (by decide +kernel)
      j_c0 (pc := 13) (v := (4, 0)) D rfl rfl (by decide +kernel) fun D =>
      j_aret D rt_278)
/-! 279 StatuteHouse$Function$24.gives(LStatuteHouse$Kind;LStatuteHouse$Kind;LStatuteHouse$Kind;)LStatuteHouse$Kind; -/
theorem cd_279 : fi_code 279 = prog_29_method_2_code := rfl
theorem hx_279 : ∀ pc, fi_hat 279 pc = none := fun pc => by unfold fi_hat; rw [show fi_hh 279 = [] from rfl]; rfl
theorem rt_279 : fj_ft (fi_ret 279) = 5 := rfl
theorem nl_279 : fi_nl 279 = 4 := rfl
theorem ow_279 : fi_ow 279 = 51 := rfl
theorem cl_279 : fj_cutT.getD 279 [] = [] := rfl
theorem m_279 (d : Nat) (x0 x1 x2 x3 : Int) {h : fi_H} {k0 : Int} (H : Shp h) (hk : h 0 x0.toNat 0 = k0) (hk0 : k0 ≠ 0) : fj_run (d + 1) 279 h [(4, x0), (4, x1), (4, x2), (4, x3)] =
  if x1 = 5 then
    some (.inl (some (4, 3)), h)
  else
    if x1 = 8 then
      some (.inl (some (4, 3)), h)
    else
      some (.inl (some (4, 0)), h) := by
  rw [fj_run_eq d (by decide) h [(4, x0), (4, x1), (4, x2), (4, x3)] (Nat.le_of_ble_eq_true (by rw [nl_279]; rfl))]
  show gG (fj_run d) 279 0 [(0, (4, x0)), (1, (4, x1)), (2, (4, x2)), (3, (4, x3))] [] h = _
  exact
    have D : fk_D 279 [(0, none, .aload_n 1, 1, 0, 0, 0), (1, none, .getstatic 7, 3, 4, 5, 0), (4, none, .if_acmp .eq 10, 3, 14, 0, 0), (7, none, .aload_n 1, 1, 0, 0, 0), (8, none, .getstatic 13, 3, 4, 8, 0), (11, none, .if_acmp .ne 9, 3, 20, 0, 0), (14, none, .getstatic 16, 3, 4, 3, 0), (17, none, .goto 4, 3, 21, 0, 0)] := fq_of2 cd_279 ow_279 cl_279 rfl (pc := 0) (by decide +kernel)
    j_aldn (pc := 0) D rfl rfl rfl fun D =>
    j_gs (pc := 1) D rfl fun D =>
    j_aeq (pc := 4) D rfl (fun q =>
      have D : fk_D 279 [(14, none, .getstatic 16, 3, 4, 3, 0), (17, none, .goto 4, 3, 21, 0, 0)] := fq_of2 cd_279 ow_279 cl_279 rfl (pc := 14) (by decide +kernel)
      j_gs (pc := 14) D rfl fun D =>
      j_goto (pc := 17) D rfl <|
      have D : fk_D 279 [(21, none, .areturn, 1, 0, 0, 0)] := fq_of2 cd_279 ow_279 cl_279 rfl (pc := 21) (by decide +kernel)
      j_aret D rt_279) (fun q D =>
      j_aldn (pc := 7) D rfl rfl rfl fun D =>
      j_gs (pc := 8) D rfl fun D =>
      j_ane (pc := 11) D rfl (fun q D =>
        j_gs (pc := 14) D rfl fun D =>
        j_goto (pc := 17) D rfl <|
        have D : fk_D 279 [(21, none, .areturn, 1, 0, 0, 0)] := fq_of2 cd_279 ow_279 cl_279 rfl (pc := 21) (by decide +kernel)
        j_aret D rt_279) (fun q =>
        have D : fk_D 279 [(20, none, .aconst_null, 1, 0, 0, 0), (21, none, .areturn, 1, 0, 0, 0)] := fq_of2 cd_279 ow_279 cl_279 rfl (pc := 20) (by decide +kernel)
        j_c0 (pc := 20) (v := (4, 0)) D rfl rfl (by decide +kernel) fun D =>
        j_aret D rt_279))
/-! 280 StatuteHouse$Function$3.gives(LStatuteHouse$Kind;LStatuteHouse$Kind;LStatuteHouse$Kind;)LStatuteHouse$Kind; -/
theorem cd_280 : fi_code 280 = prog_30_method_2_code := rfl
theorem hx_280 : ∀ pc, fi_hat 280 pc = none := fun pc => by unfold fi_hat; rw [show fi_hh 280 = [] from rfl]; rfl
theorem rt_280 : fj_ft (fi_ret 280) = 5 := rfl
theorem nl_280 : fi_nl 280 = 4 := rfl
theorem ow_280 : fi_ow 280 = 52 := rfl
theorem cl_280 : fj_cutT.getD 280 [] = [] := rfl
theorem m_280 (d : Nat) (x0 x1 x2 x3 : Int) {h : fi_H} {k0 : Int} (H : Shp h) (hk : h 0 x0.toNat 0 = k0) (hk0 : k0 ≠ 0) : fj_run (d + 1) 280 h [(4, x0), (4, x1), (4, x2), (4, x3)] =
  ca_ (fj_run d 274 h [(4, x1), (4, x2)]) 0
    (fun v2 h1 =>
    if v2 = 0 then
      some (.inl (some (4, 0)), h1)
    else
      some (.inl (some (4, 3)), h1))
    (fun q3 h1 => tx_ q3 h1) := by
  rw [fj_run_eq d (by decide) h [(4, x0), (4, x1), (4, x2), (4, x3)] (Nat.le_of_ble_eq_true (by rw [nl_280]; rfl))]
  show gG (fj_run d) 280 0 [(0, (4, x0)), (1, (4, x1)), (2, (4, x2)), (3, (4, x3))] [] h = _
  exact
    have D : fk_D 280 [(0, none, .aload_n 1, 1, 0, 0, 0), (1, none, .aload_n 2, 1, 0, 0, 0), (2, none, .invokestatic 7, 3, 2, 274, 1), (5, none, .ifCond .eq 9, 3, 14, 0, 0), (8, none, .getstatic 11, 3, 4, 3, 0), (11, none, .goto 4, 3, 15, 0, 0)] := fq_of2 cd_280 ow_280 cl_280 rfl (pc := 0) (by decide +kernel)
    j_aldn (pc := 0) D rfl rfl rfl fun D =>
    j_aldn (pc := 1) D rfl rfl rfl fun D =>
    j_is (pc := 2) (m := 274) (a := [(4, x1), (4, x2)]) (rest := []) D rfl rfl rfl rfl (fun v2 h1 e1 D =>
      have T := fj_run_ok _ _ _ _ _ _ H.1 e1
      have hk := cls_st H.1 T.2 hk hk0
      have H := shp_st H T
      j_ifeq (pc := 5) D rfl (fun q =>
        have D : fk_D 280 [(14, none, .aconst_null, 1, 0, 0, 0), (15, none, .areturn, 1, 0, 0, 0)] := fq_of2 cd_280 ow_280 cl_280 rfl (pc := 14) (by decide +kernel)
        j_c0 (pc := 14) (v := (4, 0)) D rfl rfl (by decide +kernel) fun D =>
        j_aret D rt_280) (fun q D =>
        j_gs (pc := 8) D rfl fun D =>
        j_goto (pc := 11) D rfl <|
        have D : fk_D 280 [(15, none, .areturn, 1, 0, 0, 0)] := fq_of2 cd_280 ow_280 cl_280 rfl (pc := 15) (by decide +kernel)
        j_aret D rt_280)) (fun q3 h1 e1 =>
      j_tx (hx_280 _))
/-! 281 StatuteHouse$Function$4.gives(LStatuteHouse$Kind;LStatuteHouse$Kind;LStatuteHouse$Kind;)LStatuteHouse$Kind; -/
theorem cd_281 : fi_code 281 = prog_31_method_2_code := rfl
theorem hx_281 : ∀ pc, fi_hat 281 pc = none := fun pc => by unfold fi_hat; rw [show fi_hh 281 = [] from rfl]; rfl
theorem rt_281 : fj_ft (fi_ret 281) = 5 := rfl
theorem nl_281 : fi_nl 281 = 4 := rfl
theorem ow_281 : fi_ow 281 = 53 := rfl
theorem cl_281 : fj_cutT.getD 281 [] = [] := rfl
theorem m_281 (d : Nat) (x0 x1 x2 x3 : Int) {h : fi_H} {k0 : Int} (H : Shp h) (hk : h 0 x0.toNat 0 = k0) (hk0 : k0 ≠ 0) : fj_run (d + 1) 281 h [(4, x0), (4, x1), (4, x2), (4, x3)] =
  ca_ (fj_run d 274 h [(4, x1), (4, x2)]) 0
    (fun v2 h1 =>
    if v2 = 0 then
      some (.inl (some (4, 0)), h1)
    else
      some (.inl (some (4, 3)), h1))
    (fun q3 h1 => tx_ q3 h1) := by
  rw [fj_run_eq d (by decide) h [(4, x0), (4, x1), (4, x2), (4, x3)] (Nat.le_of_ble_eq_true (by rw [nl_281]; rfl))]
  show gG (fj_run d) 281 0 [(0, (4, x0)), (1, (4, x1)), (2, (4, x2)), (3, (4, x3))] [] h = _
  exact
    have D : fk_D 281 [(0, none, .aload_n 1, 1, 0, 0, 0), (1, none, .aload_n 2, 1, 0, 0, 0), (2, none, .invokestatic 7, 3, 2, 274, 1), (5, none, .ifCond .eq 9, 3, 14, 0, 0), (8, none, .getstatic 11, 3, 4, 3, 0), (11, none, .goto 4, 3, 15, 0, 0)] := fq_of2 cd_281 ow_281 cl_281 rfl (pc := 0) (by decide +kernel)
    j_aldn (pc := 0) D rfl rfl rfl fun D =>
    j_aldn (pc := 1) D rfl rfl rfl fun D =>
    j_is (pc := 2) (m := 274) (a := [(4, x1), (4, x2)]) (rest := []) D rfl rfl rfl rfl (fun v2 h1 e1 D =>
      have T := fj_run_ok _ _ _ _ _ _ H.1 e1
      have hk := cls_st H.1 T.2 hk hk0
      have H := shp_st H T
      j_ifeq (pc := 5) D rfl (fun q =>
        have D : fk_D 281 [(14, none, .aconst_null, 1, 0, 0, 0), (15, none, .areturn, 1, 0, 0, 0)] := fq_of2 cd_281 ow_281 cl_281 rfl (pc := 14) (by decide +kernel)
        j_c0 (pc := 14) (v := (4, 0)) D rfl rfl (by decide +kernel) fun D =>
        j_aret D rt_281) (fun q D =>
        j_gs (pc := 8) D rfl fun D =>
        j_goto (pc := 11) D rfl <|
        have D : fk_D 281 [(15, none, .areturn, 1, 0, 0, 0)] := fq_of2 cd_281 ow_281 cl_281 rfl (pc := 15) (by decide +kernel)
        j_aret D rt_281)) (fun q3 h1 e1 =>
      j_tx (hx_281 _))
/-! 282 StatuteHouse$Function$5.gives(LStatuteHouse$Kind;LStatuteHouse$Kind;LStatuteHouse$Kind;)LStatuteHouse$Kind; -/
theorem cd_282 : fi_code 282 = prog_32_method_2_code := rfl
theorem hx_282 : ∀ pc, fi_hat 282 pc = none := fun pc => by unfold fi_hat; rw [show fi_hh 282 = [] from rfl]; rfl
theorem rt_282 : fj_ft (fi_ret 282) = 5 := rfl
theorem nl_282 : fi_nl 282 = 4 := rfl
theorem ow_282 : fi_ow 282 = 54 := rfl
theorem cl_282 : fj_cutT.getD 282 [] = [] := rfl
theorem m_282 (d : Nat) (x0 x1 x2 x3 : Int) {h : fi_H} {k0 : Int} (H : Shp h) (hk : h 0 x0.toNat 0 = k0) (hk0 : k0 ≠ 0) : fj_run (d + 1) 282 h [(4, x0), (4, x1), (4, x2), (4, x3)] =
  if x1 = x2 then
    dv_ (fi_vt 325 (h 0 x1.toNat 0)) fun m4 => ca_ (fj_run d m4 h [(4, x1)]) 0
      (fun v2 h1 =>
      if v2 = 0 then
        some (.inl (some (4, 0)), h1)
      else
        some (.inl (some (4, x1)), h1))
      (fun q3 h1 => tx_ q3 h1)
  else
    some (.inl (some (4, 0)), h) := by
  rw [fj_run_eq d (by decide) h [(4, x0), (4, x1), (4, x2), (4, x3)] (Nat.le_of_ble_eq_true (by rw [nl_282]; rfl))]
  show gG (fj_run d) 282 0 [(0, (4, x0)), (1, (4, x1)), (2, (4, x2)), (3, (4, x3))] [] h = _
  exact
    have D : fk_D 282 [(0, none, .aload_n 1, 1, 0, 0, 0), (1, none, .aload_n 2, 1, 0, 0, 0), (2, none, .if_acmp .ne 14, 3, 16, 0, 0), (5, none, .aload_n 1, 1, 0, 0, 0), (6, none, .invokevirtual 7, 3, 0, 325, 1), (9, none, .ifCond .eq 7, 3, 16, 0, 0), (12, none, .aload_n 1, 1, 0, 0, 0), (13, none, .goto 4, 3, 17, 0, 0)] := fq_of2 cd_282 ow_282 cl_282 rfl (pc := 0) (by decide +kernel)
    j_aldn (pc := 0) D rfl rfl rfl fun D =>
    j_aldn (pc := 1) D rfl rfl rfl fun D =>
    j_ane (pc := 2) D rfl (fun q D =>
      j_aldn (pc := 5) D rfl rfl rfl fun D =>
      j_ivu (pc := 6) (dd := 325) (a := []) (rest := []) H.2.1 D rfl rfl rfl rfl rfl (fun m4 v2 h1 e1 D =>
        have T := fj_run_ok _ _ _ _ _ _ H.1 e1
        have hk := cls_st H.1 T.2 hk hk0
        have H := shp_st H T
        j_ifeq (pc := 9) D rfl (fun q =>
          have D : fk_D 282 [(16, none, .aconst_null, 1, 0, 0, 0), (17, none, .areturn, 1, 0, 0, 0)] := fq_of2 cd_282 ow_282 cl_282 rfl (pc := 16) (by decide +kernel)
          j_c0 (pc := 16) (v := (4, 0)) D rfl rfl (by decide +kernel) fun D =>
          j_aret D rt_282) (fun q D =>
          j_aldn (pc := 12) D rfl rfl rfl fun D =>
          j_goto (pc := 13) D rfl <|
          have D : fk_D 282 [(17, none, .areturn, 1, 0, 0, 0)] := fq_of2 cd_282 ow_282 cl_282 rfl (pc := 17) (by decide +kernel)
          j_aret D rt_282)) (fun m4 q3 h1 e1 =>
        j_tx (hx_282 _))) (fun q =>
      have D : fk_D 282 [(16, none, .aconst_null, 1, 0, 0, 0), (17, none, .areturn, 1, 0, 0, 0)] := fq_of2 cd_282 ow_282 cl_282 rfl (pc := 16) (by decide +kernel)
      j_c0 (pc := 16) (v := (4, 0)) D rfl rfl (by decide +kernel) fun D =>
      j_aret D rt_282)
/-! 283 StatuteHouse$Function$6.gives(LStatuteHouse$Kind;LStatuteHouse$Kind;LStatuteHouse$Kind;)LStatuteHouse$Kind; -/
theorem cd_283 : fi_code 283 = prog_33_method_2_code := rfl
theorem hx_283 : ∀ pc, fi_hat 283 pc = none := fun pc => by unfold fi_hat; rw [show fi_hh 283 = [] from rfl]; rfl
theorem rt_283 : fj_ft (fi_ret 283) = 5 := rfl
theorem nl_283 : fi_nl 283 = 4 := rfl
theorem ow_283 : fi_ow 283 = 55 := rfl
theorem cl_283 : fj_cutT.getD 283 [] = [] := rfl
theorem m_283 (d : Nat) (x0 x1 x2 x3 : Int) {h : fi_H} {k0 : Int} (H : Shp h) (hk : h 0 x0.toNat 0 = k0) (hk0 : k0 ≠ 0) : fj_run (d + 1) 283 h [(4, x0), (4, x1), (4, x2), (4, x3)] =
  if x1 = x2 then
    dv_ (fi_vt 325 (h 0 x1.toNat 0)) fun m4 => ca_ (fj_run d m4 h [(4, x1)]) 0
      (fun v2 h1 =>
      if v2 = 0 then
        some (.inl (some (4, 0)), h1)
      else
        some (.inl (some (4, x1)), h1))
      (fun q3 h1 => tx_ q3 h1)
  else
    some (.inl (some (4, 0)), h) := by
  rw [fj_run_eq d (by decide) h [(4, x0), (4, x1), (4, x2), (4, x3)] (Nat.le_of_ble_eq_true (by rw [nl_283]; rfl))]
  show gG (fj_run d) 283 0 [(0, (4, x0)), (1, (4, x1)), (2, (4, x2)), (3, (4, x3))] [] h = _
  exact
    have D : fk_D 283 [(0, none, .aload_n 1, 1, 0, 0, 0), (1, none, .aload_n 2, 1, 0, 0, 0), (2, none, .if_acmp .ne 14, 3, 16, 0, 0), (5, none, .aload_n 1, 1, 0, 0, 0), (6, none, .invokevirtual 7, 3, 0, 325, 1), (9, none, .ifCond .eq 7, 3, 16, 0, 0), (12, none, .aload_n 1, 1, 0, 0, 0), (13, none, .goto 4, 3, 17, 0, 0)] := fq_of2 cd_283 ow_283 cl_283 rfl (pc := 0) (by decide +kernel)
    j_aldn (pc := 0) D rfl rfl rfl fun D =>
    j_aldn (pc := 1) D rfl rfl rfl fun D =>
    j_ane (pc := 2) D rfl (fun q D =>
      j_aldn (pc := 5) D rfl rfl rfl fun D =>
      j_ivu (pc := 6) (dd := 325) (a := []) (rest := []) H.2.1 D rfl rfl rfl rfl rfl (fun m4 v2 h1 e1 D =>
        have T := fj_run_ok _ _ _ _ _ _ H.1 e1
        have hk := cls_st H.1 T.2 hk hk0
        have H := shp_st H T
        j_ifeq (pc := 9) D rfl (fun q =>
          have D : fk_D 283 [(16, none, .aconst_null, 1, 0, 0, 0), (17, none, .areturn, 1, 0, 0, 0)] := fq_of2 cd_283 ow_283 cl_283 rfl (pc := 16) (by decide +kernel)
          j_c0 (pc := 16) (v := (4, 0)) D rfl rfl (by decide +kernel) fun D =>
          j_aret D rt_283) (fun q D =>
          j_aldn (pc := 12) D rfl rfl rfl fun D =>
          j_goto (pc := 13) D rfl <|
          have D : fk_D 283 [(17, none, .areturn, 1, 0, 0, 0)] := fq_of2 cd_283 ow_283 cl_283 rfl (pc := 17) (by decide +kernel)
          j_aret D rt_283)) (fun m4 q3 h1 e1 =>
        j_tx (hx_283 _))) (fun q =>
      have D : fk_D 283 [(16, none, .aconst_null, 1, 0, 0, 0), (17, none, .areturn, 1, 0, 0, 0)] := fq_of2 cd_283 ow_283 cl_283 rfl (pc := 16) (by decide +kernel)
      j_c0 (pc := 16) (v := (4, 0)) D rfl rfl (by decide +kernel) fun D =>
      j_aret D rt_283)
/-! 284 StatuteHouse$Function$7.gives(LStatuteHouse$Kind;LStatuteHouse$Kind;LStatuteHouse$Kind;)LStatuteHouse$Kind; -/
theorem cd_284 : fi_code 284 = prog_34_method_2_code := rfl
theorem hx_284 : ∀ pc, fi_hat 284 pc = none := fun pc => by unfold fi_hat; rw [show fi_hh 284 = [] from rfl]; rfl
theorem rt_284 : fj_ft (fi_ret 284) = 5 := rfl
theorem nl_284 : fi_nl 284 = 4 := rfl
theorem ow_284 : fi_ow 284 = 56 := rfl
theorem cl_284 : fj_cutT.getD 284 [] = [] := rfl
theorem m_284 (d : Nat) (x0 x1 x2 x3 : Int) {h : fi_H} {k0 : Int} (H : Shp h) (hk : h 0 x0.toNat 0 = k0) (hk0 : k0 ≠ 0) : fj_run (d + 1) 284 h [(4, x0), (4, x1), (4, x2), (4, x3)] =
  ca_ (fj_run d 263 h [(4, x1), (4, x2)]) 4
    (fun v2 h1 =>
    some (.inl (some (4, v2)), h1))
    (fun q3 h1 => tx_ q3 h1) := by
  rw [fj_run_eq d (by decide) h [(4, x0), (4, x1), (4, x2), (4, x3)] (Nat.le_of_ble_eq_true (by rw [nl_284]; rfl))]
  show gG (fj_run d) 284 0 [(0, (4, x0)), (1, (4, x1)), (2, (4, x2)), (3, (4, x3))] [] h = _
  exact
    have D : fk_D 284 [(0, none, .aload_n 1, 1, 0, 0, 0), (1, none, .aload_n 2, 1, 0, 0, 0), (2, none, .invokestatic 7, 3, 2, 263, 5), (5, none, .areturn, 1, 0, 0, 0)] := fq_of2 cd_284 ow_284 cl_284 rfl (pc := 0) (by decide +kernel)
    j_aldn (pc := 0) D rfl rfl rfl fun D =>
    j_aldn (pc := 1) D rfl rfl rfl fun D =>
    j_is (pc := 2) (m := 263) (a := [(4, x1), (4, x2)]) (rest := []) D rfl rfl rfl rfl (fun v2 h1 e1 D =>
      have T := fj_run_ok _ _ _ _ _ _ H.1 e1
      have hk := cls_st H.1 T.2 hk hk0
      have H := shp_st H T
      j_aret D rt_284) (fun q3 h1 e1 =>
      j_tx (hx_284 _))
/-! 285 StatuteHouse$Function$8.gives(LStatuteHouse$Kind;LStatuteHouse$Kind;LStatuteHouse$Kind;)LStatuteHouse$Kind; -/
theorem cd_285 : fi_code 285 = prog_35_method_2_code := rfl
theorem hx_285 : ∀ pc, fi_hat 285 pc = none := fun pc => by unfold fi_hat; rw [show fi_hh 285 = [] from rfl]; rfl
theorem rt_285 : fj_ft (fi_ret 285) = 5 := rfl
theorem nl_285 : fi_nl 285 = 4 := rfl
theorem ow_285 : fi_ow 285 = 57 := rfl
theorem cl_285 : fj_cutT.getD 285 [] = [] := rfl
theorem m_285 (d : Nat) (x0 x1 x2 x3 : Int) {h : fi_H} {k0 : Int} (H : Shp h) (hk : h 0 x0.toNat 0 = k0) (hk0 : k0 ≠ 0) : fj_run (d + 1) 285 h [(4, x0), (4, x1), (4, x2), (4, x3)] =
  ca_ (fj_run d 263 h [(4, x1), (4, x2)]) 4
    (fun v2 h1 =>
    some (.inl (some (4, v2)), h1))
    (fun q3 h1 => tx_ q3 h1) := by
  rw [fj_run_eq d (by decide) h [(4, x0), (4, x1), (4, x2), (4, x3)] (Nat.le_of_ble_eq_true (by rw [nl_285]; rfl))]
  show gG (fj_run d) 285 0 [(0, (4, x0)), (1, (4, x1)), (2, (4, x2)), (3, (4, x3))] [] h = _
  exact
    have D : fk_D 285 [(0, none, .aload_n 1, 1, 0, 0, 0), (1, none, .aload_n 2, 1, 0, 0, 0), (2, none, .invokestatic 7, 3, 2, 263, 5), (5, none, .areturn, 1, 0, 0, 0)] := fq_of2 cd_285 ow_285 cl_285 rfl (pc := 0) (by decide +kernel)
    j_aldn (pc := 0) D rfl rfl rfl fun D =>
    j_aldn (pc := 1) D rfl rfl rfl fun D =>
    j_is (pc := 2) (m := 263) (a := [(4, x1), (4, x2)]) (rest := []) D rfl rfl rfl rfl (fun v2 h1 e1 D =>
      have T := fj_run_ok _ _ _ _ _ _ H.1 e1
      have hk := cls_st H.1 T.2 hk hk0
      have H := shp_st H T
      j_aret D rt_285) (fun q3 h1 e1 =>
      j_tx (hx_285 _))
/-! 286 StatuteHouse$Function$9.gives(LStatuteHouse$Kind;LStatuteHouse$Kind;LStatuteHouse$Kind;)LStatuteHouse$Kind; -/
theorem cd_286 : fi_code 286 = prog_36_method_2_code := rfl
theorem hx_286 : ∀ pc, fi_hat 286 pc = none := fun pc => by unfold fi_hat; rw [show fi_hh 286 = [] from rfl]; rfl
theorem rt_286 : fj_ft (fi_ret 286) = 5 := rfl
theorem nl_286 : fi_nl 286 = 4 := rfl
theorem ow_286 : fi_ow 286 = 58 := rfl
theorem cl_286 : fj_cutT.getD 286 [] = [] := rfl
theorem m_286 (d : Nat) (x0 x1 x2 x3 : Int) {h : fi_H} {k0 : Int} (H : Shp h) (hk : h 0 x0.toNat 0 = k0) (hk0 : k0 ≠ 0) : fj_run (d + 1) 286 h [(4, x0), (4, x1), (4, x2), (4, x3)] =
  ca_ (fj_run d 263 h [(4, x1), (4, x2)]) 4
    (fun v2 h1 =>
    some (.inl (some (4, v2)), h1))
    (fun q3 h1 => tx_ q3 h1) := by
  rw [fj_run_eq d (by decide) h [(4, x0), (4, x1), (4, x2), (4, x3)] (Nat.le_of_ble_eq_true (by rw [nl_286]; rfl))]
  show gG (fj_run d) 286 0 [(0, (4, x0)), (1, (4, x1)), (2, (4, x2)), (3, (4, x3))] [] h = _
  exact
    have D : fk_D 286 [(0, none, .aload_n 1, 1, 0, 0, 0), (1, none, .aload_n 2, 1, 0, 0, 0), (2, none, .invokestatic 7, 3, 2, 263, 5), (5, none, .areturn, 1, 0, 0, 0)] := fq_of2 cd_286 ow_286 cl_286 rfl (pc := 0) (by decide +kernel)
    j_aldn (pc := 0) D rfl rfl rfl fun D =>
    j_aldn (pc := 1) D rfl rfl rfl fun D =>
    j_is (pc := 2) (m := 263) (a := [(4, x1), (4, x2)]) (rest := []) D rfl rfl rfl rfl (fun v2 h1 e1 D =>
      have T := fj_run_ok _ _ _ _ _ _ H.1 e1
      have hk := cls_st H.1 T.2 hk hk0
      have H := shp_st H T
      j_aret D rt_286) (fun q3 h1 e1 =>
      j_tx (hx_286 _))
/-! 287 StatuteHouse$Call.<init>(LStatuteHouse;LStatuteHouse$Function;[LStatuteHouse$Part;I)V -/
theorem cd_287 : fi_code 287 = prog_4_method_1_code := rfl
theorem hx_287 : ∀ pc, fi_hat 287 pc = none := fun pc => by unfold fi_hat; rw [show fi_hh 287 = [] from rfl]; rfl
theorem rt_287 : fi_ret 287 = none := rfl
theorem nl_287 : fi_nl 287 = 5 := rfl
theorem ow_287 : fi_ow 287 = 2 := rfl
theorem cl_287 : fj_cutT.getD 287 [] = [] := rfl
theorem m_287 (d : Nat) (x0 x1 x2 x3 x4 : Int) {h : fi_H} (H : Shp h) (hk : h 0 x0.toNat 0 = 102) : fj_run (d + 1) 287 h [(4, x0), (4, x1), (4, x2), (4, x3), (0, x4)] =
  if 302 < x0 then
  if h 363 x0.toNat 0 = 0 then
  lt_ (fi_upd h 363 x0.toNat 0 x1) fun h1 =>
  dv_ (fi_vt 210 (h1 0 x2.toNat 0)) fun m5 => ca_ (fj_run d m5 h1 [(4, x2), (4, x3)]) 4
    (fun v3 h2 =>
    cv_ (fj_run d 245 h2 [(4, x0), (4, x1), (4, v3), (0, x4)])
      (fun h6 =>
      if 302 < x0 then
      if h6 361 x0.toNat 0 = 0 then
      lt_ (fi_upd h6 361 x0.toNat 0 x2) fun h9 =>
      if 302 < x0 then
      if h9 362 x0.toNat 0 = 0 then
      lt_ (fi_upd h9 362 x0.toNat 0 x3) fun h10 =>
      some (.inl none, h10)
      else none
      else none
      else none
      else none)
      (fun q8 h6 => tx_ q8 h6))
    (fun q4 h2 => tx_ q4 h2)
  else none
  else none := by
  rw [fj_run_eq d (by decide) h [(4, x0), (4, x1), (4, x2), (4, x3), (0, x4)] (Nat.le_of_ble_eq_true (by rw [nl_287]; rfl))]
  show gG (fj_run d) 287 0 [(0, (4, x0)), (1, (4, x1)), (2, (4, x2)), (3, (4, x3)), (4, (0, x4))] [] h = _
  exact
    have D : fk_D 287 [(0, none, .aload_n 0, 1, 0, 0, 0), (1, none, .aload_n 1, 1, 0, 0, 0), (2, none, .putfield 1, 3, 363, 102, 112), (5, none, .aload_n 0, 1, 0, 0, 0), (6, none, .aload_n 1, 1, 0, 0, 0), (7, none, .aload_n 2, 1, 0, 0, 0), (8, none, .aload_n 3, 1, 0, 0, 0), (9, none, .invokevirtual 7, 3, 1, 210, 5), (12, none, .iload 4, 2, 0, 0, 0), (14, none, .invokespecial 13, 3, 3, 245, 0), (17, none, .aload_n 0, 1, 0, 0, 0), (18, none, .aload_n 2, 1, 0, 0, 0), (19, none, .putfield 19, 3, 361, 102, 112), (22, none, .aload_n 0, 1, 0, 0, 0), (23, none, .aload_n 3, 1, 0, 0, 0), (24, none, .putfield 23, 3, 362, 102, 112), (27, none, .return_, 1, 0, 0, 0)] := fq_of2 cd_287 ow_287 cl_287 rfl (pc := 0) (by decide +kernel)
    j_aldn (pc := 0) D rfl rfl rfl fun D =>
    j_aldn (pc := 1) D rfl rfl rfl fun D =>
    j_pfF (pc := 2) (a := x0.toNat) (ty := 12) D rfl rfl rfl hk ⟨rfl, rfl⟩ rfl gn (gy rfl) gn fun h1 eh1 S D =>
    have T := fj_hs_ok H.1 S
    have hk := cls_st H.1 T.2 hk (by decide)
    have H := shp_st H T
    j_aldn (pc := 5) D rfl rfl rfl fun D =>
    j_aldn (pc := 6) D rfl rfl rfl fun D =>
    j_aldn (pc := 7) D rfl rfl rfl fun D =>
    j_aldn (pc := 8) D rfl rfl rfl fun D =>
    j_ivu (pc := 9) (dd := 210) (a := [(4, x3)]) (rest := [(4, x1), (4, x0)]) H.2.1 D rfl rfl rfl rfl rfl (fun m5 v3 h2 e1 D =>
      have T := fj_run_ok _ _ _ _ _ _ H.1 e1
      have hk := cls_st H.1 T.2 hk (by decide)
      have H := shp_st H T
      j_ild (pc := 12) D rfl rfl rfl fun D =>
      j_spv (pc := 14) (m := 245) (a := [(4, x1), (4, v3), (0, x4)]) (rest := []) D rfl rfl rfl rfl (by rw [show h2 0 x0.toNat 0 = 102 from hk]; decide) (nz_cls H.2.1 hk (by decide)) (fun h6 e1 D =>
        have T := fj_run_ok _ _ _ _ _ _ H.1 e1
        have hk := cls_st H.1 T.2 hk (by decide)
        have H := shp_st H T
        j_aldn (pc := 17) D rfl rfl rfl fun D =>
        j_aldn (pc := 18) D rfl rfl rfl fun D =>
        j_pfF (pc := 19) (a := x0.toNat) (ty := 12) D rfl rfl rfl hk ⟨rfl, rfl⟩ rfl gn (gy rfl) gn fun h9 eh9 S D =>
        have T := fj_hs_ok H.1 S
        have hk := cls_st H.1 T.2 hk (by decide)
        have H := shp_st H T
        j_aldn (pc := 22) D rfl rfl rfl fun D =>
        j_aldn (pc := 23) D rfl rfl rfl fun D =>
        j_pfF (pc := 24) (a := x0.toNat) (ty := 12) D rfl rfl rfl hk ⟨rfl, rfl⟩ rfl gn (gy rfl) gn fun h10 eh10 S D =>
        have T := fj_hs_ok H.1 S
        have hk := cls_st H.1 T.2 hk (by decide)
        have H := shp_st H T
        j_vret D rt_287) (fun q8 h6 e1 =>
        j_tx (hx_287 _))) (fun m5 q4 h2 e1 =>
      j_tx (hx_287 _))
/-! 288 StatuteHouse$TermPart.<init>(LStatuteHouse;I)V -/
theorem cd_288 : fi_code 288 = prog_62_method_1_code := rfl
theorem hx_288 : ∀ pc, fi_hat 288 pc = none := fun pc => by unfold fi_hat; rw [show fi_hh 288 = [] from rfl]; rfl
theorem rt_288 : fi_ret 288 = none := rfl
theorem nl_288 : fi_nl 288 = 3 := rfl
theorem ow_288 : fi_ow 288 = 23 := rfl
theorem cl_288 : fj_cutT.getD 288 [] = [] := rfl
theorem m_288 (d : Nat) (x0 x1 x2 : Int) {h : fi_H} (H : Shp h) (hk : h 0 x0.toNat 0 = 123) : fj_run (d + 1) 288 h [(4, x0), (4, x1), (0, x2)] =
  if 302 < x0 then
  if h 364 x0.toNat 0 = 0 then
  lt_ (fi_upd h 364 x0.toNat 0 x1) fun h1 =>
  if h1 0 x1.toNat 0 = 100 then
  if (20 ≤ h1 0 (h1 214 x1.toNat 0).toNat 0 ∧ h1 0 (h1 214 x1.toNat 0).toNat 0 < 30) ∧ 0 ≤ x2 ∧ x2 < h1 1 (h1 214 x1.toNat 0).toNat 0 then
  if h1 0 (h1 12 (h1 214 x1.toNat 0).toNat x2.toNat).toNat 0 = 124 then
  cv_ (fj_run d 250 h1 [(4, x0), (4, x1), (4, h1 324 (h1 12 (h1 214 x1.toNat 0).toNat x2.toNat).toNat 0), (0, x2)])
    (fun h4 =>
    some (.inl none, h4))
    (fun q6 h4 => tx_ q6 h4)
  else none
  else none
  else none
  else none
  else none := by
  rw [fj_run_eq d (by decide) h [(4, x0), (4, x1), (0, x2)] (Nat.le_of_ble_eq_true (by rw [nl_288]; rfl))]
  show gG (fj_run d) 288 0 [(0, (4, x0)), (1, (4, x1)), (2, (0, x2))] [] h = _
  exact
    have D : fk_D 288 [(0, none, .aload_n 0, 1, 0, 0, 0), (1, none, .aload_n 1, 1, 0, 0, 0), (2, none, .putfield 1, 3, 364, 123, 112), (5, none, .aload_n 0, 1, 0, 0, 0), (6, none, .aload_n 1, 1, 0, 0, 0), (7, none, .aload_n 1, 1, 0, 0, 0), (8, none, .getfield 7, 3, 214, (-100), 12), (11, none, .iload_n 2, 1, 0, 0, 0), (12, none, .aaload, 1, 0, 0, 0), (13, none, .getfield 13, 3, 324, (-124), 12), (16, none, .iload_n 2, 1, 0, 0, 0), (17, none, .invokespecial 19, 3, 3, 250, 0), (20, none, .return_, 1, 0, 0, 0)] := fq_of2 cd_288 ow_288 cl_288 rfl (pc := 0) (by decide +kernel)
    j_aldn (pc := 0) D rfl rfl rfl fun D =>
    j_aldn (pc := 1) D rfl rfl rfl fun D =>
    j_pfF (pc := 2) (a := x0.toNat) (ty := 12) D rfl rfl rfl hk ⟨rfl, rfl⟩ rfl gn (gy rfl) gn fun h1 eh1 S D =>
    have T := fj_hs_ok H.1 S
    have hk := cls_st H.1 T.2 hk (by decide)
    have H := shp_st H T
    j_aldn (pc := 5) D rfl rfl rfl fun D =>
    j_aldn (pc := 6) D rfl rfl rfl fun D =>
    j_aldn (pc := 7) D rfl rfl rfl fun D =>
    j_gfo (pc := 8) H.2.1 D rfl rfl rfl rfl fun kc2 D =>
    j_ildn (pc := 11) D rfl rfl rfl fun D =>
    j_alr (pc := 12) H.2.1 D rfl rfl fun q q2 D =>
    j_gfo (pc := 13) H.2.1 D rfl rfl rfl rfl fun kc3 D =>
    j_ildn (pc := 16) D rfl rfl rfl fun D =>
    j_spv (pc := 17) (m := 250) (a := [(4, x1), (4, h1 324 (h1 12 (h1 214 x1.toNat 0).toNat x2.toNat).toNat 0), (0, x2)]) (rest := []) D rfl rfl rfl rfl (by rw [show h1 0 x0.toNat 0 = 123 from hk]; decide) (nz_cls H.2.1 hk (by decide)) (fun h4 e1 D =>
      have T := fj_run_ok _ _ _ _ _ _ H.1 e1
      have hk := cls_st H.1 T.2 hk (by decide)
      have kc2 := cls_st H.1 T.2 kc2 (by decide)
      have H := shp_st H T
      j_vret D rt_288) (fun q6 h4 e1 =>
      j_tx (hx_288 _))
/-! 289 StatuteHouse$FactPart.<init>(LStatuteHouse;I)V -/
theorem cd_289 : fi_code 289 = prog_8_method_1_code := rfl
theorem hx_289 : ∀ pc, fi_hat 289 pc = none := fun pc => by unfold fi_hat; rw [show fi_hh 289 = [] from rfl]; rfl
theorem rt_289 : fi_ret 289 = none := rfl
theorem nl_289 : fi_nl 289 = 3 := rfl
theorem ow_289 : fi_ow 289 = 6 := rfl
theorem cl_289 : fj_cutT.getD 289 [] = [] := rfl
theorem m_289 (d : Nat) (x0 x1 x2 : Int) {h : fi_H} (H : Shp h) (hk : h 0 x0.toNat 0 = 106) : fj_run (d + 1) 289 h [(4, x0), (4, x1), (0, x2)] =
  if 302 < x0 then
  if h 365 x0.toNat 0 = 0 then
  lt_ (fi_upd h 365 x0.toNat 0 x1) fun h1 =>
  if h1 0 x1.toNat 0 = 100 then
  if (20 ≤ h1 0 (h1 214 x1.toNat 0).toNat 0 ∧ h1 0 (h1 214 x1.toNat 0).toNat 0 < 30) ∧ 0 ≤ x2 ∧ x2 < h1 1 (h1 214 x1.toNat 0).toNat 0 then
  if h1 0 (h1 12 (h1 214 x1.toNat 0).toNat x2.toNat).toNat 0 = 124 then
  cv_ (fj_run d 250 h1 [(4, x0), (4, x1), (4, h1 324 (h1 12 (h1 214 x1.toNat 0).toNat x2.toNat).toNat 0), (0, x2)])
    (fun h4 =>
    some (.inl none, h4))
    (fun q6 h4 => tx_ q6 h4)
  else none
  else none
  else none
  else none
  else none := by
  rw [fj_run_eq d (by decide) h [(4, x0), (4, x1), (0, x2)] (Nat.le_of_ble_eq_true (by rw [nl_289]; rfl))]
  show gG (fj_run d) 289 0 [(0, (4, x0)), (1, (4, x1)), (2, (0, x2))] [] h = _
  exact
    have D : fk_D 289 [(0, none, .aload_n 0, 1, 0, 0, 0), (1, none, .aload_n 1, 1, 0, 0, 0), (2, none, .putfield 1, 3, 365, 106, 112), (5, none, .aload_n 0, 1, 0, 0, 0), (6, none, .aload_n 1, 1, 0, 0, 0), (7, none, .aload_n 1, 1, 0, 0, 0), (8, none, .getfield 7, 3, 214, (-100), 12), (11, none, .iload_n 2, 1, 0, 0, 0), (12, none, .aaload, 1, 0, 0, 0), (13, none, .getfield 13, 3, 324, (-124), 12), (16, none, .iload_n 2, 1, 0, 0, 0), (17, none, .invokespecial 19, 3, 3, 250, 0), (20, none, .return_, 1, 0, 0, 0)] := fq_of2 cd_289 ow_289 cl_289 rfl (pc := 0) (by decide +kernel)
    j_aldn (pc := 0) D rfl rfl rfl fun D =>
    j_aldn (pc := 1) D rfl rfl rfl fun D =>
    j_pfF (pc := 2) (a := x0.toNat) (ty := 12) D rfl rfl rfl hk ⟨rfl, rfl⟩ rfl gn (gy rfl) gn fun h1 eh1 S D =>
    have T := fj_hs_ok H.1 S
    have hk := cls_st H.1 T.2 hk (by decide)
    have H := shp_st H T
    j_aldn (pc := 5) D rfl rfl rfl fun D =>
    j_aldn (pc := 6) D rfl rfl rfl fun D =>
    j_aldn (pc := 7) D rfl rfl rfl fun D =>
    j_gfo (pc := 8) H.2.1 D rfl rfl rfl rfl fun kc2 D =>
    j_ildn (pc := 11) D rfl rfl rfl fun D =>
    j_alr (pc := 12) H.2.1 D rfl rfl fun q q2 D =>
    j_gfo (pc := 13) H.2.1 D rfl rfl rfl rfl fun kc3 D =>
    j_ildn (pc := 16) D rfl rfl rfl fun D =>
    j_spv (pc := 17) (m := 250) (a := [(4, x1), (4, h1 324 (h1 12 (h1 214 x1.toNat 0).toNat x2.toNat).toNat 0), (0, x2)]) (rest := []) D rfl rfl rfl rfl (by rw [show h1 0 x0.toNat 0 = 106 from hk]; decide) (nz_cls H.2.1 hk (by decide)) (fun h4 e1 D =>
      have T := fj_run_ok _ _ _ _ _ _ H.1 e1
      have hk := cls_st H.1 T.2 hk (by decide)
      have kc2 := cls_st H.1 T.2 kc2 (by decide)
      have H := shp_st H T
      j_vret D rt_289) (fun q6 h4 e1 =>
      j_tx (hx_289 _))
/-! 290 StatuteHouse$Reader.two(LStatuteHouse$Sign;LStatuteHouse$Part;LStatuteHouse$Part;I)LStatuteHouse$Part; -/
theorem cd_290 : fi_code 290 = prog_53_method_64_code := rfl
theorem hx_290 : ∀ pc, fi_hat 290 pc = none := fun pc => by unfold fi_hat; rw [show fi_hh 290 = [] from rfl]; rfl
theorem rt_290 : fj_ft (fi_ret 290) = 5 := rfl
theorem nl_290 : fi_nl 290 = 5 := rfl
theorem ow_290 : fi_ow 290 = 15 := rfl
theorem cl_290 : fj_cutT.getD 290 [] = [] := rfl
theorem m_290 (d : Nat) (x1 x2 x3 x4 : Int) {h : fi_H} (H : Shp h) : fj_run (d + 1) 290 h [(4, 377), (4, x1), (4, x2), (4, x3), (0, x4)] =
  if fi_in (h 0 x2.toNat 0) 340 = true then
  if fi_in (h 0 x3.toNat 0) 340 = true then
  dv_ (fi_vt 233 (h 0 x1.toNat 0)) fun m4 => ca_ (fj_run d m4 h [(4, x1), (4, h 340 x2.toNat 0), (4, h 340 x3.toNat 0)]) 4
    (fun v2 h1 =>
    if v2 = 0 then
      ca_ (fj_run d 165 h1 [(4, 303), (0, 5), (0, x4)]) 4
        (fun v6 h5 =>
        if v6 ≠ 0 then
        tx_ v6.toNat h5
        else none)
        (fun q7 h5 => tx_ q7 h5)
    else
      if fi_in (h1 0 x2.toNat 0) 341 = true then
      if fi_in (h1 0 x3.toNat 0) 341 = true then
      ca_ (fj_run d 6 h1 [(0, h1 341 x2.toNat 0), (0, h1 341 x3.toNat 0)]) 0
        (fun v9 h8 =>
        cv_ (fj_run d 243 h8 [(4, 377), (0, wI (v9 + 1)), (0, x4)])
          (fun h11 =>
          nw_ h11 125 8 0 fun r14 h15 =>
          cv_ (fj_run d 294 h15 [(4, r14), (4, 303), (4, x1), (4, x2), (4, x3)])
            (fun h16 =>
            some (.inl (some (4, r14)), h16))
            (fun q18 h16 => tx_ q18 h16))
          (fun q13 h11 => tx_ q13 h11))
        (fun q10 h8 => tx_ q10 h8)
      else none
      else none)
    (fun q3 h1 => tx_ q3 h1)
  else none
  else none := by
  rw [fj_run_eq d (by decide) h [(4, 377), (4, x1), (4, x2), (4, x3), (0, x4)] (Nat.le_of_ble_eq_true (by rw [nl_290]; rfl))]
  show gG (fj_run d) 290 0 [(0, (4, 377)), (1, (4, x1)), (2, (4, x2)), (3, (4, x3)), (4, (0, x4))] [] h = _
  exact
    have D : fk_D 290 [(0, none, .aload_n 1, 1, 0, 0, 0), (1, none, .aload_n 2, 1, 0, 0, 0), (2, none, .getfield 691, 3, 340, 0, 12), (5, none, .aload_n 3, 1, 0, 0, 0), (6, none, .getfield 691, 3, 340, 0, 12), (9, none, .invokevirtual 730, 3, 2, 233, 5), (12, none, .ifnonnull 14, 3, 26, 0, 0), (15, none, .aload_n 0, 1, 0, 0, 0), (16, none, .getfield 3, 3, 182, 115, 12), (19, none, .iconst 5, 1, 0, 5, 0), (20, none, .iload 4, 2, 0, 0, 0), (22, none, .invokevirtual 186, 3, 2, 257, 5), (25, none, .athrow, 1, 0, 0, 0)] := fq_of2 cd_290 ow_290 cl_290 rfl (pc := 0) (by decide +kernel)
    j_aldn (pc := 0) D rfl rfl rfl fun D =>
    j_aldn (pc := 1) D rfl rfl rfl fun D =>
    j_gfu (pc := 2) H.2.1 D rfl rfl fun q D =>
    j_aldn (pc := 5) D rfl rfl rfl fun D =>
    j_gfu (pc := 6) H.2.1 D rfl rfl fun q D =>
    j_ivu (pc := 9) (dd := 233) (a := [(4, h 340 x2.toNat 0), (4, h 340 x3.toNat 0)]) (rest := []) H.2.1 D rfl rfl rfl rfl rfl (fun m4 v2 h1 e1 D =>
      have T := fj_run_ok _ _ _ _ _ _ H.1 e1
      have H := shp_st H T
      j_nonnull (pc := 12) D rfl (fun q D =>
        j_aldn (pc := 15) D rfl rfl rfl fun D =>
        j_gfc (pc := 16) (a := 377) D rfl rfl (by decide) rfl (s0_377 H) rfl (sf_182_377 H) fun D =>
        j_ic (pc := 19) D rfl fun D =>
        j_ild (pc := 20) D rfl rfl rfl fun D =>
        j_iv (pc := 22) (m := 165) (dd := 257) (a := [(0, 5), (0, x4)]) (rest := []) D rfl rfl rfl rfl rfl (by decide) (s0_303 H) (by decide +kernel) (fun v6 h5 e1 D =>
          have T := fj_run_ok _ _ _ _ _ _ H.1 e1
          have H := shp_st H T
          j_at (pc := 25) D gn <|
          j_tx (hx_290 _)) (fun q7 h5 e1 =>
          j_tx (hx_290 _))) (fun q =>
        have D : fk_D 290 [(26, none, .aload_n 0, 1, 0, 0, 0), (27, none, .aload_n 2, 1, 0, 0, 0), (28, none, .getfield 734, 3, 341, 0, 10), (31, none, .aload_n 3, 1, 0, 0, 0), (32, none, .getfield 734, 3, 341, 0, 10), (35, none, .invokestatic 737, 3, 2, 6, 1), (38, none, .iconst 1, 1, 0, 1, 0), (39, none, .iadd, 1, 0, 0, 0), (40, none, .iload 4, 2, 0, 0, 0), (42, none, .invokevirtual 740, 3, 2, 310, 0), (45, none, .new 743, 3, 125, 8, 0), (48, none, .dup, 1, 0, 0, 0), (49, none, .aload_n 0, 1, 0, 0, 0), (50, none, .getfield 3, 3, 182, 115, 12), (53, none, .aload_n 1, 1, 0, 0, 0), (54, none, .aload_n 2, 1, 0, 0, 0), (55, none, .aload_n 3, 1, 0, 0, 0), (56, none, .invokespecial 745, 3, 4, 294, 0), (59, none, .areturn, 1, 0, 0, 0)] := fq_of2 cd_290 ow_290 cl_290 rfl (pc := 26) (by decide +kernel)
        j_aldn (pc := 26) D rfl rfl rfl fun D =>
        j_aldn (pc := 27) D rfl rfl rfl fun D =>
        j_gfu (pc := 28) H.2.1 D rfl rfl fun q D =>
        j_aldn (pc := 31) D rfl rfl rfl fun D =>
        j_gfu (pc := 32) H.2.1 D rfl rfl fun q D =>
        j_is (pc := 35) (m := 6) (a := [(0, h1 341 x2.toNat 0), (0, h1 341 x3.toNat 0)]) (rest := [(4, 377)]) D rfl rfl rfl rfl (fun v9 h8 e1 D =>
          have T := fj_run_ok _ _ _ _ _ _ H.1 e1
          have H := shp_st H T
          j_ic (pc := 38) D rfl fun D =>
          j_iadd (pc := 39) D rfl fun D =>
          j_ild (pc := 40) D rfl rfl rfl fun D =>
          j_ivv (pc := 42) (m := 243) (dd := 310) (a := [(0, wI (v9 + 1)), (0, x4)]) (rest := []) D rfl rfl rfl rfl rfl (by decide) (s0_377 H) (by decide +kernel) (fun h11 e1 D =>
            have T := fj_run_ok _ _ _ _ _ _ H.1 e1
            have H := shp_st H T
            j_new (pc := 45) D rfl fun r14 h15 er eh15 S D =>
            have gt_r14 := nw_gt H.1 er
            have kc_r14 := nw_cls H.1 er eh15
            have T := fj_hs_ok H.1 S
            have H := shp_st H T
            j_sh (pc := 48) D rfl rfl rfl fun D =>
            j_aldn (pc := 49) D rfl rfl rfl fun D =>
            j_gfc (pc := 50) (a := 377) D rfl rfl (by decide) rfl (s0_377 H) rfl (sf_182_377 H) fun D =>
            j_aldn (pc := 53) D rfl rfl rfl fun D =>
            j_aldn (pc := 54) D rfl rfl rfl fun D =>
            j_aldn (pc := 55) D rfl rfl rfl fun D =>
            j_spv (pc := 56) (m := 294) (a := [(4, 303), (4, x1), (4, x2), (4, x3)]) (rest := [(4, r14)]) D rfl rfl rfl rfl (by rw [show h15 0 r14.toNat 0 = 125 from kc_r14]; decide) (gt_nz gt_r14) (fun h16 e1 D =>
              have T := fj_run_ok _ _ _ _ _ _ H.1 e1
              have kc_r14 := cls_st H.1 T.2 kc_r14 (by decide)
              have H := shp_st H T
              j_aret D rt_290) (fun q18 h16 e1 =>
              j_tx (hx_290 _))) (fun q13 h11 e1 =>
            j_tx (hx_290 _))) (fun q10 h8 e1 =>
          j_tx (hx_290 _)))) (fun m4 q3 h1 e1 =>
      j_tx (hx_290 _))
/-! 291 StatuteHouse$Sign.gives(LStatuteHouse$Kind;LStatuteHouse$Kind;)LStatuteHouse$Kind; -/
theorem cd_291 : fi_code 291 = prog_60_method_5_code := rfl
theorem hx_291 : ∀ pc, fi_hat 291 pc = none := fun pc => by unfold fi_hat; rw [show fi_hh 291 = [] from rfl]; rfl
theorem rt_291 : fj_ft (fi_ret 291) = 5 := rfl
theorem nl_291 : fi_nl 291 = 4 := rfl
theorem ow_291 : fi_ow 291 = 67 := rfl
theorem cl_291 : fj_cutT.getD 291 [] = [(18, [0, 1, 2]), (19, [0, 1, 2]), (96, [1, 2]), (114, [1, 2, 3]), (131, [1, 2, 3]), (155, [0, 1, 2, 3]), (235, [1, 2, 3]), (259, [1, 2]), (277, [1, 2]), (291, [1, 2]), (309, [1, 2]), (327, [1, 2, 3]), (384, [1, 2]), (416, [1, 2]), (429, [1, 2])] := rfl
theorem cut_291_18 : fj_cut 291 18 = some [0, 1, 2] := by decide +kernel
noncomputable def c_291_18 (d : Nat) (x0 x1 x2 : Int) (h : fi_H) : fk_R := gG (fj_run d) 291 18 [(0, (4, x0)), (1, (4, x1)), (2, (4, x2))] [] h
theorem cut_291_19 : fj_cut 291 19 = some [0, 1, 2] := by decide +kernel
noncomputable def c_291_19 (d : Nat) (x0 x1 x2 s0 : Int) (h : fi_H) : fk_R := gG (fj_run d) 291 19 [(0, (4, x0)), (1, (4, x1)), (2, (4, x2))] [(0, s0)] h
theorem cut_291_96 : fj_cut 291 96 = some [1, 2] := by decide +kernel
noncomputable def c_291_96 (d : Nat) (x1 x2 : Int) (h : fi_H) : fk_R := gG (fj_run d) 291 96 [(1, (4, x1)), (2, (4, x2))] [] h
theorem cut_291_114 : fj_cut 291 114 = some [1, 2, 3] := by decide +kernel
noncomputable def c_291_114 (d : Nat) (x1 x2 x3 : Int) (h : fi_H) : fk_R := gG (fj_run d) 291 114 [(1, (4, x1)), (2, (4, x2)), (3, (0, x3))] [] h
theorem cut_291_131 : fj_cut 291 131 = some [1, 2, 3] := by decide +kernel
noncomputable def c_291_131 (d : Nat) (x1 x2 x3 : Int) (h : fi_H) : fk_R := gG (fj_run d) 291 131 [(1, (4, x1)), (2, (4, x2)), (3, (0, x3))] [] h
theorem cut_291_155 : fj_cut 291 155 = some [0, 1, 2, 3] := by decide +kernel
noncomputable def c_291_155 (d : Nat) (x0 x1 x2 x3 : Int) (h : fi_H) : fk_R := gG (fj_run d) 291 155 [(0, (4, x0)), (1, (4, x1)), (2, (4, x2)), (3, (0, x3))] [] h
theorem cut_291_235 : fj_cut 291 235 = some [1, 2, 3] := by decide +kernel
noncomputable def c_291_235 (d : Nat) (x1 x2 x3 : Int) (h : fi_H) : fk_R := gG (fj_run d) 291 235 [(1, (4, x1)), (2, (4, x2)), (3, (0, x3))] [] h
theorem cut_291_259 : fj_cut 291 259 = some [1, 2] := by decide +kernel
noncomputable def c_291_259 (d : Nat) (x1 x2 : Int) (h : fi_H) : fk_R := gG (fj_run d) 291 259 [(1, (4, x1)), (2, (4, x2))] [] h
theorem cut_291_277 : fj_cut 291 277 = some [1, 2] := by decide +kernel
noncomputable def c_291_277 (d : Nat) (x1 x2 : Int) (h : fi_H) : fk_R := gG (fj_run d) 291 277 [(1, (4, x1)), (2, (4, x2))] [] h
theorem cut_291_291 : fj_cut 291 291 = some [1, 2] := by decide +kernel
noncomputable def c_291_291 (d : Nat) (x1 x2 : Int) (h : fi_H) : fk_R := gG (fj_run d) 291 291 [(1, (4, x1)), (2, (4, x2))] [] h
theorem cut_291_309 : fj_cut 291 309 = some [1, 2] := by decide +kernel
noncomputable def c_291_309 (d : Nat) (x1 x2 : Int) (h : fi_H) : fk_R := gG (fj_run d) 291 309 [(1, (4, x1)), (2, (4, x2))] [] h
theorem cut_291_327 : fj_cut 291 327 = some [1, 2, 3] := by decide +kernel
noncomputable def c_291_327 (d : Nat) (x1 x2 x3 : Int) (h : fi_H) : fk_R := gG (fj_run d) 291 327 [(1, (4, x1)), (2, (4, x2)), (3, (0, x3))] [] h
theorem cut_291_384 : fj_cut 291 384 = some [1, 2] := by decide +kernel
noncomputable def c_291_384 (d : Nat) (x1 x2 : Int) (h : fi_H) : fk_R := gG (fj_run d) 291 384 [(1, (4, x1)), (2, (4, x2))] [] h
theorem cut_291_416 : fj_cut 291 416 = some [1, 2] := by decide +kernel
noncomputable def c_291_416 (d : Nat) (x1 x2 : Int) (h : fi_H) : fk_R := gG (fj_run d) 291 416 [(1, (4, x1)), (2, (4, x2))] [] h
theorem cut_291_429 : fj_cut 291 429 = some [1, 2] := by decide +kernel
noncomputable def c_291_429 (d : Nat) (x1 x2 : Int) (h : fi_H) : fk_R := gG (fj_run d) 291 429 [(1, (4, x1)), (2, (4, x2))] [] h
theorem e_291_18 (d : Nat) (x0 x1 x2 : Int) {h : fi_H} {k0 : Int} (H : Shp h) (hk : h 0 x0.toNat 0 = k0) (hk0 : k0 ≠ 0) : c_291_18 d x0 x1 x2 h =
  c_291_19 d x0 x1 x2 0 h := by
  unfold c_291_18
  exact
    have D : fk_D 291 [(18, some [0, 1, 2], .iconst 0, 1, 0, 0, 0)] := fq_of2 cd_291 ow_291 cl_291 rfl (pc := 18) (by decide +kernel)
    j_ic (pc := 18) D rfl fun D =>
    fk_jump cut_291_19 rfl rfl
theorem e_291_19 (d : Nat) (x0 x1 x2 s0 : Int) {h : fi_H} {k0 : Int} (H : Shp h) (hk : h 0 x0.toNat 0 = k0) (hk0 : k0 ≠ 0) : c_291_19 d x0 x1 x2 s0 h =
  dv_ (fi_vt 234 (h 0 x0.toNat 0)) fun m4 => ca_ (fj_run d m4 h [(4, x0)]) 0
    (fun v2 h1 =>
    if v2 = 0 then
      c_291_96 d x1 x2 h1
    else if v2 = 1 then
      c_291_96 d x1 x2 h1
    else if v2 = 2 then
      c_291_114 d x1 x2 s0 h1
    else if v2 = 3 then
      c_291_114 d x1 x2 s0 h1
    else if v2 = 4 then
      c_291_131 d x1 x2 s0 h1
    else if v2 = 5 then
      c_291_131 d x1 x2 s0 h1
    else if v2 = 6 then
      c_291_131 d x1 x2 s0 h1
    else if v2 = 7 then
      c_291_131 d x1 x2 s0 h1
    else if v2 = 8 then
      c_291_155 d x0 x1 x2 s0 h1
    else if v2 = 9 then
      c_291_155 d x0 x1 x2 s0 h1
    else if v2 = 10 then
      c_291_235 d x1 x2 s0 h1
    else if v2 = 11 then
      c_291_327 d x1 x2 s0 h1
    else if v2 = 12 then
      c_291_384 d x1 x2 h1
    else if v2 = 13 then
      c_291_416 d x1 x2 h1
    else 
      c_291_429 d x1 x2 h1)
    (fun q3 h1 => tx_ q3 h1) := by
  unfold c_291_19
  exact
    have D : fk_D 291 [(19, some [0, 1, 2], .istore_n 3, 1, 0, 0, 0), (20, none, .aload_n 0, 1, 0, 0, 0), (21, none, .invokevirtual 85, 3, 0, 234, 1), (24, none, .tableswitch 405 0 13 #[72, 72, 90, 90, 107, 107, 107, 107, 131, 131, 211, 303, 360, 392], 72, 0, 0, 0)] := fq_of3 cd_291 ow_291 cl_291 rfl (pc := 19) (by decide +kernel)
    j_istn (pc := 19) (L' := [(3, (0, s0)), (0, (4, x0)), (1, (4, x1)), (2, (4, x2))]) D rfl nl_291 rfl rfl fun D =>
    j_aldn (pc := 20) D rfl rfl rfl fun D =>
    j_ivu (pc := 21) (dd := 234) (a := []) (rest := []) H.2.1 D rfl rfl rfl rfl rfl (fun m4 v2 h1 e1 D =>
      have T := fj_run_ok _ _ _ _ _ _ H.1 e1
      have hk := cls_st H.1 T.2 hk hk0
      have H := shp_st H T
      have N : fk_ni (v2) [] := trivial
      j_tc (pc := 24) 0 (t := 96) D N rfl (by decide +kernel) (fun q =>
        fk_jump cut_291_96 rfl rfl) (fun N =>
        j_tc 1 (t := 96) D N rfl (by decide +kernel) (fun q =>
          fk_jump cut_291_96 rfl rfl) (fun N =>
          j_tc 2 (t := 114) D N rfl (by decide +kernel) (fun q =>
            fk_jump cut_291_114 rfl rfl) (fun N =>
            j_tc 3 (t := 114) D N rfl (by decide +kernel) (fun q =>
              fk_jump cut_291_114 rfl rfl) (fun N =>
              j_tc 4 (t := 131) D N rfl (by decide +kernel) (fun q =>
                fk_jump cut_291_131 rfl rfl) (fun N =>
                j_tc 5 (t := 131) D N rfl (by decide +kernel) (fun q =>
                  fk_jump cut_291_131 rfl rfl) (fun N =>
                  j_tc 6 (t := 131) D N rfl (by decide +kernel) (fun q =>
                    fk_jump cut_291_131 rfl rfl) (fun N =>
                    j_tc 7 (t := 131) D N rfl (by decide +kernel) (fun q =>
                      fk_jump cut_291_131 rfl rfl) (fun N =>
                      j_tc 8 (t := 155) D N rfl (by decide +kernel) (fun q =>
                        fk_jump cut_291_155 rfl rfl) (fun N =>
                        j_tc 9 (t := 155) D N rfl (by decide +kernel) (fun q =>
                          fk_jump cut_291_155 rfl rfl) (fun N =>
                          j_tc 10 (t := 235) D N rfl (by decide +kernel) (fun q =>
                            fk_jump cut_291_235 rfl rfl) (fun N =>
                            j_tc 11 (t := 327) D N rfl (by decide +kernel) (fun q =>
                              fk_jump cut_291_327 rfl rfl) (fun N =>
                              j_tc 12 (t := 384) D N rfl (by decide +kernel) (fun q =>
                                fk_jump cut_291_384 rfl rfl) (fun N =>
                                j_tc 13 (t := 416) D N rfl (by decide +kernel) (fun q =>
                                  fk_jump cut_291_416 rfl rfl) (fun N =>
                                  j_td (t := 429) D N rfl (by decide +kernel) (by decide +kernel) <|
                                  fk_jump cut_291_429 rfl rfl))))))))))))))) (fun m4 q3 h1 e1 =>
      j_tx (hx_291 _))
theorem e_291_96 (d : Nat) (x1 x2 : Int) {h : fi_H} (H : Shp h) : c_291_96 d x1 x2 h =
  if x1 = 2 then
    if x2 = x1 then
      some (.inl (some (4, x1)), h)
    else
      some (.inl (some (4, 0)), h)
  else
    some (.inl (some (4, 0)), h) := by
  unfold c_291_96
  exact
    have D : fk_D 291 [(96, some [1, 2], .aload_n 1, 1, 0, 0, 0), (97, none, .getstatic 89, 3, 4, 2, 0), (100, none, .if_acmp .ne 12, 3, 112, 0, 0), (103, none, .aload_n 2, 1, 0, 0, 0), (104, none, .aload_n 1, 1, 0, 0, 0), (105, none, .if_acmp .ne 7, 3, 112, 0, 0), (108, none, .aload_n 1, 1, 0, 0, 0), (109, none, .goto 4, 3, 113, 0, 0)] := fq_of2 cd_291 ow_291 cl_291 rfl (pc := 96) (by decide +kernel)
    j_aldn (pc := 96) D rfl rfl rfl fun D =>
    j_gs (pc := 97) D rfl fun D =>
    j_ane (pc := 100) D rfl (fun q D =>
      j_aldn (pc := 103) D rfl rfl rfl fun D =>
      j_aldn (pc := 104) D rfl rfl rfl fun D =>
      j_ane (pc := 105) D rfl (fun q D =>
        j_aldn (pc := 108) D rfl rfl rfl fun D =>
        j_goto (pc := 109) D rfl <|
        have D : fk_D 291 [(113, none, .areturn, 1, 0, 0, 0)] := fq_of2 cd_291 ow_291 cl_291 rfl (pc := 113) (by decide +kernel)
        j_aret D rt_291) (fun q =>
        have D : fk_D 291 [(112, none, .aconst_null, 1, 0, 0, 0), (113, none, .areturn, 1, 0, 0, 0)] := fq_of2 cd_291 ow_291 cl_291 rfl (pc := 112) (by decide +kernel)
        j_c0 (pc := 112) (v := (4, 0)) D rfl rfl (by decide +kernel) fun D =>
        j_aret D rt_291)) (fun q =>
      have D : fk_D 291 [(112, none, .aconst_null, 1, 0, 0, 0), (113, none, .areturn, 1, 0, 0, 0)] := fq_of2 cd_291 ow_291 cl_291 rfl (pc := 112) (by decide +kernel)
      j_c0 (pc := 112) (v := (4, 0)) D rfl rfl (by decide +kernel) fun D =>
      j_aret D rt_291)
theorem e_291_114 (d : Nat) (x1 x2 x3 : Int) {h : fi_H} (H : Shp h) : c_291_114 d x1 x2 x3 h =
  if x1 = x2 then
    some (.inl (some (4, 2)), h)
  else
    if x3 = 0 then
      some (.inl (some (4, 0)), h)
    else
      some (.inl (some (4, 2)), h) := by
  unfold c_291_114
  exact
    have D : fk_D 291 [(114, some [1, 2, 3], .aload_n 1, 1, 0, 0, 0), (115, none, .aload_n 2, 1, 0, 0, 0), (116, none, .if_acmp .eq 7, 3, 123, 0, 0), (119, none, .iload_n 3, 1, 0, 0, 0), (120, none, .ifCond .eq 9, 3, 129, 0, 0), (123, none, .getstatic 89, 3, 4, 2, 0), (126, none, .goto 4, 3, 130, 0, 0)] := fq_of2 cd_291 ow_291 cl_291 rfl (pc := 114) (by decide +kernel)
    j_aldn (pc := 114) D rfl rfl rfl fun D =>
    j_aldn (pc := 115) D rfl rfl rfl fun D =>
    j_aeq (pc := 116) D rfl (fun q =>
      have D : fk_D 291 [(123, none, .getstatic 89, 3, 4, 2, 0), (126, none, .goto 4, 3, 130, 0, 0)] := fq_of2 cd_291 ow_291 cl_291 rfl (pc := 123) (by decide +kernel)
      j_gs (pc := 123) D rfl fun D =>
      j_goto (pc := 126) D rfl <|
      have D : fk_D 291 [(130, none, .areturn, 1, 0, 0, 0)] := fq_of2 cd_291 ow_291 cl_291 rfl (pc := 130) (by decide +kernel)
      j_aret D rt_291) (fun q D =>
      j_ildn (pc := 119) D rfl rfl rfl fun D =>
      j_ifeq (pc := 120) D rfl (fun q =>
        have D : fk_D 291 [(129, none, .aconst_null, 1, 0, 0, 0), (130, none, .areturn, 1, 0, 0, 0)] := fq_of2 cd_291 ow_291 cl_291 rfl (pc := 129) (by decide +kernel)
        j_c0 (pc := 129) (v := (4, 0)) D rfl rfl (by decide +kernel) fun D =>
        j_aret D rt_291) (fun q D =>
        j_gs (pc := 123) D rfl fun D =>
        j_goto (pc := 126) D rfl <|
        have D : fk_D 291 [(130, none, .areturn, 1, 0, 0, 0)] := fq_of2 cd_291 ow_291 cl_291 rfl (pc := 130) (by decide +kernel)
        j_aret D rt_291))
theorem e_291_131 (d : Nat) (x1 x2 x3 : Int) {h : fi_H} (H : Shp h) : c_291_131 d x1 x2 x3 h =
  if x3 = 0 then
    if x1 = x2 then
      dv_ (fi_vt 325 (h 0 x1.toNat 0)) fun m4 => ca_ (fj_run d m4 h [(4, x1)]) 0
        (fun v2 h1 =>
        if v2 = 0 then
          some (.inl (some (4, 0)), h1)
        else
          some (.inl (some (4, 2)), h1))
        (fun q3 h1 => tx_ q3 h1)
    else
      some (.inl (some (4, 0)), h)
  else
    some (.inl (some (4, 2)), h) := by
  unfold c_291_131
  exact
    have D : fk_D 291 [(131, some [1, 2, 3], .iload_n 3, 1, 0, 0, 0), (132, none, .ifCond .ne 15, 3, 147, 0, 0), (135, none, .aload_n 1, 1, 0, 0, 0), (136, none, .aload_n 2, 1, 0, 0, 0), (137, none, .if_acmp .ne 16, 3, 153, 0, 0), (140, none, .aload_n 1, 1, 0, 0, 0), (141, none, .invokevirtual 92, 3, 0, 325, 1), (144, none, .ifCond .eq 9, 3, 153, 0, 0), (147, none, .getstatic 89, 3, 4, 2, 0), (150, none, .goto 4, 3, 154, 0, 0)] := fq_of2 cd_291 ow_291 cl_291 rfl (pc := 131) (by decide +kernel)
    j_ildn (pc := 131) D rfl rfl rfl fun D =>
    j_ifne (pc := 132) D rfl (fun q D =>
      j_aldn (pc := 135) D rfl rfl rfl fun D =>
      j_aldn (pc := 136) D rfl rfl rfl fun D =>
      j_ane (pc := 137) D rfl (fun q D =>
        j_aldn (pc := 140) D rfl rfl rfl fun D =>
        j_ivu (pc := 141) (dd := 325) (a := []) (rest := []) H.2.1 D rfl rfl rfl rfl rfl (fun m4 v2 h1 e1 D =>
          have T := fj_run_ok _ _ _ _ _ _ H.1 e1
          have H := shp_st H T
          j_ifeq (pc := 144) D rfl (fun q =>
            have D : fk_D 291 [(153, none, .aconst_null, 1, 0, 0, 0), (154, none, .areturn, 1, 0, 0, 0)] := fq_of2 cd_291 ow_291 cl_291 rfl (pc := 153) (by decide +kernel)
            j_c0 (pc := 153) (v := (4, 0)) D rfl rfl (by decide +kernel) fun D =>
            j_aret D rt_291) (fun q D =>
            j_gs (pc := 147) D rfl fun D =>
            j_goto (pc := 150) D rfl <|
            have D : fk_D 291 [(154, none, .areturn, 1, 0, 0, 0)] := fq_of2 cd_291 ow_291 cl_291 rfl (pc := 154) (by decide +kernel)
            j_aret D rt_291)) (fun m4 q3 h1 e1 =>
          j_tx (hx_291 _))) (fun q =>
        have D : fk_D 291 [(153, none, .aconst_null, 1, 0, 0, 0), (154, none, .areturn, 1, 0, 0, 0)] := fq_of2 cd_291 ow_291 cl_291 rfl (pc := 153) (by decide +kernel)
        j_c0 (pc := 153) (v := (4, 0)) D rfl rfl (by decide +kernel) fun D =>
        j_aret D rt_291)) (fun q =>
      have D : fk_D 291 [(147, none, .getstatic 89, 3, 4, 2, 0), (150, none, .goto 4, 3, 154, 0, 0)] := fq_of2 cd_291 ow_291 cl_291 rfl (pc := 147) (by decide +kernel)
      j_gs (pc := 147) D rfl fun D =>
      j_goto (pc := 150) D rfl <|
      have D : fk_D 291 [(154, none, .areturn, 1, 0, 0, 0)] := fq_of2 cd_291 ow_291 cl_291 rfl (pc := 154) (by decide +kernel)
      j_aret D rt_291)
theorem e_291_155 (d : Nat) (x0 x1 x2 x3 : Int) {h : fi_H} {k0 : Int} (H : Shp h) (hk : h 0 x0.toNat 0 = k0) (hk0 : k0 ≠ 0) : c_291_155 d x0 x1 x2 x3 h =
  if x3 = 0 then
    if x1 = 6 then
      if x2 = 7 then
        some (.inl (some (4, x1)), h)
      else
        if x0 = 24 then
          if x2 = x1 then
            some (.inl (some (4, 7)), h)
          else
            some (.inl (some (4, 0)), h)
        else
          some (.inl (some (4, 0)), h)
    else
      if x1 = x2 then
        if x1 = 4 then
          some (.inl (some (4, x1)), h)
        else
          if x1 = 8 then
            some (.inl (some (4, x1)), h)
          else
            if x1 = 7 then
              some (.inl (some (4, x1)), h)
            else
              some (.inl (some (4, 0)), h)
      else
        some (.inl (some (4, 0)), h)
  else
    ca_ (fj_run d 293 h [(4, x1), (4, x2)]) 4
      (fun v2 h1 =>
      some (.inl (some (4, v2)), h1))
      (fun q3 h1 => tx_ q3 h1) := by
  unfold c_291_155
  exact
    have D : fk_D 291 [(155, some [0, 1, 2, 3], .iload_n 3, 1, 0, 0, 0), (156, none, .ifCond .eq 9, 3, 165, 0, 0), (159, none, .aload_n 1, 1, 0, 0, 0), (160, none, .aload_n 2, 1, 0, 0, 0), (161, none, .invokestatic 95, 3, 2, 293, 5), (164, none, .areturn, 1, 0, 0, 0)] := fq_of2 cd_291 ow_291 cl_291 rfl (pc := 155) (by decide +kernel)
    j_ildn (pc := 155) D rfl rfl rfl fun D =>
    j_ifeq (pc := 156) D rfl (fun q =>
      have D : fk_D 291 [(165, none, .aload_n 1, 1, 0, 0, 0), (166, none, .getstatic 99, 3, 4, 6, 0), (169, none, .if_acmp .ne 34, 3, 203, 0, 0), (172, none, .aload_n 2, 1, 0, 0, 0), (173, none, .getstatic 102, 3, 4, 7, 0), (176, none, .if_acmp .ne 7, 3, 183, 0, 0), (179, none, .aload_n 1, 1, 0, 0, 0), (180, none, .goto 22, 3, 202, 0, 0)] := fq_of2 cd_291 ow_291 cl_291 rfl (pc := 165) (by decide +kernel)
      j_aldn (pc := 165) D rfl rfl rfl fun D =>
      j_gs (pc := 166) D rfl fun D =>
      j_ane (pc := 169) D rfl (fun q D =>
        j_aldn (pc := 172) D rfl rfl rfl fun D =>
        j_gs (pc := 173) D rfl fun D =>
        j_ane (pc := 176) D rfl (fun q D =>
          j_aldn (pc := 179) D rfl rfl rfl fun D =>
          j_goto (pc := 180) D rfl <|
          have D : fk_D 291 [(202, none, .areturn, 1, 0, 0, 0)] := fq_of2 cd_291 ow_291 cl_291 rfl (pc := 202) (by decide +kernel)
          j_aret D rt_291) (fun q =>
          have D : fk_D 291 [(183, none, .aload_n 0, 1, 0, 0, 0), (184, none, .getstatic 31, 3, 4, 24, 0), (187, none, .if_acmp .ne 14, 3, 201, 0, 0), (190, none, .aload_n 2, 1, 0, 0, 0), (191, none, .aload_n 1, 1, 0, 0, 0), (192, none, .if_acmp .ne 9, 3, 201, 0, 0), (195, none, .getstatic 102, 3, 4, 7, 0), (198, none, .goto 4, 3, 202, 0, 0)] := fq_of2 cd_291 ow_291 cl_291 rfl (pc := 183) (by decide +kernel)
          j_aldn (pc := 183) D rfl rfl rfl fun D =>
          j_gs (pc := 184) D rfl fun D =>
          j_ane (pc := 187) D rfl (fun q D =>
            j_aldn (pc := 190) D rfl rfl rfl fun D =>
            j_aldn (pc := 191) D rfl rfl rfl fun D =>
            j_ane (pc := 192) D rfl (fun q D =>
              j_gs (pc := 195) D rfl fun D =>
              j_goto (pc := 198) D rfl <|
              have D : fk_D 291 [(202, none, .areturn, 1, 0, 0, 0)] := fq_of2 cd_291 ow_291 cl_291 rfl (pc := 202) (by decide +kernel)
              j_aret D rt_291) (fun q =>
              have D : fk_D 291 [(201, none, .aconst_null, 1, 0, 0, 0), (202, none, .areturn, 1, 0, 0, 0)] := fq_of2 cd_291 ow_291 cl_291 rfl (pc := 201) (by decide +kernel)
              j_c0 (pc := 201) (v := (4, 0)) D rfl rfl (by decide +kernel) fun D =>
              j_aret D rt_291)) (fun q =>
            have D : fk_D 291 [(201, none, .aconst_null, 1, 0, 0, 0), (202, none, .areturn, 1, 0, 0, 0)] := fq_of2 cd_291 ow_291 cl_291 rfl (pc := 201) (by decide +kernel)
            j_c0 (pc := 201) (v := (4, 0)) D rfl rfl (by decide +kernel) fun D =>
            j_aret D rt_291))) (fun q =>
        have D : fk_D 291 [(203, none, .aload_n 1, 1, 0, 0, 0), (204, none, .aload_n 2, 1, 0, 0, 0), (205, none, .if_acmp .ne 28, 3, 233, 0, 0), (208, none, .aload_n 1, 1, 0, 0, 0), (209, none, .getstatic 105, 3, 4, 4, 0), (212, none, .if_acmp .eq 17, 3, 229, 0, 0), (215, none, .aload_n 1, 1, 0, 0, 0), (216, none, .getstatic 108, 3, 4, 8, 0), (219, none, .if_acmp .eq 10, 3, 229, 0, 0), (222, none, .aload_n 1, 1, 0, 0, 0), (223, none, .getstatic 102, 3, 4, 7, 0), (226, none, .if_acmp .ne 7, 3, 233, 0, 0), (229, none, .aload_n 1, 1, 0, 0, 0), (230, none, .goto 4, 3, 234, 0, 0)] := fq_of2 cd_291 ow_291 cl_291 rfl (pc := 203) (by decide +kernel)
        j_aldn (pc := 203) D rfl rfl rfl fun D =>
        j_aldn (pc := 204) D rfl rfl rfl fun D =>
        j_ane (pc := 205) D rfl (fun q D =>
          j_aldn (pc := 208) D rfl rfl rfl fun D =>
          j_gs (pc := 209) D rfl fun D =>
          j_aeq (pc := 212) D rfl (fun q =>
            have D : fk_D 291 [(229, none, .aload_n 1, 1, 0, 0, 0), (230, none, .goto 4, 3, 234, 0, 0)] := fq_of2 cd_291 ow_291 cl_291 rfl (pc := 229) (by decide +kernel)
            j_aldn (pc := 229) D rfl rfl rfl fun D =>
            j_goto (pc := 230) D rfl <|
            have D : fk_D 291 [(234, none, .areturn, 1, 0, 0, 0)] := fq_of2 cd_291 ow_291 cl_291 rfl (pc := 234) (by decide +kernel)
            j_aret D rt_291) (fun q D =>
            j_aldn (pc := 215) D rfl rfl rfl fun D =>
            j_gs (pc := 216) D rfl fun D =>
            j_aeq (pc := 219) D rfl (fun q =>
              have D : fk_D 291 [(229, none, .aload_n 1, 1, 0, 0, 0), (230, none, .goto 4, 3, 234, 0, 0)] := fq_of2 cd_291 ow_291 cl_291 rfl (pc := 229) (by decide +kernel)
              j_aldn (pc := 229) D rfl rfl rfl fun D =>
              j_goto (pc := 230) D rfl <|
              have D : fk_D 291 [(234, none, .areturn, 1, 0, 0, 0)] := fq_of2 cd_291 ow_291 cl_291 rfl (pc := 234) (by decide +kernel)
              j_aret D rt_291) (fun q D =>
              j_aldn (pc := 222) D rfl rfl rfl fun D =>
              j_gs (pc := 223) D rfl fun D =>
              j_ane (pc := 226) D rfl (fun q D =>
                j_aldn (pc := 229) D rfl rfl rfl fun D =>
                j_goto (pc := 230) D rfl <|
                have D : fk_D 291 [(234, none, .areturn, 1, 0, 0, 0)] := fq_of2 cd_291 ow_291 cl_291 rfl (pc := 234) (by decide +kernel)
                j_aret D rt_291) (fun q =>
                have D : fk_D 291 [(233, none, .aconst_null, 1, 0, 0, 0), (234, none, .areturn, 1, 0, 0, 0)] := fq_of2 cd_291 ow_291 cl_291 rfl (pc := 233) (by decide +kernel)
                j_c0 (pc := 233) (v := (4, 0)) D rfl rfl (by decide +kernel) fun D =>
                j_aret D rt_291)))) (fun q =>
          have D : fk_D 291 [(233, none, .aconst_null, 1, 0, 0, 0), (234, none, .areturn, 1, 0, 0, 0)] := fq_of2 cd_291 ow_291 cl_291 rfl (pc := 233) (by decide +kernel)
          j_c0 (pc := 233) (v := (4, 0)) D rfl rfl (by decide +kernel) fun D =>
          j_aret D rt_291))) (fun q D =>
      j_aldn (pc := 159) D rfl rfl rfl fun D =>
      j_aldn (pc := 160) D rfl rfl rfl fun D =>
      j_is (pc := 161) (m := 293) (a := [(4, x1), (4, x2)]) (rest := []) D rfl rfl rfl rfl (fun v2 h1 e1 D =>
        have T := fj_run_ok _ _ _ _ _ _ H.1 e1
        have hk := cls_st H.1 T.2 hk hk0
        have H := shp_st H T
        j_aret D rt_291) (fun q3 h1 e1 =>
        j_tx (hx_291 _)))
theorem e_291_235 (d : Nat) (x1 x2 x3 : Int) {h : fi_H} (H : Shp h) : c_291_235 d x1 x2 x3 h =
  if x3 = 0 then
    if x1 = 4 then
      dv_ (fi_vt 334 (h 0 x2.toNat 0)) fun m4 => ca_ (fj_run d m4 h [(4, x2)]) 0
        (fun v2 h1 =>
        if v2 = 0 then
          c_291_259 d x1 x2 h1
        else
          some (.inl (some (4, 4)), h1))
        (fun q3 h1 => tx_ q3 h1)
    else
      c_291_259 d x1 x2 h
  else
    ca_ (fj_run d 293 h [(4, x1), (4, x2)]) 4
      (fun v6 h5 =>
      some (.inl (some (4, v6)), h5))
      (fun q7 h5 => tx_ q7 h5) := by
  unfold c_291_235
  exact
    have D : fk_D 291 [(235, some [1, 2, 3], .iload_n 3, 1, 0, 0, 0), (236, none, .ifCond .eq 9, 3, 245, 0, 0), (239, none, .aload_n 1, 1, 0, 0, 0), (240, none, .aload_n 2, 1, 0, 0, 0), (241, none, .invokestatic 95, 3, 2, 293, 5), (244, none, .areturn, 1, 0, 0, 0)] := fq_of2 cd_291 ow_291 cl_291 rfl (pc := 235) (by decide +kernel)
    j_ildn (pc := 235) D rfl rfl rfl fun D =>
    j_ifeq (pc := 236) D rfl (fun q =>
      have D : fk_D 291 [(245, none, .aload_n 1, 1, 0, 0, 0), (246, none, .getstatic 105, 3, 4, 4, 0), (249, none, .if_acmp .ne 10, 3, 259, 0, 0), (252, none, .aload_n 2, 1, 0, 0, 0), (253, none, .invokevirtual 81, 3, 0, 334, 1), (256, none, .ifCond .ne 17, 3, 273, 0, 0)] := fq_of2 cd_291 ow_291 cl_291 rfl (pc := 245) (by decide +kernel)
      j_aldn (pc := 245) D rfl rfl rfl fun D =>
      j_gs (pc := 246) D rfl fun D =>
      j_ane (pc := 249) D rfl (fun q D =>
        j_aldn (pc := 252) D rfl rfl rfl fun D =>
        j_ivu (pc := 253) (dd := 334) (a := []) (rest := []) H.2.1 D rfl rfl rfl rfl rfl (fun m4 v2 h1 e1 D =>
          have T := fj_run_ok _ _ _ _ _ _ H.1 e1
          have H := shp_st H T
          j_ifne (pc := 256) D rfl (fun q D =>
            fk_jump cut_291_259 rfl rfl) (fun q =>
            have D : fk_D 291 [(273, none, .getstatic 105, 3, 4, 4, 0), (276, none, .areturn, 1, 0, 0, 0)] := fq_of2 cd_291 ow_291 cl_291 rfl (pc := 273) (by decide +kernel)
            j_gs (pc := 273) D rfl fun D =>
            j_aret D rt_291)) (fun m4 q3 h1 e1 =>
          j_tx (hx_291 _))) (fun q =>
        fk_jump cut_291_259 rfl rfl)) (fun q D =>
      j_aldn (pc := 239) D rfl rfl rfl fun D =>
      j_aldn (pc := 240) D rfl rfl rfl fun D =>
      j_is (pc := 241) (m := 293) (a := [(4, x1), (4, x2)]) (rest := []) D rfl rfl rfl rfl (fun v6 h5 e1 D =>
        have T := fj_run_ok _ _ _ _ _ _ H.1 e1
        have H := shp_st H T
        j_aret D rt_291) (fun q7 h5 e1 =>
        j_tx (hx_291 _)))
theorem e_291_259 (d : Nat) (x1 x2 : Int) {h : fi_H} (H : Shp h) : c_291_259 d x1 x2 h =
  if x2 = 4 then
    dv_ (fi_vt 334 (h 0 x1.toNat 0)) fun m4 => ca_ (fj_run d m4 h [(4, x1)]) 0
      (fun v2 h1 =>
      if v2 = 0 then
        c_291_277 d x1 x2 h1
      else
        some (.inl (some (4, 4)), h1))
      (fun q3 h1 => tx_ q3 h1)
  else
    c_291_277 d x1 x2 h := by
  unfold c_291_259
  exact
    have D : fk_D 291 [(259, some [1, 2], .aload_n 2, 1, 0, 0, 0), (260, none, .getstatic 105, 3, 4, 4, 0), (263, none, .if_acmp .ne 14, 3, 277, 0, 0), (266, none, .aload_n 1, 1, 0, 0, 0), (267, none, .invokevirtual 81, 3, 0, 334, 1), (270, none, .ifCond .eq 7, 3, 277, 0, 0), (273, none, .getstatic 105, 3, 4, 4, 0), (276, none, .areturn, 1, 0, 0, 0)] := fq_of2 cd_291 ow_291 cl_291 rfl (pc := 259) (by decide +kernel)
    j_aldn (pc := 259) D rfl rfl rfl fun D =>
    j_gs (pc := 260) D rfl fun D =>
    j_ane (pc := 263) D rfl (fun q D =>
      j_aldn (pc := 266) D rfl rfl rfl fun D =>
      j_ivu (pc := 267) (dd := 334) (a := []) (rest := []) H.2.1 D rfl rfl rfl rfl rfl (fun m4 v2 h1 e1 D =>
        have T := fj_run_ok _ _ _ _ _ _ H.1 e1
        have H := shp_st H T
        j_ifeq (pc := 270) D rfl (fun q =>
          fk_jump cut_291_277 rfl rfl) (fun q D =>
          j_gs (pc := 273) D rfl fun D =>
          j_aret D rt_291)) (fun m4 q3 h1 e1 =>
        j_tx (hx_291 _))) (fun q =>
      fk_jump cut_291_277 rfl rfl)
theorem e_291_277 (d : Nat) (x1 x2 : Int) {h : fi_H} (H : Shp h) : c_291_277 d x1 x2 h =
  if x1 = 7 then
    if x2 = 3 then
      some (.inl (some (4, 7)), h)
    else
      c_291_291 d x1 x2 h
  else
    c_291_291 d x1 x2 h := by
  unfold c_291_277
  exact
    have D : fk_D 291 [(277, some [1, 2], .aload_n 1, 1, 0, 0, 0), (278, none, .getstatic 102, 3, 4, 7, 0), (281, none, .if_acmp .ne 10, 3, 291, 0, 0), (284, none, .aload_n 2, 1, 0, 0, 0), (285, none, .getstatic 78, 3, 4, 3, 0), (288, none, .if_acmp .eq 17, 3, 305, 0, 0)] := fq_of2 cd_291 ow_291 cl_291 rfl (pc := 277) (by decide +kernel)
    j_aldn (pc := 277) D rfl rfl rfl fun D =>
    j_gs (pc := 278) D rfl fun D =>
    j_ane (pc := 281) D rfl (fun q D =>
      j_aldn (pc := 284) D rfl rfl rfl fun D =>
      j_gs (pc := 285) D rfl fun D =>
      j_aeq (pc := 288) D rfl (fun q =>
        have D : fk_D 291 [(305, none, .getstatic 102, 3, 4, 7, 0), (308, none, .areturn, 1, 0, 0, 0)] := fq_of2 cd_291 ow_291 cl_291 rfl (pc := 305) (by decide +kernel)
        j_gs (pc := 305) D rfl fun D =>
        j_aret D rt_291) (fun q D =>
        fk_jump cut_291_291 rfl rfl)) (fun q =>
      fk_jump cut_291_291 rfl rfl)
theorem e_291_291 (d : Nat) (x1 x2 : Int) {h : fi_H} (H : Shp h) : c_291_291 d x1 x2 h =
  if x2 = 7 then
    if x1 = 3 then
      some (.inl (some (4, 7)), h)
    else
      c_291_309 d x1 x2 h
  else
    c_291_309 d x1 x2 h := by
  unfold c_291_291
  exact
    have D : fk_D 291 [(291, some [1, 2], .aload_n 2, 1, 0, 0, 0), (292, none, .getstatic 102, 3, 4, 7, 0), (295, none, .if_acmp .ne 14, 3, 309, 0, 0), (298, none, .aload_n 1, 1, 0, 0, 0), (299, none, .getstatic 78, 3, 4, 3, 0), (302, none, .if_acmp .ne 7, 3, 309, 0, 0), (305, none, .getstatic 102, 3, 4, 7, 0), (308, none, .areturn, 1, 0, 0, 0)] := fq_of2 cd_291 ow_291 cl_291 rfl (pc := 291) (by decide +kernel)
    j_aldn (pc := 291) D rfl rfl rfl fun D =>
    j_gs (pc := 292) D rfl fun D =>
    j_ane (pc := 295) D rfl (fun q D =>
      j_aldn (pc := 298) D rfl rfl rfl fun D =>
      j_gs (pc := 299) D rfl fun D =>
      j_ane (pc := 302) D rfl (fun q D =>
        j_gs (pc := 305) D rfl fun D =>
        j_aret D rt_291) (fun q =>
        fk_jump cut_291_309 rfl rfl)) (fun q =>
      fk_jump cut_291_309 rfl rfl)
theorem e_291_309 (d : Nat) (x1 x2 : Int) {h : fi_H} (H : Shp h) : c_291_309 d x1 x2 h =
  if x1 = 8 then
    if x2 = x1 then
      some (.inl (some (4, x1)), h)
    else
      some (.inl (some (4, 0)), h)
  else
    some (.inl (some (4, 0)), h) := by
  unfold c_291_309
  exact
    have D : fk_D 291 [(309, some [1, 2], .aload_n 1, 1, 0, 0, 0), (310, none, .getstatic 108, 3, 4, 8, 0), (313, none, .if_acmp .ne 12, 3, 325, 0, 0), (316, none, .aload_n 2, 1, 0, 0, 0), (317, none, .aload_n 1, 1, 0, 0, 0), (318, none, .if_acmp .ne 7, 3, 325, 0, 0), (321, none, .aload_n 1, 1, 0, 0, 0), (322, none, .goto 4, 3, 326, 0, 0)] := fq_of2 cd_291 ow_291 cl_291 rfl (pc := 309) (by decide +kernel)
    j_aldn (pc := 309) D rfl rfl rfl fun D =>
    j_gs (pc := 310) D rfl fun D =>
    j_ane (pc := 313) D rfl (fun q D =>
      j_aldn (pc := 316) D rfl rfl rfl fun D =>
      j_aldn (pc := 317) D rfl rfl rfl fun D =>
      j_ane (pc := 318) D rfl (fun q D =>
        j_aldn (pc := 321) D rfl rfl rfl fun D =>
        j_goto (pc := 322) D rfl <|
        have D : fk_D 291 [(326, none, .areturn, 1, 0, 0, 0)] := fq_of2 cd_291 ow_291 cl_291 rfl (pc := 326) (by decide +kernel)
        j_aret D rt_291) (fun q =>
        have D : fk_D 291 [(325, none, .aconst_null, 1, 0, 0, 0), (326, none, .areturn, 1, 0, 0, 0)] := fq_of2 cd_291 ow_291 cl_291 rfl (pc := 325) (by decide +kernel)
        j_c0 (pc := 325) (v := (4, 0)) D rfl rfl (by decide +kernel) fun D =>
        j_aret D rt_291)) (fun q =>
      have D : fk_D 291 [(325, none, .aconst_null, 1, 0, 0, 0), (326, none, .areturn, 1, 0, 0, 0)] := fq_of2 cd_291 ow_291 cl_291 rfl (pc := 325) (by decide +kernel)
      j_c0 (pc := 325) (v := (4, 0)) D rfl rfl (by decide +kernel) fun D =>
      j_aret D rt_291)
theorem e_291_327 (d : Nat) (x1 x2 x3 : Int) {h : fi_H} (H : Shp h) : c_291_327 d x1 x2 x3 h =
  if x3 = 0 then
    if x1 = 4 then
      if x2 = x1 then
        some (.inl (some (4, 5)), h)
      else
        dv_ (fi_vt 334 (h 0 x2.toNat 0)) fun m4 => ca_ (fj_run d m4 h [(4, x2)]) 0
          (fun v2 h1 =>
          if v2 = 0 then
            some (.inl (some (4, 0)), h1)
          else
            some (.inl (some (4, x1)), h1))
          (fun q3 h1 => tx_ q3 h1)
    else
      if x1 = 8 then
        if x2 = x1 then
          some (.inl (some (4, x1)), h)
        else
          some (.inl (some (4, 0)), h)
      else
        some (.inl (some (4, 0)), h)
  else
    some (.inl (some (4, 5)), h) := by
  unfold c_291_327
  exact
    have D : fk_D 291 [(327, some [1, 2, 3], .iload_n 3, 1, 0, 0, 0), (328, none, .ifCond .eq 7, 3, 335, 0, 0), (331, none, .getstatic 72, 3, 4, 5, 0), (334, none, .areturn, 1, 0, 0, 0)] := fq_of2 cd_291 ow_291 cl_291 rfl (pc := 327) (by decide +kernel)
    j_ildn (pc := 327) D rfl rfl rfl fun D =>
    j_ifeq (pc := 328) D rfl (fun q =>
      have D : fk_D 291 [(335, none, .aload_n 1, 1, 0, 0, 0), (336, none, .getstatic 105, 3, 4, 4, 0), (339, none, .if_acmp .ne 27, 3, 366, 0, 0), (342, none, .aload_n 2, 1, 0, 0, 0), (343, none, .aload_n 1, 1, 0, 0, 0), (344, none, .if_acmp .ne 9, 3, 353, 0, 0), (347, none, .getstatic 72, 3, 4, 5, 0), (350, none, .goto 15, 3, 365, 0, 0)] := fq_of2 cd_291 ow_291 cl_291 rfl (pc := 335) (by decide +kernel)
      j_aldn (pc := 335) D rfl rfl rfl fun D =>
      j_gs (pc := 336) D rfl fun D =>
      j_ane (pc := 339) D rfl (fun q D =>
        j_aldn (pc := 342) D rfl rfl rfl fun D =>
        j_aldn (pc := 343) D rfl rfl rfl fun D =>
        j_ane (pc := 344) D rfl (fun q D =>
          j_gs (pc := 347) D rfl fun D =>
          j_goto (pc := 350) D rfl <|
          have D : fk_D 291 [(365, none, .areturn, 1, 0, 0, 0)] := fq_of2 cd_291 ow_291 cl_291 rfl (pc := 365) (by decide +kernel)
          j_aret D rt_291) (fun q =>
          have D : fk_D 291 [(353, none, .aload_n 2, 1, 0, 0, 0), (354, none, .invokevirtual 81, 3, 0, 334, 1), (357, none, .ifCond .eq 7, 3, 364, 0, 0), (360, none, .aload_n 1, 1, 0, 0, 0), (361, none, .goto 4, 3, 365, 0, 0)] := fq_of2 cd_291 ow_291 cl_291 rfl (pc := 353) (by decide +kernel)
          j_aldn (pc := 353) D rfl rfl rfl fun D =>
          j_ivu (pc := 354) (dd := 334) (a := []) (rest := []) H.2.1 D rfl rfl rfl rfl rfl (fun m4 v2 h1 e1 D =>
            have T := fj_run_ok _ _ _ _ _ _ H.1 e1
            have H := shp_st H T
            j_ifeq (pc := 357) D rfl (fun q =>
              have D : fk_D 291 [(364, none, .aconst_null, 1, 0, 0, 0), (365, none, .areturn, 1, 0, 0, 0)] := fq_of2 cd_291 ow_291 cl_291 rfl (pc := 364) (by decide +kernel)
              j_c0 (pc := 364) (v := (4, 0)) D rfl rfl (by decide +kernel) fun D =>
              j_aret D rt_291) (fun q D =>
              j_aldn (pc := 360) D rfl rfl rfl fun D =>
              j_goto (pc := 361) D rfl <|
              have D : fk_D 291 [(365, none, .areturn, 1, 0, 0, 0)] := fq_of2 cd_291 ow_291 cl_291 rfl (pc := 365) (by decide +kernel)
              j_aret D rt_291)) (fun m4 q3 h1 e1 =>
            j_tx (hx_291 _)))) (fun q =>
        have D : fk_D 291 [(366, none, .aload_n 1, 1, 0, 0, 0), (367, none, .getstatic 108, 3, 4, 8, 0), (370, none, .if_acmp .ne 12, 3, 382, 0, 0), (373, none, .aload_n 2, 1, 0, 0, 0), (374, none, .aload_n 1, 1, 0, 0, 0), (375, none, .if_acmp .ne 7, 3, 382, 0, 0), (378, none, .aload_n 1, 1, 0, 0, 0), (379, none, .goto 4, 3, 383, 0, 0)] := fq_of2 cd_291 ow_291 cl_291 rfl (pc := 366) (by decide +kernel)
        j_aldn (pc := 366) D rfl rfl rfl fun D =>
        j_gs (pc := 367) D rfl fun D =>
        j_ane (pc := 370) D rfl (fun q D =>
          j_aldn (pc := 373) D rfl rfl rfl fun D =>
          j_aldn (pc := 374) D rfl rfl rfl fun D =>
          j_ane (pc := 375) D rfl (fun q D =>
            j_aldn (pc := 378) D rfl rfl rfl fun D =>
            j_goto (pc := 379) D rfl <|
            have D : fk_D 291 [(383, none, .areturn, 1, 0, 0, 0)] := fq_of2 cd_291 ow_291 cl_291 rfl (pc := 383) (by decide +kernel)
            j_aret D rt_291) (fun q =>
            have D : fk_D 291 [(382, none, .aconst_null, 1, 0, 0, 0), (383, none, .areturn, 1, 0, 0, 0)] := fq_of2 cd_291 ow_291 cl_291 rfl (pc := 382) (by decide +kernel)
            j_c0 (pc := 382) (v := (4, 0)) D rfl rfl (by decide +kernel) fun D =>
            j_aret D rt_291)) (fun q =>
          have D : fk_D 291 [(382, none, .aconst_null, 1, 0, 0, 0), (383, none, .areturn, 1, 0, 0, 0)] := fq_of2 cd_291 ow_291 cl_291 rfl (pc := 382) (by decide +kernel)
          j_c0 (pc := 382) (v := (4, 0)) D rfl rfl (by decide +kernel) fun D =>
          j_aret D rt_291))) (fun q D =>
      j_gs (pc := 331) D rfl fun D =>
      j_aret D rt_291)
theorem e_291_384 (d : Nat) (x1 x2 : Int) {h : fi_H} (H : Shp h) : c_291_384 d x1 x2 h =
  if x1 = x2 then
    if x1 = 3 then
      some (.inl (some (4, x1)), h)
    else
      if x1 = 4 then
        some (.inl (some (4, x1)), h)
      else
        if x1 = 8 then
          some (.inl (some (4, x1)), h)
        else
          some (.inl (some (4, 0)), h)
  else
    some (.inl (some (4, 0)), h) := by
  unfold c_291_384
  exact
    have D : fk_D 291 [(384, some [1, 2], .aload_n 1, 1, 0, 0, 0), (385, none, .aload_n 2, 1, 0, 0, 0), (386, none, .if_acmp .ne 28, 3, 414, 0, 0), (389, none, .aload_n 1, 1, 0, 0, 0), (390, none, .getstatic 78, 3, 4, 3, 0), (393, none, .if_acmp .eq 17, 3, 410, 0, 0), (396, none, .aload_n 1, 1, 0, 0, 0), (397, none, .getstatic 105, 3, 4, 4, 0), (400, none, .if_acmp .eq 10, 3, 410, 0, 0), (403, none, .aload_n 1, 1, 0, 0, 0), (404, none, .getstatic 108, 3, 4, 8, 0), (407, none, .if_acmp .ne 7, 3, 414, 0, 0), (410, none, .aload_n 1, 1, 0, 0, 0), (411, none, .goto 4, 3, 415, 0, 0)] := fq_of2 cd_291 ow_291 cl_291 rfl (pc := 384) (by decide +kernel)
    j_aldn (pc := 384) D rfl rfl rfl fun D =>
    j_aldn (pc := 385) D rfl rfl rfl fun D =>
    j_ane (pc := 386) D rfl (fun q D =>
      j_aldn (pc := 389) D rfl rfl rfl fun D =>
      j_gs (pc := 390) D rfl fun D =>
      j_aeq (pc := 393) D rfl (fun q =>
        have D : fk_D 291 [(410, none, .aload_n 1, 1, 0, 0, 0), (411, none, .goto 4, 3, 415, 0, 0)] := fq_of2 cd_291 ow_291 cl_291 rfl (pc := 410) (by decide +kernel)
        j_aldn (pc := 410) D rfl rfl rfl fun D =>
        j_goto (pc := 411) D rfl <|
        have D : fk_D 291 [(415, none, .areturn, 1, 0, 0, 0)] := fq_of2 cd_291 ow_291 cl_291 rfl (pc := 415) (by decide +kernel)
        j_aret D rt_291) (fun q D =>
        j_aldn (pc := 396) D rfl rfl rfl fun D =>
        j_gs (pc := 397) D rfl fun D =>
        j_aeq (pc := 400) D rfl (fun q =>
          have D : fk_D 291 [(410, none, .aload_n 1, 1, 0, 0, 0), (411, none, .goto 4, 3, 415, 0, 0)] := fq_of2 cd_291 ow_291 cl_291 rfl (pc := 410) (by decide +kernel)
          j_aldn (pc := 410) D rfl rfl rfl fun D =>
          j_goto (pc := 411) D rfl <|
          have D : fk_D 291 [(415, none, .areturn, 1, 0, 0, 0)] := fq_of2 cd_291 ow_291 cl_291 rfl (pc := 415) (by decide +kernel)
          j_aret D rt_291) (fun q D =>
          j_aldn (pc := 403) D rfl rfl rfl fun D =>
          j_gs (pc := 404) D rfl fun D =>
          j_ane (pc := 407) D rfl (fun q D =>
            j_aldn (pc := 410) D rfl rfl rfl fun D =>
            j_goto (pc := 411) D rfl <|
            have D : fk_D 291 [(415, none, .areturn, 1, 0, 0, 0)] := fq_of2 cd_291 ow_291 cl_291 rfl (pc := 415) (by decide +kernel)
            j_aret D rt_291) (fun q =>
            have D : fk_D 291 [(414, none, .aconst_null, 1, 0, 0, 0), (415, none, .areturn, 1, 0, 0, 0)] := fq_of2 cd_291 ow_291 cl_291 rfl (pc := 414) (by decide +kernel)
            j_c0 (pc := 414) (v := (4, 0)) D rfl rfl (by decide +kernel) fun D =>
            j_aret D rt_291)))) (fun q =>
      have D : fk_D 291 [(414, none, .aconst_null, 1, 0, 0, 0), (415, none, .areturn, 1, 0, 0, 0)] := fq_of2 cd_291 ow_291 cl_291 rfl (pc := 414) (by decide +kernel)
      j_c0 (pc := 414) (v := (4, 0)) D rfl rfl (by decide +kernel) fun D =>
      j_aret D rt_291)
theorem e_291_416 (d : Nat) (x1 x2 : Int) {h : fi_H} (H : Shp h) : c_291_416 d x1 x2 h =
  if x2 = 9 then
    some (.inl (some (4, x1)), h)
  else
    some (.inl (some (4, 0)), h) := by
  unfold c_291_416
  exact
    have D : fk_D 291 [(416, some [1, 2], .aload_n 2, 1, 0, 0, 0), (417, none, .getstatic 111, 3, 4, 9, 0), (420, none, .if_acmp .ne 7, 3, 427, 0, 0), (423, none, .aload_n 1, 1, 0, 0, 0), (424, none, .goto 4, 3, 428, 0, 0)] := fq_of2 cd_291 ow_291 cl_291 rfl (pc := 416) (by decide +kernel)
    j_aldn (pc := 416) D rfl rfl rfl fun D =>
    j_gs (pc := 417) D rfl fun D =>
    j_ane (pc := 420) D rfl (fun q D =>
      j_aldn (pc := 423) D rfl rfl rfl fun D =>
      j_goto (pc := 424) D rfl <|
      have D : fk_D 291 [(428, none, .areturn, 1, 0, 0, 0)] := fq_of2 cd_291 ow_291 cl_291 rfl (pc := 428) (by decide +kernel)
      j_aret D rt_291) (fun q =>
      have D : fk_D 291 [(427, none, .aconst_null, 1, 0, 0, 0), (428, none, .areturn, 1, 0, 0, 0)] := fq_of2 cd_291 ow_291 cl_291 rfl (pc := 427) (by decide +kernel)
      j_c0 (pc := 427) (v := (4, 0)) D rfl rfl (by decide +kernel) fun D =>
      j_aret D rt_291)
theorem e_291_429 (d : Nat) (x1 x2 : Int) {h : fi_H} (H : Shp h) : c_291_429 d x1 x2 h =
  if x2 = 6 then
    some (.inl (some (4, x1)), h)
  else
    some (.inl (some (4, 0)), h) := by
  unfold c_291_429
  exact
    have D : fk_D 291 [(429, some [1, 2], .aload_n 2, 1, 0, 0, 0), (430, none, .getstatic 99, 3, 4, 6, 0), (433, none, .if_acmp .ne 7, 3, 440, 0, 0), (436, none, .aload_n 1, 1, 0, 0, 0), (437, none, .goto 4, 3, 441, 0, 0)] := fq_of2 cd_291 ow_291 cl_291 rfl (pc := 429) (by decide +kernel)
    j_aldn (pc := 429) D rfl rfl rfl fun D =>
    j_gs (pc := 430) D rfl fun D =>
    j_ane (pc := 433) D rfl (fun q D =>
      j_aldn (pc := 436) D rfl rfl rfl fun D =>
      j_goto (pc := 437) D rfl <|
      have D : fk_D 291 [(441, none, .areturn, 1, 0, 0, 0)] := fq_of2 cd_291 ow_291 cl_291 rfl (pc := 441) (by decide +kernel)
      j_aret D rt_291) (fun q =>
      have D : fk_D 291 [(440, none, .aconst_null, 1, 0, 0, 0), (441, none, .areturn, 1, 0, 0, 0)] := fq_of2 cd_291 ow_291 cl_291 rfl (pc := 440) (by decide +kernel)
      j_c0 (pc := 440) (v := (4, 0)) D rfl rfl (by decide +kernel) fun D =>
      j_aret D rt_291)
theorem m_291 (d : Nat) (x0 x1 x2 : Int) {h : fi_H} {k0 : Int} (H : Shp h) (hk : h 0 x0.toNat 0 = k0) (hk0 : k0 ≠ 0) : fj_run (d + 1) 291 h [(4, x0), (4, x1), (4, x2)] =
  dv_ (fi_vt 334 (h 0 x1.toNat 0)) fun m4 => ca_ (fj_run d m4 h [(4, x1)]) 0
    (fun v2 h1 =>
    if v2 = 0 then
      c_291_18 d x0 x1 x2 h1
    else
      dv_ (fi_vt 334 (h1 0 x2.toNat 0)) fun m8 => ca_ (fj_run d m8 h1 [(4, x2)]) 0
        (fun v6 h5 =>
        if v6 = 0 then
          c_291_18 d x0 x1 x2 h5
        else
          c_291_19 d x0 x1 x2 1 h5)
        (fun q7 h5 => tx_ q7 h5))
    (fun q3 h1 => tx_ q3 h1) := by
  rw [fj_run_eq d (by decide) h [(4, x0), (4, x1), (4, x2)] (Nat.le_of_ble_eq_true (by rw [nl_291]; rfl))]
  show gG (fj_run d) 291 0 [(0, (4, x0)), (1, (4, x1)), (2, (4, x2))] [] h = _
  exact
    have D : fk_D 291 [(0, none, .aload_n 1, 1, 0, 0, 0), (1, none, .invokevirtual 81, 3, 0, 334, 1), (4, none, .ifCond .eq 14, 3, 18, 0, 0), (7, none, .aload_n 2, 1, 0, 0, 0), (8, none, .invokevirtual 81, 3, 0, 334, 1), (11, none, .ifCond .eq 7, 3, 18, 0, 0), (14, none, .iconst 1, 1, 0, 1, 0), (15, none, .goto 4, 3, 19, 0, 0)] := fq_of2 cd_291 ow_291 cl_291 rfl (pc := 0) (by decide +kernel)
    j_aldn (pc := 0) D rfl rfl rfl fun D =>
    j_ivu (pc := 1) (dd := 334) (a := []) (rest := []) H.2.1 D rfl rfl rfl rfl rfl (fun m4 v2 h1 e1 D =>
      have T := fj_run_ok _ _ _ _ _ _ H.1 e1
      have hk := cls_st H.1 T.2 hk hk0
      have H := shp_st H T
      j_ifeq (pc := 4) D rfl (fun q =>
        fk_jump cut_291_18 rfl rfl) (fun q D =>
        j_aldn (pc := 7) D rfl rfl rfl fun D =>
        j_ivu (pc := 8) (dd := 334) (a := []) (rest := []) H.2.1 D rfl rfl rfl rfl rfl (fun m8 v6 h5 e1 D =>
          have T := fj_run_ok _ _ _ _ _ _ H.1 e1
          have hk := cls_st H.1 T.2 hk hk0
          have H := shp_st H T
          j_ifeq (pc := 11) D rfl (fun q =>
            fk_jump cut_291_18 rfl rfl) (fun q D =>
            j_ic (pc := 14) D rfl fun D =>
            j_goto (pc := 15) D rfl <|
            fk_jump cut_291_19 rfl rfl)) (fun m8 q7 h5 e1 =>
          j_tx (hx_291 _)))) (fun m4 q3 h1 e1 =>
      j_tx (hx_291 _))
/-! 292 StatuteHouse$Kind.isPlain()Z -/
theorem cd_292 : fi_code 292 = prog_39_method_4_code := rfl
theorem hx_292 : ∀ pc, fi_hat 292 pc = none := fun pc => by unfold fi_hat; rw [show fi_hh 292 = [] from rfl]; rfl
theorem rt_292 : fi_ret 292 = some .boolean := rfl
theorem nl_292 : fi_nl 292 = 1 := rfl
theorem ow_292 : fi_ow 292 = 59 := rfl
theorem cl_292 : fj_cutT.getD 292 [] = [] := rfl
theorem m_292 (d : Nat) (x0 : Int) {h : fi_H} {k0 : Int} (H : Shp h) (hk : h 0 x0.toNat 0 = k0) (hk0 : k0 ≠ 0) : fj_run (d + 1) 292 h [(4, x0)] =
  if x0 = 3 then
    some (.inl (some (0, 1)), h)
  else
    if x0 = 5 then
      some (.inl (some (0, 1)), h)
    else
      some (.inl (some (0, 0)), h) := by
  rw [fj_run_eq d (by decide) h [(4, x0)] (Nat.le_of_ble_eq_true (by rw [nl_292]; rfl))]
  show gG (fj_run d) 292 0 [(0, (4, x0))] [] h = _
  exact
    have D : fk_D 292 [(0, none, .aload_n 0, 1, 0, 0, 0), (1, none, .getstatic 7, 3, 4, 3, 0), (4, none, .if_acmp .eq 10, 3, 14, 0, 0), (7, none, .aload_n 0, 1, 0, 0, 0), (8, none, .getstatic 13, 3, 4, 5, 0), (11, none, .if_acmp .ne 7, 3, 18, 0, 0), (14, none, .iconst 1, 1, 0, 1, 0), (15, none, .goto 4, 3, 19, 0, 0)] := fq_of2 cd_292 ow_292 cl_292 rfl (pc := 0) (by decide +kernel)
    j_aldn (pc := 0) D rfl rfl rfl fun D =>
    j_gs (pc := 1) D rfl fun D =>
    j_aeq (pc := 4) D rfl (fun q =>
      have D : fk_D 292 [(14, none, .iconst 1, 1, 0, 1, 0), (15, none, .goto 4, 3, 19, 0, 0)] := fq_of2 cd_292 ow_292 cl_292 rfl (pc := 14) (by decide +kernel)
      j_ic (pc := 14) D rfl fun D =>
      j_goto (pc := 15) D rfl <|
      have D : fk_D 292 [(19, none, .ireturn, 1, 0, 0, 0)] := fq_of2 cd_292 ow_292 cl_292 rfl (pc := 19) (by decide +kernel)
      j_zret D rt_292 (gy (by decide))) (fun q D =>
      j_aldn (pc := 7) D rfl rfl rfl fun D =>
      j_gs (pc := 8) D rfl fun D =>
      j_ane (pc := 11) D rfl (fun q D =>
        j_ic (pc := 14) D rfl fun D =>
        j_goto (pc := 15) D rfl <|
        have D : fk_D 292 [(19, none, .ireturn, 1, 0, 0, 0)] := fq_of2 cd_292 ow_292 cl_292 rfl (pc := 19) (by decide +kernel)
        j_zret D rt_292 (gy (by decide))) (fun q =>
        have D : fk_D 292 [(18, none, .iconst 0, 1, 0, 0, 0), (19, none, .ireturn, 1, 0, 0, 0)] := fq_of2 cd_292 ow_292 cl_292 rfl (pc := 18) (by decide +kernel)
        j_ic (pc := 18) D rfl fun D =>
        j_zret D rt_292 (gy (by decide))))
/-! 293 StatuteHouse$Sign.plain(LStatuteHouse$Kind;LStatuteHouse$Kind;)LStatuteHouse$Kind; -/
theorem cd_293 : fi_code 293 = prog_60_method_4_code := rfl
theorem hx_293 : ∀ pc, fi_hat 293 pc = none := fun pc => by unfold fi_hat; rw [show fi_hh 293 = [] from rfl]; rfl
theorem rt_293 : fj_ft (fi_ret 293) = 5 := rfl
theorem nl_293 : fi_nl 293 = 2 := rfl
theorem ow_293 : fi_ow 293 = 67 := rfl
theorem cl_293 : fj_cutT.getD 293 [] = [] := rfl
theorem m_293 (d : Nat) (x0 x1 : Int) {h : fi_H} (H : Shp h) : fj_run (d + 1) 293 h [(4, x0), (4, x1)] =
  if x0 = 5 then
    some (.inl (some (4, 5)), h)
  else
    if x1 = 5 then
      some (.inl (some (4, 5)), h)
    else
      some (.inl (some (4, 3)), h) := by
  rw [fj_run_eq d (by decide) h [(4, x0), (4, x1)] (Nat.le_of_ble_eq_true (by rw [nl_293]; rfl))]
  show gG (fj_run d) 293 0 [(0, (4, x0)), (1, (4, x1))] [] h = _
  exact
    have D : fk_D 293 [(0, none, .aload_n 0, 1, 0, 0, 0), (1, none, .getstatic 72, 3, 4, 5, 0), (4, none, .if_acmp .eq 10, 3, 14, 0, 0), (7, none, .aload_n 1, 1, 0, 0, 0), (8, none, .getstatic 72, 3, 4, 5, 0), (11, none, .if_acmp .ne 9, 3, 20, 0, 0), (14, none, .getstatic 72, 3, 4, 5, 0), (17, none, .goto 6, 3, 23, 0, 0)] := fq_of2 cd_293 ow_293 cl_293 rfl (pc := 0) (by decide +kernel)
    j_aldn (pc := 0) D rfl rfl rfl fun D =>
    j_gs (pc := 1) D rfl fun D =>
    j_aeq (pc := 4) D rfl (fun q =>
      have D : fk_D 293 [(14, none, .getstatic 72, 3, 4, 5, 0), (17, none, .goto 6, 3, 23, 0, 0)] := fq_of2 cd_293 ow_293 cl_293 rfl (pc := 14) (by decide +kernel)
      j_gs (pc := 14) D rfl fun D =>
      j_goto (pc := 17) D rfl <|
      have D : fk_D 293 [(23, none, .areturn, 1, 0, 0, 0)] := fq_of2 cd_293 ow_293 cl_293 rfl (pc := 23) (by decide +kernel)
      j_aret D rt_293) (fun q D =>
      j_aldn (pc := 7) D rfl rfl rfl fun D =>
      j_gs (pc := 8) D rfl fun D =>
      j_ane (pc := 11) D rfl (fun q D =>
        j_gs (pc := 14) D rfl fun D =>
        j_goto (pc := 17) D rfl <|
        have D : fk_D 293 [(23, none, .areturn, 1, 0, 0, 0)] := fq_of2 cd_293 ow_293 cl_293 rfl (pc := 23) (by decide +kernel)
        j_aret D rt_293) (fun q =>
        have D : fk_D 293 [(20, none, .getstatic 78, 3, 4, 3, 0), (23, none, .areturn, 1, 0, 0, 0)] := fq_of2 cd_293 ow_293 cl_293 rfl (pc := 20) (by decide +kernel)
        j_gs (pc := 20) D rfl fun D =>
        j_aret D rt_293))
/-! 294 StatuteHouse$Two.<init>(LStatuteHouse;LStatuteHouse$Sign;LStatuteHouse$Part;LStatuteHouse$Part;)V -/
theorem cd_294 : fi_code 294 = prog_64_method_1_code := rfl
theorem hx_294 : ∀ pc, fi_hat 294 pc = none := fun pc => by unfold fi_hat; rw [show fi_hh 294 = [] from rfl]; rfl
theorem rt_294 : fi_ret 294 = none := rfl
theorem nl_294 : fi_nl 294 = 5 := rfl
theorem ow_294 : fi_ow 294 = 25 := rfl
theorem cl_294 : fj_cutT.getD 294 [] = [] := rfl
theorem m_294 (d : Nat) (x0 x1 x2 x3 x4 : Int) {h : fi_H} (H : Shp h) (hk : h 0 x0.toNat 0 = 125) : fj_run (d + 1) 294 h [(4, x0), (4, x1), (4, x2), (4, x3), (4, x4)] =
  if 302 < x0 then
  if h 369 x0.toNat 0 = 0 then
  lt_ (fi_upd h 369 x0.toNat 0 x1) fun h1 =>
  if fi_in (h1 0 x3.toNat 0) 340 = true then
  if fi_in (h1 0 x4.toNat 0) 340 = true then
  dv_ (fi_vt 233 (h1 0 x2.toNat 0)) fun m5 => ca_ (fj_run d m5 h1 [(4, x2), (4, h1 340 x3.toNat 0), (4, h1 340 x4.toNat 0)]) 4
    (fun v3 h2 =>
    if fi_in (h2 0 x3.toNat 0) 341 = true then
    if fi_in (h2 0 x4.toNat 0) 341 = true then
    ca_ (fj_run d 6 h2 [(0, h2 341 x3.toNat 0), (0, h2 341 x4.toNat 0)]) 0
      (fun v7 h6 =>
      cv_ (fj_run d 245 h6 [(4, x0), (4, x1), (4, v3), (0, wI (v7 + 1))])
        (fun h9 =>
        if 302 < x0 then
        if h9 366 x0.toNat 0 = 0 then
        lt_ (fi_upd h9 366 x0.toNat 0 x2) fun h12 =>
        if 302 < x0 then
        if h12 367 x0.toNat 0 = 0 then
        lt_ (fi_upd h12 367 x0.toNat 0 x3) fun h13 =>
        if 302 < x0 then
        if h13 368 x0.toNat 0 = 0 then
        lt_ (fi_upd h13 368 x0.toNat 0 x4) fun h14 =>
        some (.inl none, h14)
        else none
        else none
        else none
        else none
        else none
        else none)
        (fun q11 h9 => tx_ q11 h9))
      (fun q8 h6 => tx_ q8 h6)
    else none
    else none)
    (fun q4 h2 => tx_ q4 h2)
  else none
  else none
  else none
  else none := by
  rw [fj_run_eq d (by decide) h [(4, x0), (4, x1), (4, x2), (4, x3), (4, x4)] (Nat.le_of_ble_eq_true (by rw [nl_294]; rfl))]
  show gG (fj_run d) 294 0 [(0, (4, x0)), (1, (4, x1)), (2, (4, x2)), (3, (4, x3)), (4, (4, x4))] [] h = _
  exact
    have D : fk_D 294 [(0, none, .aload_n 0, 1, 0, 0, 0), (1, none, .aload_n 1, 1, 0, 0, 0), (2, none, .putfield 1, 3, 369, 125, 112), (5, none, .aload_n 0, 1, 0, 0, 0), (6, none, .aload_n 1, 1, 0, 0, 0), (7, none, .aload_n 2, 1, 0, 0, 0), (8, none, .aload_n 3, 1, 0, 0, 0), (9, none, .getfield 7, 3, 340, 0, 12), (12, none, .aload 4, 2, 0, 0, 0), (14, none, .getfield 7, 3, 340, 0, 12), (17, none, .invokevirtual 13, 3, 2, 233, 5), (20, none, .aload_n 3, 1, 0, 0, 0), (21, none, .getfield 19, 3, 341, 0, 10), (24, none, .aload 4, 2, 0, 0, 0), (26, none, .getfield 19, 3, 341, 0, 10), (29, none, .invokestatic 23, 3, 2, 6, 1), (32, none, .iconst 1, 1, 0, 1, 0), (33, none, .iadd, 1, 0, 0, 0), (34, none, .invokespecial 29, 3, 3, 245, 0), (37, none, .aload_n 0, 1, 0, 0, 0)] := fq_of2 cd_294 ow_294 cl_294 rfl (pc := 0) (by decide +kernel)
    j_aldn (pc := 0) D rfl rfl rfl fun D =>
    j_aldn (pc := 1) D rfl rfl rfl fun D =>
    j_pfF (pc := 2) (a := x0.toNat) (ty := 12) D rfl rfl rfl hk ⟨rfl, rfl⟩ rfl gn (gy rfl) gn fun h1 eh1 S D =>
    have T := fj_hs_ok H.1 S
    have hk := cls_st H.1 T.2 hk (by decide)
    have H := shp_st H T
    j_aldn (pc := 5) D rfl rfl rfl fun D =>
    j_aldn (pc := 6) D rfl rfl rfl fun D =>
    j_aldn (pc := 7) D rfl rfl rfl fun D =>
    j_aldn (pc := 8) D rfl rfl rfl fun D =>
    j_gfu (pc := 9) H.2.1 D rfl rfl fun q D =>
    j_ald (pc := 12) D rfl rfl rfl fun D =>
    j_gfu (pc := 14) H.2.1 D rfl rfl fun q D =>
    j_ivu (pc := 17) (dd := 233) (a := [(4, h1 340 x3.toNat 0), (4, h1 340 x4.toNat 0)]) (rest := [(4, x1), (4, x0)]) H.2.1 D rfl rfl rfl rfl rfl (fun m5 v3 h2 e1 D =>
      have T := fj_run_ok _ _ _ _ _ _ H.1 e1
      have hk := cls_st H.1 T.2 hk (by decide)
      have H := shp_st H T
      j_aldn (pc := 20) D rfl rfl rfl fun D =>
      j_gfu (pc := 21) H.2.1 D rfl rfl fun q D =>
      j_ald (pc := 24) D rfl rfl rfl fun D =>
      j_gfu (pc := 26) H.2.1 D rfl rfl fun q D =>
      j_is (pc := 29) (m := 6) (a := [(0, h2 341 x3.toNat 0), (0, h2 341 x4.toNat 0)]) (rest := [(4, v3), (4, x1), (4, x0)]) D rfl rfl rfl rfl (fun v7 h6 e1 D =>
        have T := fj_run_ok _ _ _ _ _ _ H.1 e1
        have hk := cls_st H.1 T.2 hk (by decide)
        have H := shp_st H T
        j_ic (pc := 32) D rfl fun D =>
        j_iadd (pc := 33) D rfl fun D =>
        j_spv (pc := 34) (m := 245) (a := [(4, x1), (4, v3), (0, wI (v7 + 1))]) (rest := []) D rfl rfl rfl rfl (by rw [show h6 0 x0.toNat 0 = 125 from hk]; decide) (nz_cls H.2.1 hk (by decide)) (fun h9 e1 D =>
          have T := fj_run_ok _ _ _ _ _ _ H.1 e1
          have hk := cls_st H.1 T.2 hk (by decide)
          have H := shp_st H T
          j_aldn (pc := 37) D rfl rfl rfl fun D =>
          have D : fk_D 294 [(38, none, .aload_n 2, 1, 0, 0, 0), (39, none, .putfield 33, 3, 366, 125, 112), (42, none, .aload_n 0, 1, 0, 0, 0), (43, none, .aload_n 3, 1, 0, 0, 0), (44, none, .putfield 37, 3, 367, 125, 112), (47, none, .aload_n 0, 1, 0, 0, 0), (48, none, .aload 4, 2, 0, 0, 0), (50, none, .putfield 41, 3, 368, 125, 112), (53, none, .return_, 1, 0, 0, 0)] := fq_of2 cd_294 ow_294 cl_294 rfl (pc := 38) (by decide +kernel)
          j_aldn (pc := 38) D rfl rfl rfl fun D =>
          j_pfF (pc := 39) (a := x0.toNat) (ty := 12) D rfl rfl rfl hk ⟨rfl, rfl⟩ rfl gn (gy rfl) gn fun h12 eh12 S D =>
          have T := fj_hs_ok H.1 S
          have hk := cls_st H.1 T.2 hk (by decide)
          have H := shp_st H T
          j_aldn (pc := 42) D rfl rfl rfl fun D =>
          j_aldn (pc := 43) D rfl rfl rfl fun D =>
          j_pfF (pc := 44) (a := x0.toNat) (ty := 12) D rfl rfl rfl hk ⟨rfl, rfl⟩ rfl gn (gy rfl) gn fun h13 eh13 S D =>
          have T := fj_hs_ok H.1 S
          have hk := cls_st H.1 T.2 hk (by decide)
          have H := shp_st H T
          j_aldn (pc := 47) D rfl rfl rfl fun D =>
          j_ald (pc := 48) D rfl rfl rfl fun D =>
          j_pfF (pc := 50) (a := x0.toNat) (ty := 12) D rfl rfl rfl hk ⟨rfl, rfl⟩ rfl gn (gy rfl) gn fun h14 eh14 S D =>
          have T := fj_hs_ok H.1 S
          have hk := cls_st H.1 T.2 hk (by decide)
          have H := shp_st H T
          j_vret D rt_294) (fun q11 h9 e1 =>
          j_tx (hx_294 _))) (fun q8 h6 e1 =>
        j_tx (hx_294 _))) (fun m5 q4 h2 e1 =>
      j_tx (hx_294 _))
/-! 295 StatuteHouse$Reader.one(LStatuteHouse$Part;ZI)LStatuteHouse$Part; -/
theorem cd_295 : fi_code 295 = prog_53_method_66_code := rfl
theorem hx_295 : ∀ pc, fi_hat 295 pc = none := fun pc => by unfold fi_hat; rw [show fi_hh 295 = [] from rfl]; rfl
theorem rt_295 : fj_ft (fi_ret 295) = 5 := rfl
theorem nl_295 : fi_nl 295 = 4 := rfl
theorem ow_295 : fi_ow 295 = 15 := rfl
theorem cl_295 : fj_cutT.getD 295 [] = [(37, [0, 3]), (47, [0, 1, 3])] := rfl
theorem cut_295_37 : fj_cut 295 37 = some [0, 3] := by decide +kernel
noncomputable def c_295_37 (d : Nat) (x3 : Int) (h : fi_H) : fk_R := gG (fj_run d) 295 37 [(0, (4, 377)), (3, (0, x3))] [] h
theorem cut_295_47 : fj_cut 295 47 = some [0, 1, 3] := by decide +kernel
noncomputable def c_295_47 (d : Nat) (x1 x3 : Int) (h : fi_H) : fk_R := gG (fj_run d) 295 47 [(0, (4, 377)), (1, (4, x1)), (3, (0, x3))] [] h
theorem e_295_37 (d : Nat) (x3 : Int) {h : fi_H} (H : Shp h) : c_295_37 d x3 h =
  ca_ (fj_run d 165 h [(4, 303), (0, 5), (0, x3)]) 4
    (fun v2 h1 =>
    if v2 ≠ 0 then
    tx_ v2.toNat h1
    else none)
    (fun q3 h1 => tx_ q3 h1) := by
  unfold c_295_37
  exact
    have D : fk_D 295 [(37, some [0, 3], .aload_n 0, 1, 0, 0, 0), (38, none, .getfield 3, 3, 182, 115, 12), (41, none, .iconst 5, 1, 0, 5, 0), (42, none, .iload_n 3, 1, 0, 0, 0), (43, none, .invokevirtual 186, 3, 2, 257, 5), (46, none, .athrow, 1, 0, 0, 0)] := fq_of2 cd_295 ow_295 cl_295 rfl (pc := 37) (by decide +kernel)
    j_aldn (pc := 37) D rfl rfl rfl fun D =>
    j_gfc (pc := 38) (a := 377) D rfl rfl (by decide) rfl (s0_377 H) rfl (sf_182_377 H) fun D =>
    j_ic (pc := 41) D rfl fun D =>
    j_ildn (pc := 42) D rfl rfl rfl fun D =>
    j_iv (pc := 43) (m := 165) (dd := 257) (a := [(0, 5), (0, x3)]) (rest := []) D rfl rfl rfl rfl rfl (by decide) (s0_303 H) (by decide +kernel) (fun v2 h1 e1 D =>
      have T := fj_run_ok _ _ _ _ _ _ H.1 e1
      have H := shp_st H T
      j_at (pc := 46) D gn <|
      j_tx (hx_295 _)) (fun q3 h1 e1 =>
      j_tx (hx_295 _))
theorem e_295_47 (d : Nat) (x1 x3 : Int) {h : fi_H} (H : Shp h) : c_295_47 d x1 x3 h =
  if fi_in (h 0 x1.toNat 0) 341 = true then
  cv_ (fj_run d 243 h [(4, 377), (0, wI ((h 341 x1.toNat 0) + 1)), (0, x3)])
    (fun h1 =>
    nw_ h1 112 6 0 fun r4 h5 =>
    cv_ (fj_run d 296 h5 [(4, r4), (4, 303), (4, x1)])
      (fun h6 =>
      some (.inl (some (4, r4)), h6))
      (fun q8 h6 => tx_ q8 h6))
    (fun q3 h1 => tx_ q3 h1)
  else none := by
  unfold c_295_47
  exact
    have D : fk_D 295 [(47, some [0, 1, 3], .aload_n 0, 1, 0, 0, 0), (48, none, .aload_n 1, 1, 0, 0, 0), (49, none, .getfield 734, 3, 341, 0, 10), (52, none, .iconst 1, 1, 0, 1, 0), (53, none, .iadd, 1, 0, 0, 0), (54, none, .iload_n 3, 1, 0, 0, 0), (55, none, .invokevirtual 740, 3, 2, 310, 0), (58, none, .new 754, 3, 112, 6, 0), (61, none, .dup, 1, 0, 0, 0), (62, none, .aload_n 0, 1, 0, 0, 0), (63, none, .getfield 3, 3, 182, 115, 12), (66, none, .aload_n 1, 1, 0, 0, 0), (67, none, .invokespecial 756, 3, 2, 296, 0), (70, none, .areturn, 1, 0, 0, 0)] := fq_of2 cd_295 ow_295 cl_295 rfl (pc := 47) (by decide +kernel)
    j_aldn (pc := 47) D rfl rfl rfl fun D =>
    j_aldn (pc := 48) D rfl rfl rfl fun D =>
    j_gfu (pc := 49) H.2.1 D rfl rfl fun q D =>
    j_ic (pc := 52) D rfl fun D =>
    j_iadd (pc := 53) D rfl fun D =>
    j_ildn (pc := 54) D rfl rfl rfl fun D =>
    j_ivv (pc := 55) (m := 243) (dd := 310) (a := [(0, wI ((h 341 x1.toNat 0) + 1)), (0, x3)]) (rest := []) D rfl rfl rfl rfl rfl (by decide) (s0_377 H) (by decide +kernel) (fun h1 e1 D =>
      have T := fj_run_ok _ _ _ _ _ _ H.1 e1
      have H := shp_st H T
      j_new (pc := 58) D rfl fun r4 h5 er eh5 S D =>
      have gt_r4 := nw_gt H.1 er
      have kc_r4 := nw_cls H.1 er eh5
      have T := fj_hs_ok H.1 S
      have H := shp_st H T
      j_sh (pc := 61) D rfl rfl rfl fun D =>
      j_aldn (pc := 62) D rfl rfl rfl fun D =>
      j_gfc (pc := 63) (a := 377) D rfl rfl (by decide) rfl (s0_377 H) rfl (sf_182_377 H) fun D =>
      j_aldn (pc := 66) D rfl rfl rfl fun D =>
      j_spv (pc := 67) (m := 296) (a := [(4, 303), (4, x1)]) (rest := [(4, r4)]) D rfl rfl rfl rfl (by rw [show h5 0 r4.toNat 0 = 112 from kc_r4]; decide) (gt_nz gt_r4) (fun h6 e1 D =>
        have T := fj_run_ok _ _ _ _ _ _ H.1 e1
        have kc_r4 := cls_st H.1 T.2 kc_r4 (by decide)
        have H := shp_st H T
        j_aret D rt_295) (fun q8 h6 e1 =>
        j_tx (hx_295 _))) (fun q3 h1 e1 =>
      j_tx (hx_295 _))
theorem m_295 (d : Nat) (x1 x2 x3 : Int) {h : fi_H} (H : Shp h) : fj_run (d + 1) 295 h [(4, 377), (4, x1), (0, x2), (0, x3)] =
  if x2 = 0 then
    if fi_in (h 0 x1.toNat 0) 340 = true then
    dv_ (fi_vt 311 (h 0 (h 340 x1.toNat 0).toNat 0)) fun m4 => ca_ (fj_run d m4 h [(4, h 340 x1.toNat 0)]) 0
      (fun v2 h1 =>
      if v2 = 0 then
        if fi_in (h1 0 x1.toNat 0) 340 = true then
        if h1 340 x1.toNat 0 = 7 then
          c_295_47 d x1 x3 h1
        else
          c_295_37 d x3 h1
        else none
      else
        c_295_47 d x1 x3 h1)
      (fun q3 h1 => tx_ q3 h1)
    else none
  else
    if fi_in (h 0 x1.toNat 0) 340 = true then
    if h 340 x1.toNat 0 = 2 then
      c_295_47 d x1 x3 h
    else
      c_295_37 d x3 h
    else none := by
  rw [fj_run_eq d (by decide) h [(4, 377), (4, x1), (0, x2), (0, x3)] (Nat.le_of_ble_eq_true (by rw [nl_295]; rfl))]
  show gG (fj_run d) 295 0 [(0, (4, 377)), (1, (4, x1)), (2, (0, x2)), (3, (0, x3))] [] h = _
  exact
    have D : fk_D 295 [(0, none, .iload_n 2, 1, 0, 0, 0), (1, none, .ifCond .eq 16, 3, 17, 0, 0), (4, none, .aload_n 1, 1, 0, 0, 0), (5, none, .getfield 691, 3, 340, 0, 12), (8, none, .getstatic 439, 3, 4, 2, 0), (11, none, .if_acmp .eq 36, 3, 47, 0, 0), (14, none, .goto 23, 3, 37, 0, 0)] := fq_of2 cd_295 ow_295 cl_295 rfl (pc := 0) (by decide +kernel)
    j_ildn (pc := 0) D rfl rfl rfl fun D =>
    j_ifeq (pc := 1) D rfl (fun q =>
      have D : fk_D 295 [(17, none, .aload_n 1, 1, 0, 0, 0), (18, none, .getfield 691, 3, 340, 0, 12), (21, none, .invokevirtual 751, 3, 0, 311, 1), (24, none, .ifCond .ne 23, 3, 47, 0, 0), (27, none, .aload_n 1, 1, 0, 0, 0), (28, none, .getfield 691, 3, 340, 0, 12), (31, none, .getstatic 423, 3, 4, 7, 0), (34, none, .if_acmp .eq 13, 3, 47, 0, 0)] := fq_of2 cd_295 ow_295 cl_295 rfl (pc := 17) (by decide +kernel)
      j_aldn (pc := 17) D rfl rfl rfl fun D =>
      j_gfu (pc := 18) H.2.1 D rfl rfl fun q D =>
      j_ivu (pc := 21) (dd := 311) (a := []) (rest := []) H.2.1 D rfl rfl rfl rfl rfl (fun m4 v2 h1 e1 D =>
        have T := fj_run_ok _ _ _ _ _ _ H.1 e1
        have H := shp_st H T
        j_ifne (pc := 24) D rfl (fun q D =>
          j_aldn (pc := 27) D rfl rfl rfl fun D =>
          j_gfu (pc := 28) H.2.1 D rfl rfl fun q D =>
          j_gs (pc := 31) D rfl fun D =>
          j_aeq (pc := 34) D rfl (fun q =>
            fk_jump cut_295_47 rfl rfl) (fun q D =>
            fk_jump cut_295_37 rfl rfl)) (fun q =>
          fk_jump cut_295_47 rfl rfl)) (fun m4 q3 h1 e1 =>
        j_tx (hx_295 _))) (fun q D =>
      j_aldn (pc := 4) D rfl rfl rfl fun D =>
      j_gfu (pc := 5) H.2.1 D rfl rfl fun q D =>
      j_gs (pc := 8) D rfl fun D =>
      j_aeq (pc := 11) D rfl (fun q =>
        fk_jump cut_295_47 rfl rfl) (fun q D =>
        j_goto (pc := 14) D rfl <|
        fk_jump cut_295_37 rfl rfl))
/-! 296 StatuteHouse$One.<init>(LStatuteHouse;LStatuteHouse$Part;)V -/
theorem cd_296 : fi_code 296 = prog_49_method_1_code := rfl
theorem hx_296 : ∀ pc, fi_hat 296 pc = none := fun pc => by unfold fi_hat; rw [show fi_hh 296 = [] from rfl]; rfl
theorem rt_296 : fi_ret 296 = none := rfl
theorem nl_296 : fi_nl 296 = 3 := rfl
theorem ow_296 : fi_ow 296 = 12 := rfl
theorem cl_296 : fj_cutT.getD 296 [] = [] := rfl
theorem m_296 (d : Nat) (x0 x1 x2 : Int) {h : fi_H} (H : Shp h) (hk : h 0 x0.toNat 0 = 112) : fj_run (d + 1) 296 h [(4, x0), (4, x1), (4, x2)] =
  if 302 < x0 then
  if h 371 x0.toNat 0 = 0 then
  lt_ (fi_upd h 371 x0.toNat 0 x1) fun h1 =>
  if fi_in (h1 0 x2.toNat 0) 340 = true then
  if fi_in (h1 0 x2.toNat 0) 341 = true then
  cv_ (fj_run d 245 h1 [(4, x0), (4, x1), (4, h1 340 x2.toNat 0), (0, wI ((h1 341 x2.toNat 0) + 1))])
    (fun h2 =>
    if 302 < x0 then
    if h2 370 x0.toNat 0 = 0 then
    lt_ (fi_upd h2 370 x0.toNat 0 x2) fun h5 =>
    some (.inl none, h5)
    else none
    else none)
    (fun q4 h2 => tx_ q4 h2)
  else none
  else none
  else none
  else none := by
  rw [fj_run_eq d (by decide) h [(4, x0), (4, x1), (4, x2)] (Nat.le_of_ble_eq_true (by rw [nl_296]; rfl))]
  show gG (fj_run d) 296 0 [(0, (4, x0)), (1, (4, x1)), (2, (4, x2))] [] h = _
  exact
    have D : fk_D 296 [(0, none, .aload_n 0, 1, 0, 0, 0), (1, none, .aload_n 1, 1, 0, 0, 0), (2, none, .putfield 1, 3, 371, 112, 112), (5, none, .aload_n 0, 1, 0, 0, 0), (6, none, .aload_n 1, 1, 0, 0, 0), (7, none, .aload_n 2, 1, 0, 0, 0), (8, none, .getfield 7, 3, 340, 0, 12), (11, none, .aload_n 2, 1, 0, 0, 0), (12, none, .getfield 13, 3, 341, 0, 10), (15, none, .iconst 1, 1, 0, 1, 0), (16, none, .iadd, 1, 0, 0, 0), (17, none, .invokespecial 17, 3, 3, 245, 0), (20, none, .aload_n 0, 1, 0, 0, 0), (21, none, .aload_n 2, 1, 0, 0, 0), (22, none, .putfield 21, 3, 370, 112, 112), (25, none, .return_, 1, 0, 0, 0)] := fq_of2 cd_296 ow_296 cl_296 rfl (pc := 0) (by decide +kernel)
    j_aldn (pc := 0) D rfl rfl rfl fun D =>
    j_aldn (pc := 1) D rfl rfl rfl fun D =>
    j_pfF (pc := 2) (a := x0.toNat) (ty := 12) D rfl rfl rfl hk ⟨rfl, rfl⟩ rfl gn (gy rfl) gn fun h1 eh1 S D =>
    have T := fj_hs_ok H.1 S
    have hk := cls_st H.1 T.2 hk (by decide)
    have H := shp_st H T
    j_aldn (pc := 5) D rfl rfl rfl fun D =>
    j_aldn (pc := 6) D rfl rfl rfl fun D =>
    j_aldn (pc := 7) D rfl rfl rfl fun D =>
    j_gfu (pc := 8) H.2.1 D rfl rfl fun q D =>
    j_aldn (pc := 11) D rfl rfl rfl fun D =>
    j_gfu (pc := 12) H.2.1 D rfl rfl fun q D =>
    j_ic (pc := 15) D rfl fun D =>
    j_iadd (pc := 16) D rfl fun D =>
    j_spv (pc := 17) (m := 245) (a := [(4, x1), (4, h1 340 x2.toNat 0), (0, wI ((h1 341 x2.toNat 0) + 1))]) (rest := []) D rfl rfl rfl rfl (by rw [show h1 0 x0.toNat 0 = 112 from hk]; decide) (nz_cls H.2.1 hk (by decide)) (fun h2 e1 D =>
      have T := fj_run_ok _ _ _ _ _ _ H.1 e1
      have hk := cls_st H.1 T.2 hk (by decide)
      have H := shp_st H T
      j_aldn (pc := 20) D rfl rfl rfl fun D =>
      j_aldn (pc := 21) D rfl rfl rfl fun D =>
      j_pfF (pc := 22) (a := x0.toNat) (ty := 12) D rfl rfl rfl hk ⟨rfl, rfl⟩ rfl gn (gy rfl) gn fun h5 eh5 S D =>
      have T := fj_hs_ok H.1 S
      have hk := cls_st H.1 T.2 hk (by decide)
      have H := shp_st H T
      j_vret D rt_296) (fun q4 h2 e1 =>
      j_tx (hx_296 _))
/-! 297 StatuteHouse$Reader.joined(LStatuteHouse$Sign;LStatuteHouse$Part;)LStatuteHouse$Part; -/
theorem cd_297 : fi_code 297 = prog_53_method_63_code := rfl
theorem hx_297 : ∀ pc, fi_hat 297 pc = none := fun pc => by unfold fi_hat; rw [show fi_hh 297 = [] from rfl]; rfl
theorem rt_297 : fj_ft (fi_ret 297) = 5 := rfl
theorem nl_297 : fi_nl 297 = 5 := rfl
theorem ow_297 : fi_ow 297 = 15 := rfl
theorem cl_297 : fj_cutT.getD 297 [] = [(126, [0, 1, 2, 3, 4])] := rfl
theorem cut_297_126 : fj_cut 297 126 = some [0, 1, 2, 3, 4] := by decide +kernel
noncomputable def c_297_126 (d : Nat) (x1 x2 x3 x4 : Int) (h : fi_H) : fk_R := gG (fj_run d) 297 126 [(0, (4, 377)), (1, (4, x1)), (2, (4, x2)), (3, (0, x3)), (4, (4, x4))] [] h
theorem e_297_126 (d : Nat) (x1 x2 x3 x4 : Int) {h : fi_H} (H : Shp h) : c_297_126 d x1 x2 x3 x4 h =
  ca_ (fj_run d 290 h [(4, 377), (4, x1), (4, x2), (4, x4), (0, x3)]) 4
    (fun v2 h1 =>
    some (.inl (some (4, v2)), h1))
    (fun q3 h1 => tx_ q3 h1) := by
  unfold c_297_126
  exact
    have D : fk_D 297 [(126, some [0, 1, 2, 3, 4], .aload_n 0, 1, 0, 0, 0), (127, none, .aload_n 1, 1, 0, 0, 0), (128, none, .aload_n 2, 1, 0, 0, 0), (129, none, .aload 4, 2, 0, 0, 0), (131, none, .iload_n 3, 1, 0, 0, 0), (132, none, .invokevirtual 727, 3, 4, 309, 5), (135, none, .areturn, 1, 0, 0, 0)] := fq_of2 cd_297 ow_297 cl_297 rfl (pc := 126) (by decide +kernel)
    j_aldn (pc := 126) D rfl rfl rfl fun D =>
    j_aldn (pc := 127) D rfl rfl rfl fun D =>
    j_aldn (pc := 128) D rfl rfl rfl fun D =>
    j_ald (pc := 129) D rfl rfl rfl fun D =>
    j_ildn (pc := 131) D rfl rfl rfl fun D =>
    j_iv (pc := 132) (m := 290) (dd := 309) (a := [(4, x1), (4, x2), (4, x4), (0, x3)]) (rest := []) D rfl rfl rfl rfl rfl (by decide) (s0_377 H) (by decide +kernel) (fun v2 h1 e1 D =>
      have T := fj_run_ok _ _ _ _ _ _ H.1 e1
      have H := shp_st H T
      j_aret D rt_297) (fun q3 h1 e1 =>
      j_tx (hx_297 _))
theorem m_297 (d : Nat) (x1 x2 : Int) {h : fi_H} (H : Shp h) : fj_run (d + 1) 297 h [(4, 377), (4, x1), (4, x2)] =
  if 0 ≤ h 158 377 0 ∧ h 158 377 0 < 1202 then
  cv_ (fj_run d 166 h [(4, 377)])
    (fun h2 =>
    dv_ (fi_vt 234 (h2 0 x1.toNat 0)) fun m8 => ca_ (fj_run d m8 h2 [(4, x1)]) 0
      (fun v6 h5 =>
      if v6 = 0 then
        ca_ (fj_run d 232 h5 [(4, 377)]) 4
          (fun v10 h9 =>
          c_297_126 d x1 x2 (h 9 379 (h 158 377 0).toNat) v10 h9)
          (fun q11 h9 => tx_ q11 h9)
      else if v6 = 1 then
        ca_ (fj_run d 233 h5 [(4, 377)]) 4
          (fun v13 h12 =>
          c_297_126 d x1 x2 (h 9 379 (h 158 377 0).toNat) v13 h12)
          (fun q14 h12 => tx_ q14 h12)
      else if v6 = 8 then
        ca_ (fj_run d 236 h5 [(4, 377)]) 4
          (fun v16 h15 =>
          c_297_126 d x1 x2 (h 9 379 (h 158 377 0).toNat) v16 h15)
          (fun q17 h15 => tx_ q17 h15)
      else if v6 = 9 then
        ca_ (fj_run d 236 h5 [(4, 377)]) 4
          (fun v19 h18 =>
          c_297_126 d x1 x2 (h 9 379 (h 158 377 0).toNat) v19 h18)
          (fun q20 h18 => tx_ q20 h18)
      else if v6 = 10 then
        ca_ (fj_run d 237 h5 [(4, 377)]) 4
          (fun v22 h21 =>
          c_297_126 d x1 x2 (h 9 379 (h 158 377 0).toNat) v22 h21)
          (fun q23 h21 => tx_ q23 h21)
      else if v6 = 11 then
        ca_ (fj_run d 237 h5 [(4, 377)]) 4
          (fun v25 h24 =>
          c_297_126 d x1 x2 (h 9 379 (h 158 377 0).toNat) v25 h24)
          (fun q26 h24 => tx_ q26 h24)
      else if v6 = 12 then
        ca_ (fj_run d 237 h5 [(4, 377)]) 4
          (fun v28 h27 =>
          c_297_126 d x1 x2 (h 9 379 (h 158 377 0).toNat) v28 h27)
          (fun q29 h27 => tx_ q29 h27)
      else 
        ca_ (fj_run d 235 h5 [(4, 377)]) 4
          (fun v31 h30 =>
          c_297_126 d x1 x2 (h 9 379 (h 158 377 0).toNat) v31 h30)
          (fun q32 h30 => tx_ q32 h30))
      (fun q7 h5 => tx_ q7 h5))
    (fun q4 h2 => tx_ q4 h2)
  else none := by
  rw [fj_run_eq d (by decide) h [(4, 377), (4, x1), (4, x2)] (Nat.le_of_ble_eq_true (by rw [nl_297]; rfl))]
  show gG (fj_run d) 297 0 [(0, (4, 377)), (1, (4, x1)), (2, (4, x2))] [] h = _
  exact
    have D : fk_D 297 [(0, none, .aload_n 0, 1, 0, 0, 0), (1, none, .getfield 19, 3, 150, 115, 12), (4, none, .aload_n 0, 1, 0, 0, 0), (5, none, .getfield 104, 3, 158, 115, 10), (8, none, .saload, 1, 0, 0, 0), (9, none, .istore_n 3, 1, 0, 0, 0), (10, none, .aload_n 0, 1, 0, 0, 0), (11, none, .invokevirtual 206, 3, 0, 261, 0), (14, none, .aload_n 1, 1, 0, 0, 0), (15, none, .invokevirtual 716, 3, 0, 234, 1), (18, none, .tableswitch 102 0 12 #[66, 75, 102, 102, 102, 102, 102, 102, 84, 84, 93, 93, 93], 66, 0, 0, 0)] := fq_of3 cd_297 ow_297 cl_297 rfl (pc := 0) (by decide +kernel)
    j_aldn (pc := 0) D rfl rfl rfl fun D =>
    j_gfc (pc := 1) (a := 377) D rfl rfl (by decide) rfl (s0_377 H) rfl (sf_150_377 H) fun D =>
    j_aldn (pc := 4) D rfl rfl rfl fun D =>
    j_gf (pc := 5) (a := 377) D rfl rfl (by decide) rfl (s0_377 H) rfl fun D =>
    j_al (pc := 8) (a := 379) (e := 9) D rfl rfl rfl (by decide) (s0_379 H) (s1_379 H) ⟨rfl, rfl, rfl⟩ rfl gn fun qb1 D =>
    j_istn (pc := 9) (L' := [(3, (0, h 9 379 (h 158 377 0).toNat)), (0, (4, 377)), (1, (4, x1)), (2, (4, x2))]) D rfl nl_297 rfl rfl fun D =>
    j_aldn (pc := 10) D rfl rfl rfl fun D =>
    j_ivv (pc := 11) (m := 166) (dd := 261) (a := []) (rest := []) D rfl rfl rfl rfl rfl (by decide) (s0_377 H) (by decide +kernel) (fun h2 e1 D =>
      have T := fj_run_ok _ _ _ _ _ _ H.1 e1
      have H := shp_st H T
      j_aldn (pc := 14) D rfl rfl rfl fun D =>
      j_ivu (pc := 15) (dd := 234) (a := []) (rest := []) H.2.1 D rfl rfl rfl rfl rfl (fun m8 v6 h5 e1 D =>
        have T := fj_run_ok _ _ _ _ _ _ H.1 e1
        have H := shp_st H T
        have N : fk_ni (v6) [] := trivial
        j_tc (pc := 18) 0 (t := 84) D N rfl (by decide +kernel) (fun q =>
          have D : fk_D 297 [(84, none, .aload_n 0, 1, 0, 0, 0), (85, none, .invokevirtual 697, 3, 0, 303, 5), (88, none, .astore 4, 2, 0, 0, 0), (90, none, .goto 36, 3, 126, 0, 0)] := fq_of2 cd_297 ow_297 cl_297 rfl (pc := 84) (by decide +kernel)
          j_aldn (pc := 84) D rfl rfl rfl fun D =>
          j_iv (pc := 85) (m := 232) (dd := 303) (a := []) (rest := []) D rfl rfl rfl rfl rfl (by decide) (s0_377 H) (by decide +kernel) (fun v10 h9 e1 D =>
            have T := fj_run_ok _ _ _ _ _ _ H.1 e1
            have H := shp_st H T
            j_ast (pc := 88) (L' := [(4, (4, v10)), (3, (0, h 9 379 (h 158 377 0).toNat)), (0, (4, 377)), (1, (4, x1)), (2, (4, x2))]) D rfl nl_297 rfl rfl fun D =>
            j_goto (pc := 90) D rfl <|
            fk_jump cut_297_126 rfl rfl) (fun q11 h9 e1 =>
            j_tx (hx_297 _))) (fun N =>
          j_tc 1 (t := 93) D N rfl (by decide +kernel) (fun q =>
            have D : fk_D 297 [(93, none, .aload_n 0, 1, 0, 0, 0), (94, none, .invokevirtual 710, 3, 0, 305, 5), (97, none, .astore 4, 2, 0, 0, 0), (99, none, .goto 27, 3, 126, 0, 0)] := fq_of2 cd_297 ow_297 cl_297 rfl (pc := 93) (by decide +kernel)
            j_aldn (pc := 93) D rfl rfl rfl fun D =>
            j_iv (pc := 94) (m := 233) (dd := 305) (a := []) (rest := []) D rfl rfl rfl rfl rfl (by decide) (s0_377 H) (by decide +kernel) (fun v13 h12 e1 D =>
              have T := fj_run_ok _ _ _ _ _ _ H.1 e1
              have H := shp_st H T
              j_ast (pc := 97) (L' := [(4, (4, v13)), (3, (0, h 9 379 (h 158 377 0).toNat)), (0, (4, 377)), (1, (4, x1)), (2, (4, x2))]) D rfl nl_297 rfl rfl fun D =>
              j_goto (pc := 99) D rfl <|
              fk_jump cut_297_126 rfl rfl) (fun q14 h12 e1 =>
              j_tx (hx_297 _))) (fun N =>
            j_tc 8 (t := 102) D N rfl (by decide +kernel) (fun q =>
              have D : fk_D 297 [(102, none, .aload_n 0, 1, 0, 0, 0), (103, none, .invokevirtual 719, 3, 0, 306, 5), (106, none, .astore 4, 2, 0, 0, 0), (108, none, .goto 18, 3, 126, 0, 0)] := fq_of2 cd_297 ow_297 cl_297 rfl (pc := 102) (by decide +kernel)
              j_aldn (pc := 102) D rfl rfl rfl fun D =>
              j_iv (pc := 103) (m := 236) (dd := 306) (a := []) (rest := []) D rfl rfl rfl rfl rfl (by decide) (s0_377 H) (by decide +kernel) (fun v16 h15 e1 D =>
                have T := fj_run_ok _ _ _ _ _ _ H.1 e1
                have H := shp_st H T
                j_ast (pc := 106) (L' := [(4, (4, v16)), (3, (0, h 9 379 (h 158 377 0).toNat)), (0, (4, 377)), (1, (4, x1)), (2, (4, x2))]) D rfl nl_297 rfl rfl fun D =>
                j_goto (pc := 108) D rfl <|
                fk_jump cut_297_126 rfl rfl) (fun q17 h15 e1 =>
                j_tx (hx_297 _))) (fun N =>
              j_tc 9 (t := 102) D N rfl (by decide +kernel) (fun q =>
                have D : fk_D 297 [(102, none, .aload_n 0, 1, 0, 0, 0), (103, none, .invokevirtual 719, 3, 0, 306, 5), (106, none, .astore 4, 2, 0, 0, 0), (108, none, .goto 18, 3, 126, 0, 0)] := fq_of2 cd_297 ow_297 cl_297 rfl (pc := 102) (by decide +kernel)
                j_aldn (pc := 102) D rfl rfl rfl fun D =>
                j_iv (pc := 103) (m := 236) (dd := 306) (a := []) (rest := []) D rfl rfl rfl rfl rfl (by decide) (s0_377 H) (by decide +kernel) (fun v19 h18 e1 D =>
                  have T := fj_run_ok _ _ _ _ _ _ H.1 e1
                  have H := shp_st H T
                  j_ast (pc := 106) (L' := [(4, (4, v19)), (3, (0, h 9 379 (h 158 377 0).toNat)), (0, (4, 377)), (1, (4, x1)), (2, (4, x2))]) D rfl nl_297 rfl rfl fun D =>
                  j_goto (pc := 108) D rfl <|
                  fk_jump cut_297_126 rfl rfl) (fun q20 h18 e1 =>
                  j_tx (hx_297 _))) (fun N =>
                j_tc 10 (t := 111) D N rfl (by decide +kernel) (fun q =>
                  have D : fk_D 297 [(111, none, .aload_n 0, 1, 0, 0, 0), (112, none, .invokevirtual 722, 3, 0, 307, 5), (115, none, .astore 4, 2, 0, 0, 0), (117, none, .goto 9, 3, 126, 0, 0)] := fq_of2 cd_297 ow_297 cl_297 rfl (pc := 111) (by decide +kernel)
                  j_aldn (pc := 111) D rfl rfl rfl fun D =>
                  j_iv (pc := 112) (m := 237) (dd := 307) (a := []) (rest := []) D rfl rfl rfl rfl rfl (by decide) (s0_377 H) (by decide +kernel) (fun v22 h21 e1 D =>
                    have T := fj_run_ok _ _ _ _ _ _ H.1 e1
                    have H := shp_st H T
                    j_ast (pc := 115) (L' := [(4, (4, v22)), (3, (0, h 9 379 (h 158 377 0).toNat)), (0, (4, 377)), (1, (4, x1)), (2, (4, x2))]) D rfl nl_297 rfl rfl fun D =>
                    j_goto (pc := 117) D rfl <|
                    fk_jump cut_297_126 rfl rfl) (fun q23 h21 e1 =>
                    j_tx (hx_297 _))) (fun N =>
                  j_tc 11 (t := 111) D N rfl (by decide +kernel) (fun q =>
                    have D : fk_D 297 [(111, none, .aload_n 0, 1, 0, 0, 0), (112, none, .invokevirtual 722, 3, 0, 307, 5), (115, none, .astore 4, 2, 0, 0, 0), (117, none, .goto 9, 3, 126, 0, 0)] := fq_of2 cd_297 ow_297 cl_297 rfl (pc := 111) (by decide +kernel)
                    j_aldn (pc := 111) D rfl rfl rfl fun D =>
                    j_iv (pc := 112) (m := 237) (dd := 307) (a := []) (rest := []) D rfl rfl rfl rfl rfl (by decide) (s0_377 H) (by decide +kernel) (fun v25 h24 e1 D =>
                      have T := fj_run_ok _ _ _ _ _ _ H.1 e1
                      have H := shp_st H T
                      j_ast (pc := 115) (L' := [(4, (4, v25)), (3, (0, h 9 379 (h 158 377 0).toNat)), (0, (4, 377)), (1, (4, x1)), (2, (4, x2))]) D rfl nl_297 rfl rfl fun D =>
                      j_goto (pc := 117) D rfl <|
                      fk_jump cut_297_126 rfl rfl) (fun q26 h24 e1 =>
                      j_tx (hx_297 _))) (fun N =>
                    j_tc 12 (t := 111) D N rfl (by decide +kernel) (fun q =>
                      have D : fk_D 297 [(111, none, .aload_n 0, 1, 0, 0, 0), (112, none, .invokevirtual 722, 3, 0, 307, 5), (115, none, .astore 4, 2, 0, 0, 0), (117, none, .goto 9, 3, 126, 0, 0)] := fq_of2 cd_297 ow_297 cl_297 rfl (pc := 111) (by decide +kernel)
                      j_aldn (pc := 111) D rfl rfl rfl fun D =>
                      j_iv (pc := 112) (m := 237) (dd := 307) (a := []) (rest := []) D rfl rfl rfl rfl rfl (by decide) (s0_377 H) (by decide +kernel) (fun v28 h27 e1 D =>
                        have T := fj_run_ok _ _ _ _ _ _ H.1 e1
                        have H := shp_st H T
                        j_ast (pc := 115) (L' := [(4, (4, v28)), (3, (0, h 9 379 (h 158 377 0).toNat)), (0, (4, 377)), (1, (4, x1)), (2, (4, x2))]) D rfl nl_297 rfl rfl fun D =>
                        j_goto (pc := 117) D rfl <|
                        fk_jump cut_297_126 rfl rfl) (fun q29 h27 e1 =>
                        j_tx (hx_297 _))) (fun N =>
                      j_td (t := 120) D N rfl (by decide +kernel) (by decide +kernel) <|
                      have D : fk_D 297 [(120, none, .aload_n 0, 1, 0, 0, 0), (121, none, .invokevirtual 725, 3, 0, 308, 5), (124, none, .astore 4, 2, 0, 0, 0)] := fq_of2 cd_297 ow_297 cl_297 rfl (pc := 120) (by decide +kernel)
                      j_aldn (pc := 120) D rfl rfl rfl fun D =>
                      j_iv (pc := 121) (m := 235) (dd := 308) (a := []) (rest := []) D rfl rfl rfl rfl rfl (by decide) (s0_377 H) (by decide +kernel) (fun v31 h30 e1 D =>
                        have T := fj_run_ok _ _ _ _ _ _ H.1 e1
                        have H := shp_st H T
                        j_ast (pc := 124) (L' := [(4, (4, v31)), (3, (0, h 9 379 (h 158 377 0).toNat)), (0, (4, 377)), (1, (4, x1)), (2, (4, x2))]) D rfl nl_297 rfl rfl fun D =>
                        fk_jump cut_297_126 rfl rfl) (fun q32 h30 e1 =>
                        j_tx (hx_297 _)))))))))) (fun m8 q7 h5 e1 =>
        j_tx (hx_297 _))) (fun q4 h2 e1 =>
      j_tx (hx_297 _))
