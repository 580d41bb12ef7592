/-! forms of methods 637..658, printed by gen/forms.py -/
set_option maxRecDepth 100000
/-! 637 StatuteHouseModel.untilHere(I)I -/
theorem cd_637 : fi_code 637 = prog_69_method_153_code := rfl
theorem hx_637 : ∀ pc, fi_hat 637 pc = none := fun pc => by unfold fi_hat; rw [show fi_hh 637 = [] from rfl]; rfl
theorem rt_637 : fi_ret 637 = some .int := rfl
theorem nl_637 : fi_nl 637 = 6 := rfl
theorem ow_637 : fi_ow 637 = 29 := rfl
theorem cl_637 : fj_cutT.getD 637 [] = [(81, [0, 1, 2, 3, 4]), (82, [0, 1, 2, 3, 4]), (119, [0, 5]), (120, [0, 5])] := rfl
theorem cut_637_81 : fj_cut 637 81 = some [0, 1, 2, 3, 4] := by decide +kernel
noncomputable def c_637_81 (d : Nat) (x1 x2 x3 x4 s0 : Int) (h : fi_H) : fk_R := gG (fj_run d) 637 81 [(0, (4, 602)), (1, (0, x1)), (2, (0, x2)), (3, (0, x3)), (4, (0, x4))] [(4, s0)] h
theorem cut_637_82 : fj_cut 637 82 = some [0, 1, 2, 3, 4] := by decide +kernel
noncomputable def c_637_82 (d : Nat) (x1 x2 x3 x4 s0 s1 : Int) (h : fi_H) : fk_R := gG (fj_run d) 637 82 [(0, (4, 602)), (1, (0, x1)), (2, (0, x2)), (3, (0, x3)), (4, (0, x4))] [(0, s1), (4, s0)] h
theorem cut_637_119 : fj_cut 637 119 = some [0, 5] := by decide +kernel
noncomputable def c_637_119 (d : Nat) (x5 s0 : Int) (h : fi_H) : fk_R := gG (fj_run d) 637 119 [(0, (4, 602)), (5, (0, x5))] [(4, s0)] h
theorem cut_637_120 : fj_cut 637 120 = some [0, 5] := by decide +kernel
noncomputable def c_637_120 (d : Nat) (x5 s0 s1 : Int) (h : fi_H) : fk_R := gG (fj_run d) 637 120 [(0, (4, 602)), (5, (0, x5))] [(0, s1), (4, s0)] h
theorem e_637_81 (d : Nat) (x1 x2 x3 x4 s0 : Int) {h : fi_H} (H : Shp h) : c_637_81 d x1 x2 x3 x4 s0 h =
  c_637_82 d x1 x2 x3 x4 s0 0 h := by
  unfold c_637_81
  exact
    have D : fk_D 637 [(81, some [0, 1, 2, 3, 4], .iconst 0, 1, 0, 0, 0)] := fq_of2 cd_637 ow_637 cl_637 rfl (pc := 81) (by decide +kernel)
    j_ic (pc := 81) D rfl fun D =>
    fk_jump cut_637_82 rfl rfl
theorem e_637_82 (d : Nat) (x1 x2 x3 x4 s0 s1 : Int) {h : fi_H} (H : Shp h) : c_637_82 d x1 x2 x3 x4 s0 s1 h =
  dv_ (fi_vt 348 (h 0 s0.toNat 0)) fun m4 => cv_ (fj_run d m4 h [(4, s0), (0, s1), (0, 3), (0, h 396 602 0)])
    (fun h1 =>
    ca_ (fj_run d 518 h1 [(0, x2), (0, x3), (0, x4)]) 0
      (fun v6 h5 =>
      ca_ (fj_run d 520 h5 [(1, wI v6)]) 0
        (fun v9 h8 =>
        if v9 = 0 then
          c_637_119 d v6 602 h8
        else
          if v6 < x1 then
            c_637_119 d v6 602 h8
          else
            c_637_120 d v6 602 1 h8)
        (fun q10 h8 => tx_ q10 h8))
      (fun q7 h5 => tx_ q7 h5))
    (fun q3 h1 => tx_ q3 h1) := by
  unfold c_637_82
  exact
    have D : fk_D 637 [(82, some [0, 1, 2, 3, 4], .iconst 3, 1, 0, 3, 0), (83, none, .aload_n 0, 1, 0, 0, 0), (84, none, .getfield 507, 3, 396, 129, 10), (87, none, .invokevirtual 557, 3, 3, 348, 0), (90, none, .iload_n 2, 1, 0, 0, 0), (91, none, .iload_n 3, 1, 0, 0, 0), (92, none, .iload 4, 2, 0, 0, 0), (94, none, .invokestatic 449, 3, 3, 518, 1), (97, none, .istore 5, 2, 0, 0, 0), (99, none, .aload_n 0, 1, 0, 0, 0), (100, none, .iload 5, 2, 0, 0, 0), (102, none, .i2l, 1, 0, 0, 0), (103, none, .invokestatic 456, 3, 1, 520, 1), (106, none, .ifCond .eq 13, 3, 119, 0, 0), (109, none, .iload 5, 2, 0, 0, 0), (111, none, .iload_n 1, 1, 0, 0, 0), (112, none, .if_icmp .lt 7, 3, 119, 0, 0), (115, none, .iconst 1, 1, 0, 1, 0), (116, none, .goto 4, 3, 120, 0, 0)] := fq_of2 cd_637 ow_637 cl_637 rfl (pc := 82) (by decide +kernel)
    j_ic (pc := 82) D rfl fun D =>
    j_aldn (pc := 83) D rfl rfl rfl fun D =>
    j_gf (pc := 84) (a := 602) D rfl rfl (by decide) rfl (s0_602 H) rfl fun D =>
    j_ivuv (pc := 87) (dd := 348) (a := [(0, s1), (0, 3), (0, h 396 602 0)]) (rest := []) H.2.1 D rfl rfl rfl rfl rfl (fun m4 h1 e1 D =>
      have T := fj_run_ok _ _ _ _ _ _ H.1 e1
      have H := shp_st H T
      j_ildn (pc := 90) D rfl rfl rfl fun D =>
      j_ildn (pc := 91) D rfl rfl rfl fun D =>
      j_ild (pc := 92) D rfl rfl rfl fun D =>
      j_is (pc := 94) (m := 518) (a := [(0, x2), (0, x3), (0, x4)]) (rest := []) D rfl rfl rfl rfl (fun v6 h5 e1 D =>
        have T := fj_run_ok _ _ _ _ _ _ H.1 e1
        have H := shp_st H T
        j_ist (pc := 97) (L' := [(5, (0, v6)), (0, (4, 602)), (1, (0, x1)), (2, (0, x2)), (3, (0, x3)), (4, (0, x4))]) D rfl nl_637 rfl rfl fun D =>
        j_aldn (pc := 99) D rfl rfl rfl fun D =>
        j_ild (pc := 100) D rfl rfl rfl fun D =>
        j_i2l (pc := 102) D rfl fun D =>
        j_is (pc := 103) (m := 520) (a := [(1, wI v6)]) (rest := [(4, 602)]) D rfl rfl rfl rfl (fun v9 h8 e1 D =>
          have T := fj_run_ok _ _ _ _ _ _ H.1 e1
          have H := shp_st H T
          j_ifeq (pc := 106) D rfl (fun q =>
            fk_jump cut_637_119 rfl rfl) (fun q D =>
            j_ild (pc := 109) D rfl rfl rfl fun D =>
            j_ildn (pc := 111) D rfl rfl rfl fun D =>
            j_ilt (pc := 112) D rfl (fun q =>
              fk_jump cut_637_119 rfl rfl) (fun q D =>
              j_ic (pc := 115) D rfl fun D =>
              j_goto (pc := 116) D rfl <|
              fk_jump cut_637_120 rfl rfl))) (fun q10 h8 e1 =>
          j_tx (hx_637 _))) (fun q7 h5 e1 =>
        j_tx (hx_637 _))) (fun m4 q3 h1 e1 =>
      j_tx (hx_637 _))
theorem e_637_119 (d : Nat) (x5 s0 : Int) {h : fi_H} (H : Shp h) : c_637_119 d x5 s0 h =
  c_637_120 d x5 s0 0 h := by
  unfold c_637_119
  exact
    have D : fk_D 637 [(119, some [0, 5], .iconst 0, 1, 0, 0, 0)] := fq_of2 cd_637 ow_637 cl_637 rfl (pc := 119) (by decide +kernel)
    j_ic (pc := 119) D rfl fun D =>
    fk_jump cut_637_120 rfl rfl
theorem e_637_120 (d : Nat) (x5 s0 s1 : Int) {h : fi_H} (H : Shp h) : c_637_120 d x5 s0 s1 h =
  dv_ (fi_vt 348 (h 0 s0.toNat 0)) fun m4 => cv_ (fj_run d m4 h [(4, s0), (0, s1), (0, 3), (0, h 396 602 0)])
    (fun h1 =>
    cv_ (fj_run d 502 h1 [(4, 602)])
      (fun h5 =>
      some (.inl (some (0, x5)), h5))
      (fun q7 h5 => tx_ q7 h5))
    (fun q3 h1 => tx_ q3 h1) := by
  unfold c_637_120
  exact
    have D : fk_D 637 [(120, some [0, 5], .iconst 3, 1, 0, 3, 0), (121, none, .aload_n 0, 1, 0, 0, 0), (122, none, .getfield 507, 3, 396, 129, 10), (125, none, .invokevirtual 557, 3, 3, 348, 0), (128, none, .aload_n 0, 1, 0, 0, 0), (129, none, .invokevirtual 567, 3, 0, 351, 0), (132, none, .iload 5, 2, 0, 0, 0), (134, none, .ireturn, 1, 0, 0, 0)] := fq_of2 cd_637 ow_637 cl_637 rfl (pc := 120) (by decide +kernel)
    j_ic (pc := 120) D rfl fun D =>
    j_aldn (pc := 121) D rfl rfl rfl fun D =>
    j_gf (pc := 122) (a := 602) D rfl rfl (by decide) rfl (s0_602 H) rfl fun D =>
    j_ivuv (pc := 125) (dd := 348) (a := [(0, s1), (0, 3), (0, h 396 602 0)]) (rest := []) H.2.1 D rfl rfl rfl rfl rfl (fun m4 h1 e1 D =>
      have T := fj_run_ok _ _ _ _ _ _ H.1 e1
      have H := shp_st H T
      j_aldn (pc := 128) D rfl rfl rfl fun D =>
      j_ivv (pc := 129) (m := 502) (dd := 351) (a := []) (rest := []) D rfl rfl rfl rfl rfl (by decide) (s0_602 H) (by decide +kernel) (fun h5 e1 D =>
        have T := fj_run_ok _ _ _ _ _ _ H.1 e1
        have H := shp_st H T
        j_ild (pc := 132) D rfl rfl rfl fun D =>
        j_iret D rt_637) (fun q7 h5 e1 =>
        j_tx (hx_637 _))) (fun m4 q3 h1 e1 =>
      j_tx (hx_637 _))
theorem m_637 (d : Nat) (x1 : Int) {h : fi_H} (H : Shp h) : fj_run (d + 1) 637 h [(4, 602), (0, x1)] =
  ca_ (fj_run d 508 h [(1, wI (wI (lq_ (h 399 602 0) 10000))), (1, 1900), (1, 2079)]) 0
    (fun v2 h1 =>
    if v2 = 0 then
      c_637_81 d x1 (wI (lq_ (h 399 602 0) 10000)) (wI (lr_ (lq_ (h 399 602 0) 100) 100)) (wI (lr_ (h 399 602 0) 100)) 602 h1
    else
      ca_ (fj_run d 508 h1 [(1, wI (wI (lr_ (lq_ (h 399 602 0) 100) 100))), (1, 1), (1, 12)]) 0
        (fun v5 h4 =>
        if v5 = 0 then
          c_637_81 d x1 (wI (lq_ (h 399 602 0) 10000)) (wI (lr_ (lq_ (h 399 602 0) 100) 100)) (wI (lr_ (h 399 602 0) 100)) 602 h4
        else
          if 0 < wI (lr_ (h 399 602 0) 100) then
            ca_ (fj_run d 516 h4 [(0, wI (lq_ (h 399 602 0) 10000)), (0, wI (lr_ (lq_ (h 399 602 0) 100) 100))]) 0
              (fun v8 h7 =>
              if v8 < wI (lr_ (h 399 602 0) 100) then
                c_637_81 d x1 (wI (lq_ (h 399 602 0) 10000)) (wI (lr_ (lq_ (h 399 602 0) 100) 100)) (wI (lr_ (h 399 602 0) 100)) 602 h7
              else
                c_637_82 d x1 (wI (lq_ (h 399 602 0) 10000)) (wI (lr_ (lq_ (h 399 602 0) 100) 100)) (wI (lr_ (h 399 602 0) 100)) 602 1 h7)
              (fun q9 h7 => tx_ q9 h7)
          else
            c_637_81 d x1 (wI (lq_ (h 399 602 0) 10000)) (wI (lr_ (lq_ (h 399 602 0) 100) 100)) (wI (lr_ (h 399 602 0) 100)) 602 h4)
        (fun q6 h4 => tx_ q6 h4))
    (fun q3 h1 => tx_ q3 h1) := by
  rw [fj_run_eq d (by decide) h [(4, 602), (0, x1)] (Nat.le_of_ble_eq_true (by rw [nl_637]; rfl))]
  show gG (fj_run d) 637 0 [(0, (4, 602)), (1, (0, x1))] [] h = _
  exact
    have D : fk_D 637 [(0, none, .aload_n 0, 1, 0, 0, 0), (1, none, .getfield 550, 3, 399, 129, 11), (4, none, .ldc2_w 553, 3, 1, 10000, 0), (7, none, .ldiv, 1, 0, 0, 0), (8, none, .l2i, 1, 0, 0, 0), (9, none, .istore_n 2, 1, 0, 0, 0), (10, none, .aload_n 0, 1, 0, 0, 0), (11, none, .getfield 550, 3, 399, 129, 11), (14, none, .ldc2_w 555, 3, 1, 100, 0), (17, none, .ldiv, 1, 0, 0, 0), (18, none, .ldc2_w 555, 3, 1, 100, 0), (21, none, .lrem, 1, 0, 0, 0), (22, none, .l2i, 1, 0, 0, 0), (23, none, .istore_n 3, 1, 0, 0, 0), (24, none, .aload_n 0, 1, 0, 0, 0), (25, none, .getfield 550, 3, 399, 129, 11), (28, none, .ldc2_w 555, 3, 1, 100, 0), (31, none, .lrem, 1, 0, 0, 0), (32, none, .l2i, 1, 0, 0, 0), (33, none, .istore 4, 2, 0, 0, 0)] := fq_of2 cd_637 ow_637 cl_637 rfl (pc := 0) (by decide +kernel)
    j_aldn (pc := 0) D rfl rfl rfl fun D =>
    j_gf (pc := 1) (a := 602) D rfl rfl (by decide) rfl (s0_602 H) rfl fun D =>
    j_ldc2 (pc := 4) D rfl fun D =>
    j_ldivk (pc := 7) D rfl (by decide) fun D =>
    j_l2i (pc := 8) D rfl fun D =>
    j_istn (pc := 9) (L' := [(2, (0, wI (lq_ (h 399 602 0) 10000))), (0, (4, 602)), (1, (0, x1))]) D rfl nl_637 rfl rfl fun D =>
    j_aldn (pc := 10) D rfl rfl rfl fun D =>
    j_gf (pc := 11) (a := 602) D rfl rfl (by decide) rfl (s0_602 H) rfl fun D =>
    j_ldc2 (pc := 14) D rfl fun D =>
    j_ldivk (pc := 17) D rfl (by decide) fun D =>
    j_ldc2 (pc := 18) D rfl fun D =>
    j_lremk (pc := 21) D rfl (by decide) fun D =>
    j_l2i (pc := 22) D rfl fun D =>
    j_istn (pc := 23) (L' := [(3, (0, wI (lr_ (lq_ (h 399 602 0) 100) 100))), (2, (0, wI (lq_ (h 399 602 0) 10000))), (0, (4, 602)), (1, (0, x1))]) D rfl nl_637 rfl rfl fun D =>
    j_aldn (pc := 24) D rfl rfl rfl fun D =>
    j_gf (pc := 25) (a := 602) D rfl rfl (by decide) rfl (s0_602 H) rfl fun D =>
    j_ldc2 (pc := 28) D rfl fun D =>
    j_lremk (pc := 31) D rfl (by decide) fun D =>
    j_l2i (pc := 32) D rfl fun D =>
    j_ist (pc := 33) (L' := [(4, (0, wI (lr_ (h 399 602 0) 100))), (3, (0, wI (lr_ (lq_ (h 399 602 0) 100) 100))), (2, (0, wI (lq_ (h 399 602 0) 10000))), (0, (4, 602)), (1, (0, x1))]) D rfl nl_637 rfl rfl fun D =>
    have D : fk_D 637 [(35, none, .aload_n 0, 1, 0, 0, 0), (36, none, .iload_n 2, 1, 0, 0, 0), (37, none, .i2l, 1, 0, 0, 0), (38, none, .ldc2_w 586, 3, 1, 1900, 0), (41, none, .ldc2_w 588, 3, 1, 2079, 0), (44, none, .invokestatic 434, 3, 3, 508, 1), (47, none, .ifCond .eq 34, 3, 81, 0, 0), (50, none, .iload_n 3, 1, 0, 0, 0), (51, none, .i2l, 1, 0, 0, 0), (52, none, .lconst 1, 1, 0, 0, 0), (53, none, .ldc2_w 590, 3, 1, 12, 0), (56, none, .invokestatic 434, 3, 3, 508, 1), (59, none, .ifCond .eq 22, 3, 81, 0, 0), (62, none, .iload 4, 2, 0, 0, 0), (64, none, .ifCond .le 17, 3, 81, 0, 0), (67, none, .iload 4, 2, 0, 0, 0), (69, none, .iload_n 2, 1, 0, 0, 0), (70, none, .iload_n 3, 1, 0, 0, 0), (71, none, .invokestatic 419, 3, 2, 516, 1), (74, none, .if_icmp .gt 7, 3, 81, 0, 0)] := fq_of2 cd_637 ow_637 cl_637 rfl (pc := 35) (by decide +kernel)
    j_aldn (pc := 35) D rfl rfl rfl fun D =>
    j_ildn (pc := 36) D rfl rfl rfl fun D =>
    j_i2l (pc := 37) D rfl fun D =>
    j_ldc2 (pc := 38) D rfl fun D =>
    j_ldc2 (pc := 41) D rfl fun D =>
    j_is (pc := 44) (m := 508) (a := [(1, wI (wI (lq_ (h 399 602 0) 10000))), (1, 1900), (1, 2079)]) (rest := [(4, 602)]) D rfl rfl rfl rfl (fun v2 h1 e1 D =>
      have T := fj_run_ok _ _ _ _ _ _ H.1 e1
      have H := shp_st H T
      j_ifeq (pc := 47) D rfl (fun q =>
        fk_jump cut_637_81 rfl rfl) (fun q D =>
        j_ildn (pc := 50) D rfl rfl rfl fun D =>
        j_i2l (pc := 51) D rfl fun D =>
        j_c0 (pc := 52) (v := (1, 1)) D rfl rfl (by decide +kernel) fun D =>
        j_ldc2 (pc := 53) D rfl fun D =>
        j_is (pc := 56) (m := 508) (a := [(1, wI (wI (lr_ (lq_ (h 399 602 0) 100) 100))), (1, 1), (1, 12)]) (rest := [(4, 602)]) D rfl rfl rfl rfl (fun v5 h4 e1 D =>
          have T := fj_run_ok _ _ _ _ _ _ H.1 e1
          have H := shp_st H T
          j_ifeq (pc := 59) D rfl (fun q =>
            fk_jump cut_637_81 rfl rfl) (fun q D =>
            j_ild (pc := 62) D rfl rfl rfl fun D =>
            j_ifle (pc := 64) D rfl (fun q D =>
              j_ild (pc := 67) D rfl rfl rfl fun D =>
              j_ildn (pc := 69) D rfl rfl rfl fun D =>
              j_ildn (pc := 70) D rfl rfl rfl fun D =>
              j_is (pc := 71) (m := 516) (a := [(0, wI (lq_ (h 399 602 0) 10000)), (0, wI (lr_ (lq_ (h 399 602 0) 100) 100))]) (rest := [(0, wI (lr_ (h 399 602 0) 100)), (4, 602)]) D rfl rfl rfl rfl (fun v8 h7 e1 D =>
                have T := fj_run_ok _ _ _ _ _ _ H.1 e1
                have H := shp_st H T
                j_igt (pc := 74) D rfl (fun q =>
                  fk_jump cut_637_81 rfl rfl) (fun q D =>
                  have D : fk_D 637 [(77, none, .iconst 1, 1, 0, 1, 0), (78, none, .goto 4, 3, 82, 0, 0)] := fq_of2 cd_637 ow_637 cl_637 rfl (pc := 77) (by decide +kernel)
                  j_ic (pc := 77) D rfl fun D =>
                  j_goto (pc := 78) D rfl <|
                  fk_jump cut_637_82 rfl rfl)) (fun q9 h7 e1 =>
                j_tx (hx_637 _))) (fun q =>
              fk_jump cut_637_81 rfl rfl))) (fun q6 h4 e1 =>
          j_tx (hx_637 _)))) (fun q3 h1 e1 =>
      j_tx (hx_637 _))
/-! 638 StatuteHouseModel.suppose(IIJJ)I -/
theorem cd_638 : fi_code 638 = prog_69_method_156_code := rfl
theorem hx_638 : ∀ pc, fi_hat 638 pc = none := fun pc => by unfold fi_hat; rw [show fi_hh 638 = [] from rfl]; rfl
theorem rt_638 : fi_ret 638 = some .int := rfl
theorem nl_638 : fi_nl 638 = 8 := rfl
theorem ow_638 : fi_ow 638 = 29 := rfl
theorem cl_638 : fj_cutT.getD 638 [] = [(40, [0, 1, 2, 7]), (71, [0, 1, 2, 7]), (77, [0, 1, 2, 7])] := rfl
theorem cut_638_40 : fj_cut 638 40 = some [0, 1, 2, 7] := by decide +kernel
noncomputable def c_638_40 (d : Nat) (x1 x2 x7 : Int) (h : fi_H) : fk_R := gG (fj_run d) 638 40 [(0, (4, 602)), (1, (0, x1)), (2, (0, x2)), (7, (0, x7))] [] h
theorem cut_638_71 : fj_cut 638 71 = some [0, 1, 2, 7] := by decide +kernel
noncomputable def c_638_71 (d : Nat) (x1 x2 x7 : Int) (h : fi_H) : fk_R := gG (fj_run d) 638 71 [(0, (4, 602)), (1, (0, x1)), (2, (0, x2)), (7, (0, x7))] [] h
theorem cut_638_77 : fj_cut 638 77 = some [0, 1, 2, 7] := by decide +kernel
noncomputable def c_638_77 (d : Nat) (x1 x2 x7 : Int) (h : fi_H) : fk_R := gG (fj_run d) 638 77 [(0, (4, 602)), (1, (0, x1)), (2, (0, x2)), (7, (0, x7))] [] h
theorem e_638_40 (d : Nat) (x1 x2 x7 : Int) {h : fi_H} (H : Shp h) : c_638_40 d x1 x2 x7 h =
  if x7 < h 473 602 0 then
    if 0 ≤ x7 ∧ x7 < 9 then
    if h 10 659 x7.toNat = x1 then
      if h 10 660 x7.toNat = x2 then
        c_638_77 d x1 x2 x7 h
      else
        c_638_71 d x1 x2 x7 h
    else
      c_638_71 d x1 x2 x7 h
    else none
  else
    c_638_77 d x1 x2 x7 h := by
  unfold c_638_40
  exact
    have D : fk_D 638 [(40, some [0, 1, 2, 7], .iload 7, 2, 0, 0, 0), (42, none, .aload_n 0, 1, 0, 0, 0), (43, none, .getfield 875, 3, 473, 129, 10), (46, none, .if_icmp .ge 31, 3, 77, 0, 0), (49, none, .aload_n 0, 1, 0, 0, 0), (50, none, .getfield 196, 3, 469, 129, 12), (53, none, .iload 7, 2, 0, 0, 0), (55, none, .iaload, 1, 0, 0, 0), (56, none, .iload_n 1, 1, 0, 0, 0), (57, none, .if_icmp .ne 14, 3, 71, 0, 0), (60, none, .aload_n 0, 1, 0, 0, 0), (61, none, .getfield 199, 3, 470, 129, 12), (64, none, .iload 7, 2, 0, 0, 0), (66, none, .iaload, 1, 0, 0, 0), (67, none, .iload_n 2, 1, 0, 0, 0), (68, none, .if_icmp .eq 9, 3, 77, 0, 0)] := fq_of2 cd_638 ow_638 cl_638 rfl (pc := 40) (by decide +kernel)
    j_ild (pc := 40) D rfl rfl rfl fun D =>
    j_aldn (pc := 42) D rfl rfl rfl fun D =>
    j_gf (pc := 43) (a := 602) D rfl rfl (by decide) rfl (s0_602 H) rfl fun D =>
    j_ige (pc := 46) D rfl (fun q D =>
      j_aldn (pc := 49) D rfl rfl rfl fun D =>
      j_gfc (pc := 50) (a := 602) D rfl rfl (by decide) rfl (s0_602 H) rfl (sf_469_602 H) fun D =>
      j_ild (pc := 53) D rfl rfl rfl fun D =>
      j_al (pc := 55) (a := 659) (e := 10) D rfl rfl rfl (by decide) (s0_659 H) (s1_659 H) ⟨rfl, rfl, rfl⟩ rfl gn fun qb1 D =>
      j_ildn (pc := 56) D rfl rfl rfl fun D =>
      j_ine (pc := 57) D rfl (fun q D =>
        j_aldn (pc := 60) D rfl rfl rfl fun D =>
        j_gfc (pc := 61) (a := 602) D rfl rfl (by decide) rfl (s0_602 H) rfl (sf_470_602 H) fun D =>
        j_ild (pc := 64) D rfl rfl rfl fun D =>
        j_al (pc := 66) (a := 660) (e := 10) D rfl rfl rfl (by decide) (s0_660 H) (s1_660 H) ⟨rfl, rfl, rfl⟩ rfl (gy qb1) fun q D =>
        j_ildn (pc := 67) D rfl rfl rfl fun D =>
        j_ieq (pc := 68) D rfl (fun q =>
          fk_jump cut_638_77 rfl rfl) (fun q D =>
          fk_jump cut_638_71 rfl rfl)) (fun q =>
        fk_jump cut_638_71 rfl rfl)) (fun q =>
      fk_jump cut_638_77 rfl rfl)
theorem e_638_71 (d : Nat) (x1 x2 x7 : Int) {h : fi_H} (H : Shp h) : c_638_71 d x1 x2 x7 h =
  c_638_40 d x1 x2 (wI (x7 + 1)) h := by
  unfold c_638_71
  exact
    have D : fk_D 638 [(71, some [0, 1, 2, 7], .iinc 7 1, 3, 0, 1, 0), (74, none, .goto (-34), 3, 40, 0, 0)] := fq_of2 cd_638 ow_638 cl_638 rfl (pc := 71) (by decide +kernel)
    j_inc (pc := 71) (L' := [(7, (0, wI (x7 + 1))), (0, (4, 602)), (1, (0, x1)), (2, (0, x2))]) D rfl rfl rfl (by decide +kernel) rfl fun D =>
    j_goto (pc := 74) D rfl <|
    fk_jump cut_638_40 rfl rfl
theorem e_638_77 (d : Nat) (x1 x2 x7 : Int) {h : fi_H} (H : Shp h) : c_638_77 d x1 x2 x7 h =
  if x7 = 8 then
    some (.inl (some (0, (-4))), h)
  else
    if 0 ≤ x7 ∧ x7 < 9 then
    lt_ (fi_upd h 10 659 x7.toNat x1) fun h1 =>
    lt_ (fi_upd h1 10 660 x7.toNat x2) fun h3 =>
    lt_ (fi_upd h3 11 661 x7.toNat (h3 509 602 0)) fun h4 =>
    lt_ (fi_upd h4 11 662 x7.toNat (h4 510 602 0)) fun h5 =>
    if x7 = h5 473 602 0 then
      lt_ (fi_upd h5 473 602 0 (wI ((h5 473 602 0) + 1))) fun h6 =>
      some (.inl (some (0, h6 473 602 0)), h6)
    else
      some (.inl (some (0, h5 473 602 0)), h5)
    else none := by
  unfold c_638_77
  exact
    have D : fk_D 638 [(77, some [0, 1, 2, 7], .iload 7, 2, 0, 0, 0), (79, none, .bipush 8, 2, 0, 8, 0), (81, none, .if_icmp .ne 6, 3, 87, 0, 0), (84, none, .bipush (-4), 2, 0, (-4), 0), (86, none, .ireturn, 1, 0, 0, 0)] := fq_of2 cd_638 ow_638 cl_638 rfl (pc := 77) (by decide +kernel)
    j_ild (pc := 77) D rfl rfl rfl fun D =>
    j_bp (pc := 79) D rfl fun D =>
    j_ine (pc := 81) D rfl (fun q D =>
      j_bp (pc := 84) D rfl fun D =>
      j_iret D rt_638) (fun q =>
      have D : fk_D 638 [(87, none, .aload_n 0, 1, 0, 0, 0), (88, none, .getfield 196, 3, 469, 129, 12), (91, none, .iload 7, 2, 0, 0, 0), (93, none, .iload_n 1, 1, 0, 0, 0), (94, none, .iastore, 1, 0, 0, 0), (95, none, .aload_n 0, 1, 0, 0, 0), (96, none, .getfield 199, 3, 470, 129, 12), (99, none, .iload 7, 2, 0, 0, 0), (101, none, .iload_n 2, 1, 0, 0, 0), (102, none, .iastore, 1, 0, 0, 0), (103, none, .aload_n 0, 1, 0, 0, 0), (104, none, .getfield 202, 3, 471, 129, 12), (107, none, .iload 7, 2, 0, 0, 0), (109, none, .aload_n 0, 1, 0, 0, 0), (110, none, .getfield 1110, 3, 509, 129, 11), (113, none, .lastore, 1, 0, 0, 0), (114, none, .aload_n 0, 1, 0, 0, 0), (115, none, .getfield 205, 3, 472, 129, 12), (118, none, .iload 7, 2, 0, 0, 0), (120, none, .aload_n 0, 1, 0, 0, 0)] := fq_of2 cd_638 ow_638 cl_638 rfl (pc := 87) (by decide +kernel)
      j_aldn (pc := 87) D rfl rfl rfl fun D =>
      j_gfc (pc := 88) (a := 602) D rfl rfl (by decide) rfl (s0_602 H) rfl (sf_469_602 H) fun D =>
      j_ild (pc := 91) D rfl rfl rfl fun D =>
      j_ildn (pc := 93) D rfl rfl rfl fun D =>
      j_as (pc := 94) (a := 659) (e := 10) D rfl ⟨rfl, rfl⟩ rfl (by decide) (s0_659 H) (s1_659 H) ⟨rfl, rfl, rfl⟩ rfl gn (gy rfl) fun h1 eh1 S qb2 D =>
      have T := fj_hs_ok H.1 S
      have H := shp_st H T
      j_aldn (pc := 95) D rfl rfl rfl fun D =>
      j_gfc (pc := 96) (a := 602) D rfl rfl (by decide) rfl (s0_602 H) rfl (sf_470_602 H) fun D =>
      j_ild (pc := 99) D rfl rfl rfl fun D =>
      j_ildn (pc := 101) D rfl rfl rfl fun D =>
      j_as (pc := 102) (a := 660) (e := 10) D rfl ⟨rfl, rfl⟩ rfl (by decide) (s0_660 H) (s1_660 H) ⟨rfl, rfl, rfl⟩ rfl (gy qb2) (gy rfl) fun h3 eh3 S q D =>
      have T := fj_hs_ok H.1 S
      have H := shp_st H T
      j_aldn (pc := 103) D rfl rfl rfl fun D =>
      j_gfc (pc := 104) (a := 602) D rfl rfl (by decide) rfl (s0_602 H) rfl (sf_471_602 H) fun D =>
      j_ild (pc := 107) D rfl rfl rfl fun D =>
      j_aldn (pc := 109) D rfl rfl rfl fun D =>
      j_gf (pc := 110) (a := 602) D rfl rfl (by decide) rfl (s0_602 H) rfl fun D =>
      j_as (pc := 113) (a := 661) (e := 11) D rfl ⟨rfl, rfl⟩ rfl (by decide) (s0_661 H) (s1_661 H) ⟨rfl, rfl, rfl⟩ rfl (gy qb2) (gy rfl) fun h4 eh4 S q D =>
      have T := fj_hs_ok H.1 S
      have H := shp_st H T
      j_aldn (pc := 114) D rfl rfl rfl fun D =>
      j_gfc (pc := 115) (a := 602) D rfl rfl (by decide) rfl (s0_602 H) rfl (sf_472_602 H) fun D =>
      j_ild (pc := 118) D rfl rfl rfl fun D =>
      j_aldn (pc := 120) D rfl rfl rfl fun D =>
      have D : fk_D 638 [(121, none, .getfield 1113, 3, 510, 129, 11), (124, none, .lastore, 1, 0, 0, 0), (125, none, .iload 7, 2, 0, 0, 0), (127, none, .aload_n 0, 1, 0, 0, 0), (128, none, .getfield 875, 3, 473, 129, 10), (131, none, .if_icmp .ne 13, 3, 144, 0, 0), (134, none, .aload_n 0, 1, 0, 0, 0), (135, none, .dup, 1, 0, 0, 0), (136, none, .getfield 875, 3, 473, 129, 10), (139, none, .iconst 1, 1, 0, 1, 0), (140, none, .iadd, 1, 0, 0, 0), (141, none, .putfield 875, 3, 473, 129, 10), (144, none, .aload_n 0, 1, 0, 0, 0), (145, none, .getfield 875, 3, 473, 129, 10), (148, none, .ireturn, 1, 0, 0, 0)] := fq_of2 cd_638 ow_638 cl_638 rfl (pc := 121) (by decide +kernel)
      j_gf (pc := 121) (a := 602) D rfl rfl (by decide) rfl (s0_602 H) rfl fun D =>
      j_as (pc := 124) (a := 662) (e := 11) D rfl ⟨rfl, rfl⟩ rfl (by decide) (s0_662 H) (s1_662 H) ⟨rfl, rfl, rfl⟩ rfl (gy qb2) (gy rfl) fun h5 eh5 S q D =>
      have T := fj_hs_ok H.1 S
      have H := shp_st H T
      j_ild (pc := 125) D rfl rfl rfl fun D =>
      j_aldn (pc := 127) D rfl rfl rfl fun D =>
      j_gf (pc := 128) (a := 602) D rfl rfl (by decide) rfl (s0_602 H) rfl fun D =>
      j_ine (pc := 131) D rfl (fun q D =>
        j_aldn (pc := 134) D rfl rfl rfl fun D =>
        j_sh (pc := 135) D rfl rfl rfl fun D =>
        j_gf (pc := 136) (a := 602) D rfl rfl (by decide) rfl (s0_602 H) rfl fun D =>
        j_ic (pc := 139) D rfl fun D =>
        j_iadd (pc := 140) D rfl fun D =>
        j_pf (pc := 141) (a := 602) D rfl rfl rfl (s0_602 H) rfl rfl (gy (by decide)) (gy rfl) fun h6 eh6 S D =>
        have T := fj_hs_ok H.1 S
        have H := shp_st H T
        j_aldn (pc := 144) D rfl rfl rfl fun D =>
        j_gf (pc := 145) (a := 602) D rfl rfl (by decide) rfl (s0_602 H) rfl fun D =>
        j_iret D rt_638) (fun q =>
        have D : fk_D 638 [(144, none, .aload_n 0, 1, 0, 0, 0), (145, none, .getfield 875, 3, 473, 129, 10), (148, none, .ireturn, 1, 0, 0, 0)] := fq_of2 cd_638 ow_638 cl_638 rfl (pc := 144) (by decide +kernel)
        j_aldn (pc := 144) D rfl rfl rfl fun D =>
        j_gf (pc := 145) (a := 602) D rfl rfl (by decide) rfl (s0_602 H) rfl fun D =>
        j_iret D rt_638))
theorem m_638 (d : Nat) (x1 x2 x3 x5 : Int) {h : fi_H} (H : Shp h) : fj_run (d + 1) 638 h [(4, 602), (0, x1), (0, x2), (1, x3), (1, x5)] =
  ca_ (fj_run d 572 h [(4, 602), (0, x1)]) 0
    (fun v2 h1 =>
    if v2 = 0 then
      some (.inl (some (0, (-1))), h1)
    else
      ca_ (fj_run d 627 h1 [(4, 602), (0, x2)]) 0
        (fun v5 h4 =>
        if v5 = 0 then
          some (.inl (some (0, (-1))), h4)
        else
          if 0 ≤ x2 ∧ x2 < 41 then
          ca_ (fj_run d 628 h4 [(4, 602), (0, h4 10 611 x2.toNat), (1, x3), (1, x5)]) 0
            (fun v9 h8 =>
            if v9 = 0 then
              some (.inl (some (0, (-2))), h8)
            else
              c_638_40 d x1 x2 0 h8)
            (fun q10 h8 => tx_ q10 h8)
          else none)
        (fun q6 h4 => tx_ q6 h4))
    (fun q3 h1 => tx_ q3 h1) := by
  rw [fj_run_eq d (by decide) h [(4, 602), (0, x1), (0, x2), (1, x3), (1, x5)] (Nat.le_of_ble_eq_true (by rw [nl_638]; rfl))]
  show gG (fj_run d) 638 0 [(0, (4, 602)), (1, (0, x1)), (2, (0, x2)), (3, (1, x3)), (5, (1, x5))] [] h = _
  exact
    have D : fk_D 638 [(0, none, .aload_n 0, 1, 0, 0, 0), (1, none, .iload_n 1, 1, 0, 0, 0), (2, none, .invokevirtual 1076, 3, 1, 439, 1), (5, none, .ifCond .eq 11, 3, 16, 0, 0), (8, none, .aload_n 0, 1, 0, 0, 0), (9, none, .iload_n 2, 1, 0, 0, 0), (10, none, .invokevirtual 1118, 3, 1, 443, 1), (13, none, .ifCond .ne 5, 3, 18, 0, 0), (16, none, .iconst (-1), 1, 0, (-1), 0), (17, none, .ireturn, 1, 0, 0, 0)] := fq_of2 cd_638 ow_638 cl_638 rfl (pc := 0) (by decide +kernel)
    j_aldn (pc := 0) D rfl rfl rfl fun D =>
    j_ildn (pc := 1) D rfl rfl rfl fun D =>
    j_iv (pc := 2) (m := 572) (dd := 439) (a := [(0, x1)]) (rest := []) D rfl rfl rfl rfl rfl (by decide) (s0_602 H) (by decide +kernel) (fun v2 h1 e1 D =>
      have T := fj_run_ok _ _ _ _ _ _ H.1 e1
      have H := shp_st H T
      j_ifeq (pc := 5) D rfl (fun q =>
        have D : fk_D 638 [(16, none, .iconst (-1), 1, 0, (-1), 0), (17, none, .ireturn, 1, 0, 0, 0)] := fq_of2 cd_638 ow_638 cl_638 rfl (pc := 16) (by decide +kernel)
        j_ic (pc := 16) D rfl fun D =>
        j_iret D rt_638) (fun q D =>
        j_aldn (pc := 8) D rfl rfl rfl fun D =>
        j_ildn (pc := 9) D rfl rfl rfl fun D =>
        j_iv (pc := 10) (m := 627) (dd := 443) (a := [(0, x2)]) (rest := []) D rfl rfl rfl rfl rfl (by decide) (s0_602 H) (by decide +kernel) (fun v5 h4 e1 D =>
          have T := fj_run_ok _ _ _ _ _ _ H.1 e1
          have H := shp_st H T
          j_ifne (pc := 13) D rfl (fun q D =>
            j_ic (pc := 16) D rfl fun D =>
            j_iret D rt_638) (fun q =>
            have D : fk_D 638 [(18, none, .aload_n 0, 1, 0, 0, 0), (19, none, .aload_n 0, 1, 0, 0, 0), (20, none, .getfield 43, 3, 407, 129, 12), (23, none, .iload_n 2, 1, 0, 0, 0), (24, none, .iaload, 1, 0, 0, 0), (25, none, .lload_n 3, 1, 0, 0, 0), (26, none, .lload 5, 2, 0, 0, 0), (28, none, .invokevirtual 1121, 3, 3, 444, 1), (31, none, .ifCond .ne 6, 3, 37, 0, 0), (34, none, .bipush (-2), 2, 0, (-2), 0), (36, none, .ireturn, 1, 0, 0, 0)] := fq_of2 cd_638 ow_638 cl_638 rfl (pc := 18) (by decide +kernel)
            j_aldn (pc := 18) D rfl rfl rfl fun D =>
            j_aldn (pc := 19) D rfl rfl rfl fun D =>
            j_gfc (pc := 20) (a := 602) D rfl rfl (by decide) rfl (s0_602 H) rfl (sf_407_602 H) fun D =>
            j_ildn (pc := 23) D rfl rfl rfl fun D =>
            j_al (pc := 24) (a := 611) (e := 10) D rfl rfl rfl (by decide) (s0_611 H) (s1_611 H) ⟨rfl, rfl, rfl⟩ rfl gn fun qb7 D =>
            j_lldn (pc := 25) D rfl rfl rfl fun D =>
            j_lld (pc := 26) D rfl rfl rfl fun D =>
            j_iv (pc := 28) (m := 628) (dd := 444) (a := [(0, h4 10 611 x2.toNat), (1, x3), (1, x5)]) (rest := []) D rfl rfl rfl rfl rfl (by decide) (s0_602 H) (by decide +kernel) (fun v9 h8 e1 D =>
              have T := fj_run_ok _ _ _ _ _ _ H.1 e1
              have H := shp_st H T
              j_ifne (pc := 31) D rfl (fun q D =>
                j_bp (pc := 34) D rfl fun D =>
                j_iret D rt_638) (fun q =>
                have D : fk_D 638 [(37, none, .iconst 0, 1, 0, 0, 0), (38, none, .istore 7, 2, 0, 0, 0)] := fq_of2 cd_638 ow_638 cl_638 rfl (pc := 37) (by decide +kernel)
                j_ic (pc := 37) D rfl fun D =>
                j_ist (pc := 38) (L' := [(7, (0, 0)), (0, (4, 602)), (1, (0, x1)), (2, (0, x2)), (3, (1, x3)), (5, (1, x5))]) D rfl nl_638 rfl rfl fun D =>
                fk_jump cut_638_40 rfl rfl)) (fun q10 h8 e1 =>
              j_tx (hx_638 _)))) (fun q6 h4 e1 =>
          j_tx (hx_638 _)))) (fun q3 h1 e1 =>
      j_tx (hx_638 _))
/-! 639 StatuteHouseModel.forget()I -/
theorem cd_639 : fi_code 639 = prog_69_method_157_code := rfl
theorem hx_639 : ∀ pc, fi_hat 639 pc = none := fun pc => by unfold fi_hat; rw [show fi_hh 639 = [] from rfl]; rfl
theorem rt_639 : fi_ret 639 = some .int := rfl
theorem nl_639 : fi_nl 639 = 2 := rfl
theorem ow_639 : fi_ow 639 = 29 := rfl
theorem cl_639 : fj_cutT.getD 639 [] = [] := rfl
theorem m_639 (d : Nat) {h : fi_H} (H : Shp h) : fj_run (d + 1) 639 h [(4, 602)] =
  lt_ (fi_upd h 473 602 0 0) fun h1 =>
  some (.inl (some (0, h 473 602 0)), h1) := by
  rw [fj_run_eq d (by decide) h [(4, 602)] (Nat.le_of_ble_eq_true (by rw [nl_639]; rfl))]
  show gG (fj_run d) 639 0 [(0, (4, 602))] [] h = _
  exact
    have D : fk_D 639 [(0, none, .aload_n 0, 1, 0, 0, 0), (1, none, .getfield 875, 3, 473, 129, 10), (4, none, .istore_n 1, 1, 0, 0, 0), (5, none, .aload_n 0, 1, 0, 0, 0), (6, none, .iconst 0, 1, 0, 0, 0), (7, none, .putfield 875, 3, 473, 129, 10), (10, none, .iload_n 1, 1, 0, 0, 0), (11, none, .ireturn, 1, 0, 0, 0)] := fq_of2 cd_639 ow_639 cl_639 rfl (pc := 0) (by decide +kernel)
    j_aldn (pc := 0) D rfl rfl rfl fun D =>
    j_gf (pc := 1) (a := 602) D rfl rfl (by decide) rfl (s0_602 H) rfl fun D =>
    j_istn (pc := 4) (L' := [(1, (0, h 473 602 0)), (0, (4, 602))]) D rfl nl_639 rfl rfl fun D =>
    j_aldn (pc := 5) D rfl rfl rfl fun D =>
    j_ic (pc := 6) D rfl fun D =>
    j_pf (pc := 7) (a := 602) D rfl rfl rfl (s0_602 H) rfl rfl (gy (by decide)) (gy rfl) fun h1 eh1 S D =>
    have T := fj_hs_ok H.1 S
    have H := shp_st H T
    j_ildn (pc := 10) D rfl rfl rfl fun D =>
    j_iret D rt_639
/-! 640 StatuteHouseModel.reckon(IIIII)I -/
theorem cd_640 : fi_code 640 = prog_69_method_159_code := rfl
theorem rt_640 : fi_ret 640 = some .int := rfl
theorem nl_640 : fi_nl 640 = 7 := rfl
theorem ow_640 : fi_ow 640 = 29 := rfl
theorem cl_640 : fj_cutT.getD 640 [] = [(48, [0])] := rfl
theorem cut_640_48 : fj_cut 640 48 = some [0] := by decide +kernel
noncomputable def c_640_48 (d : Nat) (s0 : Int) (h : fi_H) : fk_R := gG (fj_run d) 640 48 [(0, (4, 602))] [(4, s0)] h
theorem e_640_48 (d : Nat) (s0 : Int) {h : fi_H} (H : Shp h) : c_640_48 d s0 h =
  some (.inl (some (0, wI ((-10) - (h 475 602 0)))), h) := by
  unfold c_640_48
  exact
    have D : fk_D 640 [(48, some [0], .astore 6, 2, 0, 0, 0), (50, none, .bipush (-10), 2, 0, (-10), 0), (52, none, .aload_n 0, 1, 0, 0, 0), (53, none, .getfield 839, 3, 475, 129, 10), (56, none, .isub, 1, 0, 0, 0), (57, none, .ireturn, 1, 0, 0, 0)] := fq_of2 cd_640 ow_640 cl_640 rfl (pc := 48) (by decide +kernel)
    j_ast (pc := 48) (L' := [(6, (4, s0)), (0, (4, 602))]) D rfl nl_640 rfl rfl fun D =>
    j_bp (pc := 50) D rfl fun D =>
    j_aldn (pc := 52) D rfl rfl rfl fun D =>
    j_gf (pc := 53) (a := 602) D rfl rfl (by decide) rfl (s0_602 H) rfl fun D =>
    j_isub (pc := 56) D rfl fun D =>
    j_iret D rt_640
theorem m_640 (d : Nat) (x1 x2 x3 x4 x5 : Int) {h : fi_H} (H : Shp h) : fj_run (d + 1) 640 h [(4, 602), (0, x1), (0, x2), (0, x3), (0, x4), (0, x5)] =
  ca_ (fj_run d 641 h [(4, 602), (0, x2)]) 0
    (fun v2 h1 =>
    if v2 = 0 then
      some (.inl (some (0, (-1))), h1)
    else
      ca_ (fj_run d 571 h1 [(4, 602), (0, x1), (0, x3), (0, x4), (0, x5)]) 0
        (fun v5 h4 =>
        if v5 = 0 then
          some (.inl (some (0, (-2))), h4)
        else
          cv_ (fj_run d 573 h4 [(4, 602)])
            (fun h7 =>
            cv_ (fj_run d 574 h7 [(4, 602), (0, x1), (0, x3), (0, x4), (0, x5)])
              (fun h10 =>
              cv_ (fj_run d 605 h10 [(4, 602), (0, x2)])
                (fun h13 =>
                lt_ (fi_upd h13 507 602 0 (h13 492 602 0)) fun h16 =>
                lt_ (fi_upd h16 508 602 0 (h16 493 602 0)) fun h17 =>
                if 0 ≤ x2 ∧ x2 < 41 then
                some (.inl (some (0, h17 10 611 x2.toNat)), h17)
                else none)
                (fun q15 h13 => tc_ 130 q15 h13 (c_640_48 d (q15 : Int) h13)))
              (fun q12 h10 => tx_ q12 h10))
            (fun q9 h7 => tx_ q9 h7))
        (fun q6 h4 => tx_ q6 h4))
    (fun q3 h1 => tx_ q3 h1) := by
  rw [fj_run_eq d (by decide) h [(4, 602), (0, x1), (0, x2), (0, x3), (0, x4), (0, x5)] (Nat.le_of_ble_eq_true (by rw [nl_640]; rfl))]
  show gG (fj_run d) 640 0 [(0, (4, 602)), (1, (0, x1)), (2, (0, x2)), (3, (0, x3)), (4, (0, x4)), (5, (0, x5))] [] h = _
  exact
    have D : fk_D 640 [(0, none, .aload_n 0, 1, 0, 0, 0), (1, none, .iload_n 2, 1, 0, 0, 0), (2, none, .invokevirtual 1148, 3, 1, 452, 1), (5, none, .ifCond .ne 5, 3, 10, 0, 0), (8, none, .iconst (-1), 1, 0, (-1), 0), (9, none, .ireturn, 1, 0, 0, 0)] := fq_of2 cd_640 ow_640 cl_640 rfl (pc := 0) (by decide +kernel)
    j_aldn (pc := 0) D rfl rfl rfl fun D =>
    j_ildn (pc := 1) D rfl rfl rfl fun D =>
    j_iv (pc := 2) (m := 641) (dd := 452) (a := [(0, x2)]) (rest := []) D rfl rfl rfl rfl rfl (by decide) (s0_602 H) (by decide +kernel) (fun v2 h1 e1 D =>
      have T := fj_run_ok _ _ _ _ _ _ H.1 e1
      have H := shp_st H T
      j_ifne (pc := 5) D rfl (fun q D =>
        j_ic (pc := 8) D rfl fun D =>
        j_iret D rt_640) (fun q =>
        have D : fk_D 640 [(10, none, .aload_n 0, 1, 0, 0, 0), (11, none, .iload_n 1, 1, 0, 0, 0), (12, none, .iload_n 3, 1, 0, 0, 0), (13, none, .iload 4, 2, 0, 0, 0), (15, none, .iload 5, 2, 0, 0, 0), (17, none, .invokevirtual 1079, 3, 4, 440, 1), (20, none, .ifCond .ne 6, 3, 26, 0, 0), (23, none, .bipush (-2), 2, 0, (-2), 0), (25, none, .ireturn, 1, 0, 0, 0)] := fq_of2 cd_640 ow_640 cl_640 rfl (pc := 10) (by decide +kernel)
        j_aldn (pc := 10) D rfl rfl rfl fun D =>
        j_ildn (pc := 11) D rfl rfl rfl fun D =>
        j_ildn (pc := 12) D rfl rfl rfl fun D =>
        j_ild (pc := 13) D rfl rfl rfl fun D =>
        j_ild (pc := 15) D rfl rfl rfl fun D =>
        j_iv (pc := 17) (m := 571) (dd := 440) (a := [(0, x1), (0, x3), (0, x4), (0, x5)]) (rest := []) D rfl rfl rfl rfl rfl (by decide) (s0_602 H) (by decide +kernel) (fun v5 h4 e1 D =>
          have T := fj_run_ok _ _ _ _ _ _ H.1 e1
          have H := shp_st H T
          j_ifne (pc := 20) D rfl (fun q D =>
            j_bp (pc := 23) D rfl fun D =>
            j_iret D rt_640) (fun q =>
            have D : fk_D 640 [(26, none, .aload_n 0, 1, 0, 0, 0), (27, none, .invokevirtual 1083, 3, 0, 441, 0), (30, none, .aload_n 0, 1, 0, 0, 0), (31, none, .iload_n 1, 1, 0, 0, 0), (32, none, .iload_n 3, 1, 0, 0, 0), (33, none, .iload 4, 2, 0, 0, 0), (35, none, .iload 5, 2, 0, 0, 0), (37, none, .invokevirtual 1086, 3, 4, 442, 0), (40, none, .aload_n 0, 1, 0, 0, 0), (41, none, .iload_n 2, 1, 0, 0, 0), (42, none, .invokevirtual 979, 3, 1, 420, 0), (45, none, .goto 13, 3, 58, 0, 0)] := fq_of2 cd_640 ow_640 cl_640 rfl (pc := 26) (by decide +kernel)
            j_aldn (pc := 26) D rfl rfl rfl fun D =>
            j_ivv (pc := 27) (m := 573) (dd := 441) (a := []) (rest := []) D rfl rfl rfl rfl rfl (by decide) (s0_602 H) (by decide +kernel) (fun h7 e1 D =>
              have T := fj_run_ok _ _ _ _ _ _ H.1 e1
              have H := shp_st H T
              j_aldn (pc := 30) D rfl rfl rfl fun D =>
              j_ildn (pc := 31) D rfl rfl rfl fun D =>
              j_ildn (pc := 32) D rfl rfl rfl fun D =>
              j_ild (pc := 33) D rfl rfl rfl fun D =>
              j_ild (pc := 35) D rfl rfl rfl fun D =>
              j_ivv (pc := 37) (m := 574) (dd := 442) (a := [(0, x1), (0, x3), (0, x4), (0, x5)]) (rest := []) D rfl rfl rfl rfl rfl (by decide) (s0_602 H) (by decide +kernel) (fun h10 e1 D =>
                have T := fj_run_ok _ _ _ _ _ _ H.1 e1
                have H := shp_st H T
                j_aldn (pc := 40) D rfl rfl rfl fun D =>
                j_ildn (pc := 41) D rfl rfl rfl fun D =>
                j_ivv (pc := 42) (m := 605) (dd := 420) (a := [(0, x2)]) (rest := []) D rfl rfl rfl rfl rfl (by decide) (s0_602 H) (by decide +kernel) (fun h13 e1 D =>
                  have T := fj_run_ok _ _ _ _ _ _ H.1 e1
                  have H := shp_st H T
                  j_goto (pc := 45) D rfl <|
                  have D : fk_D 640 [(58, none, .aload_n 0, 1, 0, 0, 0), (59, none, .aload_n 0, 1, 0, 0, 0), (60, none, .getfield 869, 3, 492, 129, 11), (63, none, .putfield 1089, 3, 507, 129, 11), (66, none, .aload_n 0, 1, 0, 0, 0), (67, none, .aload_n 0, 1, 0, 0, 0), (68, none, .getfield 872, 3, 493, 129, 11), (71, none, .putfield 1092, 3, 508, 129, 11), (74, none, .aload_n 0, 1, 0, 0, 0), (75, none, .getfield 43, 3, 407, 129, 12), (78, none, .iload_n 2, 1, 0, 0, 0), (79, none, .iaload, 1, 0, 0, 0), (80, none, .ireturn, 1, 0, 0, 0)] := fq_of2 cd_640 ow_640 cl_640 rfl (pc := 58) (by decide +kernel)
                  j_aldn (pc := 58) D rfl rfl rfl fun D =>
                  j_aldn (pc := 59) D rfl rfl rfl fun D =>
                  j_gf (pc := 60) (a := 602) D rfl rfl (by decide) rfl (s0_602 H) rfl fun D =>
                  j_pf (pc := 63) (a := 602) D rfl rfl rfl (s0_602 H) rfl rfl (gy (by decide)) (gy rfl) fun h16 eh16 S D =>
                  have T := fj_hs_ok H.1 S
                  have H := shp_st H T
                  j_aldn (pc := 66) D rfl rfl rfl fun D =>
                  j_aldn (pc := 67) D rfl rfl rfl fun D =>
                  j_gf (pc := 68) (a := 602) D rfl rfl (by decide) rfl (s0_602 H) rfl fun D =>
                  j_pf (pc := 71) (a := 602) D rfl rfl rfl (s0_602 H) rfl rfl (gy (by decide)) (gy rfl) fun h17 eh17 S D =>
                  have T := fj_hs_ok H.1 S
                  have H := shp_st H T
                  j_aldn (pc := 74) D rfl rfl rfl fun D =>
                  j_gfc (pc := 75) (a := 602) D rfl rfl (by decide) rfl (s0_602 H) rfl (sf_407_602 H) fun D =>
                  j_ildn (pc := 78) D rfl rfl rfl fun D =>
                  j_al (pc := 79) (a := 611) (e := 10) D rfl rfl rfl (by decide) (s0_611 H) (s1_611 H) ⟨rfl, rfl, rfl⟩ rfl gn fun qb18 D =>
                  j_iret D rt_640) (fun q15 h13 e1 =>
                  j_tc_ (n := 130) (fk_at (cu := none) (by decide +kernel) rfl) (s := 40) (e := 45) (hp := 48) (ct := 9) (by decide +kernel) rfl (by decide +kernel) <|
                  fk_jump cut_640_48 rfl rfl)) (fun q12 h10 e1 =>
                j_tx (by decide +kernel))) (fun q9 h7 e1 =>
              j_tx (by decide +kernel)))) (fun q6 h4 e1 =>
          j_tx (by decide +kernel)))) (fun q3 h1 e1 =>
      j_tx (by decide +kernel))
/-! 641 StatuteHouseModel.isTerm(I)Z -/
theorem cd_641 : fi_code 641 = prog_69_method_158_code := rfl
theorem hx_641 : ∀ pc, fi_hat 641 pc = none := fun pc => by unfold fi_hat; rw [show fi_hh 641 = [] from rfl]; rfl
theorem rt_641 : fi_ret 641 = some .boolean := rfl
theorem nl_641 : fi_nl 641 = 2 := rfl
theorem ow_641 : fi_ow 641 = 29 := rfl
theorem cl_641 : fj_cutT.getD 641 [] = [] := rfl
theorem m_641 (d : Nat) (x1 : Int) {h : fi_H} (H : Shp h) : fj_run (d + 1) 641 h [(4, 602), (0, x1)] =
  ca_ (fj_run d 508 h [(1, wI x1), (1, 0), (1, wI (wI ((h 413 602 0) - 1)))]) 0
    (fun v2 h1 =>
    if v2 = 0 then
      some (.inl (some (0, 0)), h1)
    else
      if 0 ≤ x1 ∧ x1 < 41 then
      if h1 10 610 x1.toNat = 1 then
        some (.inl (some (0, 1)), h1)
      else
        some (.inl (some (0, 0)), h1)
      else none)
    (fun q3 h1 => tx_ q3 h1) := by
  rw [fj_run_eq d (by decide) h [(4, 602), (0, x1)] (Nat.le_of_ble_eq_true (by rw [nl_641]; rfl))]
  show gG (fj_run d) 641 0 [(0, (4, 602)), (1, (0, x1))] [] h = _
  exact
    have D : fk_D 641 [(0, none, .iload_n 1, 1, 0, 0, 0), (1, none, .i2l, 1, 0, 0, 0), (2, none, .lconst 0, 1, 0, 0, 0), (3, none, .aload_n 0, 1, 0, 0, 0), (4, none, .getfield 579, 3, 413, 129, 10), (7, none, .iconst 1, 1, 0, 1, 0), (8, none, .isub, 1, 0, 0, 0), (9, none, .i2l, 1, 0, 0, 0), (10, none, .invokestatic 434, 3, 3, 508, 1), (13, none, .ifCond .eq 17, 3, 30, 0, 0), (16, none, .aload_n 0, 1, 0, 0, 0), (17, none, .getfield 40, 3, 406, 129, 12), (20, none, .iload_n 1, 1, 0, 0, 0), (21, none, .iaload, 1, 0, 0, 0), (22, none, .iconst 1, 1, 0, 1, 0), (23, none, .if_icmp .ne 7, 3, 30, 0, 0), (26, none, .iconst 1, 1, 0, 1, 0), (27, none, .goto 4, 3, 31, 0, 0)] := fq_of2 cd_641 ow_641 cl_641 rfl (pc := 0) (by decide +kernel)
    j_ildn (pc := 0) D rfl rfl rfl fun D =>
    j_i2l (pc := 1) D rfl fun D =>
    j_c0 (pc := 2) (v := (1, 0)) D rfl rfl (by decide +kernel) fun D =>
    j_aldn (pc := 3) D rfl rfl rfl fun D =>
    j_gf (pc := 4) (a := 602) D rfl rfl (by decide) rfl (s0_602 H) rfl fun D =>
    j_ic (pc := 7) D rfl fun D =>
    j_isub (pc := 8) D rfl fun D =>
    j_i2l (pc := 9) D rfl fun D =>
    j_is (pc := 10) (m := 508) (a := [(1, wI x1), (1, 0), (1, wI (wI ((h 413 602 0) - 1)))]) (rest := []) D rfl rfl rfl rfl (fun v2 h1 e1 D =>
      have T := fj_run_ok _ _ _ _ _ _ H.1 e1
      have H := shp_st H T
      j_ifeq (pc := 13) D rfl (fun q =>
        have D : fk_D 641 [(30, none, .iconst 0, 1, 0, 0, 0), (31, none, .ireturn, 1, 0, 0, 0)] := fq_of2 cd_641 ow_641 cl_641 rfl (pc := 30) (by decide +kernel)
        j_ic (pc := 30) D rfl fun D =>
        j_zret D rt_641 (gy (by decide))) (fun q D =>
        j_aldn (pc := 16) D rfl rfl rfl fun D =>
        j_gfc (pc := 17) (a := 602) D rfl rfl (by decide) rfl (s0_602 H) rfl (sf_406_602 H) fun D =>
        j_ildn (pc := 20) D rfl rfl rfl fun D =>
        j_al (pc := 21) (a := 610) (e := 10) D rfl rfl rfl (by decide) (s0_610 H) (s1_610 H) ⟨rfl, rfl, rfl⟩ rfl gn fun qb4 D =>
        j_ic (pc := 22) D rfl fun D =>
        j_ine (pc := 23) D rfl (fun q D =>
          j_ic (pc := 26) D rfl fun D =>
          j_goto (pc := 27) D rfl <|
          have D : fk_D 641 [(31, none, .ireturn, 1, 0, 0, 0)] := fq_of2 cd_641 ow_641 cl_641 rfl (pc := 31) (by decide +kernel)
          j_zret D rt_641 (gy (by decide))) (fun q =>
          have D : fk_D 641 [(30, none, .iconst 0, 1, 0, 0, 0), (31, none, .ireturn, 1, 0, 0, 0)] := fq_of2 cd_641 ow_641 cl_641 rfl (pc := 30) (by decide +kernel)
          j_ic (pc := 30) D rfl fun D =>
          j_zret D rt_641 (gy (by decide))))) (fun q3 h1 e1 =>
      j_tx (hx_641 _))
/-! 642 StatuteHouseModel.value(I)J -/
theorem cd_642 : fi_code 642 = prog_69_method_160_code := rfl
theorem hx_642 : ∀ pc, fi_hat 642 pc = none := fun pc => by unfold fi_hat; rw [show fi_hh 642 = [] from rfl]; rfl
theorem rt_642 : fi_ret 642 = some .long := rfl
theorem nl_642 : fi_nl 642 = 2 := rfl
theorem ow_642 : fi_ow 642 = 29 := rfl
theorem cl_642 : fj_cutT.getD 642 [] = [] := rfl
theorem m_642 (d : Nat) (x1 : Int) {h : fi_H} (H : Shp h) : fj_run (d + 1) 642 h [(4, 602), (0, x1)] =
  if x1 = 0 then
    some (.inl (some (1, h 507 602 0)), h)
  else
    if x1 = 1 then
      some (.inl (some (1, h 508 602 0)), h)
    else
      some (.inl (some (1, 0)), h) := by
  rw [fj_run_eq d (by decide) h [(4, 602), (0, x1)] (Nat.le_of_ble_eq_true (by rw [nl_642]; rfl))]
  show gG (fj_run d) 642 0 [(0, (4, 602)), (1, (0, x1))] [] h = _
  exact
    have D : fk_D 642 [(0, none, .iload_n 1, 1, 0, 0, 0), (1, none, .ifCond .ne 10, 3, 11, 0, 0), (4, none, .aload_n 0, 1, 0, 0, 0), (5, none, .getfield 1089, 3, 507, 129, 11), (8, none, .goto 16, 3, 24, 0, 0)] := fq_of2 cd_642 ow_642 cl_642 rfl (pc := 0) (by decide +kernel)
    j_ildn (pc := 0) D rfl rfl rfl fun D =>
    j_ifne (pc := 1) D rfl (fun q D =>
      j_aldn (pc := 4) D rfl rfl rfl fun D =>
      j_gf (pc := 5) (a := 602) D rfl rfl (by decide) rfl (s0_602 H) rfl fun D =>
      j_goto (pc := 8) D rfl <|
      have D : fk_D 642 [(24, none, .lreturn, 1, 0, 0, 0)] := fq_of2 cd_642 ow_642 cl_642 rfl (pc := 24) (by decide +kernel)
      j_lret D rt_642) (fun q =>
      have D : fk_D 642 [(11, none, .iload_n 1, 1, 0, 0, 0), (12, none, .iconst 1, 1, 0, 1, 0), (13, none, .if_icmp .ne 10, 3, 23, 0, 0), (16, none, .aload_n 0, 1, 0, 0, 0), (17, none, .getfield 1092, 3, 508, 129, 11), (20, none, .goto 4, 3, 24, 0, 0)] := fq_of2 cd_642 ow_642 cl_642 rfl (pc := 11) (by decide +kernel)
      j_ildn (pc := 11) D rfl rfl rfl fun D =>
      j_ic (pc := 12) D rfl fun D =>
      j_ine (pc := 13) D rfl (fun q D =>
        j_aldn (pc := 16) D rfl rfl rfl fun D =>
        j_gf (pc := 17) (a := 602) D rfl rfl (by decide) rfl (s0_602 H) rfl fun D =>
        j_goto (pc := 20) D rfl <|
        have D : fk_D 642 [(24, none, .lreturn, 1, 0, 0, 0)] := fq_of2 cd_642 ow_642 cl_642 rfl (pc := 24) (by decide +kernel)
        j_lret D rt_642) (fun q =>
        have D : fk_D 642 [(23, none, .lconst 0, 1, 0, 0, 0), (24, none, .lreturn, 1, 0, 0, 0)] := fq_of2 cd_642 ow_642 cl_642 rfl (pc := 23) (by decide +kernel)
        j_c0 (pc := 23) (v := (1, 0)) D rfl rfl (by decide +kernel) fun D =>
        j_lret D rt_642))
/-! 643 StatuteHouseModel.failed(I)I -/
theorem cd_643 : fi_code 643 = prog_69_method_161_code := rfl
theorem hx_643 : ∀ pc, fi_hat 643 pc = none := fun pc => by unfold fi_hat; rw [show fi_hh 643 = [] from rfl]; rfl
theorem rt_643 : fi_ret 643 = some .int := rfl
theorem nl_643 : fi_nl 643 = 2 := rfl
theorem ow_643 : fi_ow 643 = 29 := rfl
theorem cl_643 : fj_cutT.getD 643 [] = [] := rfl
theorem m_643 (d : Nat) (x1 : Int) {h : fi_H} (H : Shp h) : fj_run (d + 1) 643 h [(4, 602), (0, x1)] =
  if x1 = 0 then
    some (.inl (some (0, h 475 602 0)), h)
  else if x1 = 1 then
    some (.inl (some (0, h 476 602 0)), h)
  else if x1 = 2 then
    some (.inl (some (0, h 477 602 0)), h)
  else if x1 = 3 then
    some (.inl (some (0, h 478 602 0)), h)
  else if x1 = 4 then
    some (.inl (some (0, h 479 602 0)), h)
  else if x1 = 5 then
    some (.inl (some (0, h 480 602 0)), h)
  else 
    some (.inl (some (0, (-1))), h) := by
  rw [fj_run_eq d (by decide) h [(4, 602), (0, x1)] (Nat.le_of_ble_eq_true (by rw [nl_643]; rfl))]
  show gG (fj_run d) 643 0 [(0, (4, 602)), (1, (0, x1))] [] h = _
  exact
    have D : fk_D 643 [(0, none, .iload_n 1, 1, 0, 0, 0), (1, none, .tableswitch 69 0 5 #[39, 44, 49, 54, 59, 64], 39, 0, 0, 0)] := fq_of3 cd_643 ow_643 cl_643 rfl (pc := 0) (by decide +kernel)
    j_ildn (pc := 0) D rfl rfl rfl fun D =>
    have N : fk_ni (x1) [] := trivial
    j_tc (pc := 1) 0 (t := 40) D N rfl (by decide +kernel) (fun q =>
      have D : fk_D 643 [(40, none, .aload_n 0, 1, 0, 0, 0), (41, none, .getfield 839, 3, 475, 129, 10), (44, none, .ireturn, 1, 0, 0, 0)] := fq_of2 cd_643 ow_643 cl_643 rfl (pc := 40) (by decide +kernel)
      j_aldn (pc := 40) D rfl rfl rfl fun D =>
      j_gf (pc := 41) (a := 602) D rfl rfl (by decide) rfl (s0_602 H) rfl fun D =>
      j_iret D rt_643) (fun N =>
      j_tc 1 (t := 45) D N rfl (by decide +kernel) (fun q =>
        have D : fk_D 643 [(45, none, .aload_n 0, 1, 0, 0, 0), (46, none, .getfield 212, 3, 476, 129, 10), (49, none, .ireturn, 1, 0, 0, 0)] := fq_of2 cd_643 ow_643 cl_643 rfl (pc := 45) (by decide +kernel)
        j_aldn (pc := 45) D rfl rfl rfl fun D =>
        j_gf (pc := 46) (a := 602) D rfl rfl (by decide) rfl (s0_602 H) rfl fun D =>
        j_iret D rt_643) (fun N =>
        j_tc 2 (t := 50) D N rfl (by decide +kernel) (fun q =>
          have D : fk_D 643 [(50, none, .aload_n 0, 1, 0, 0, 0), (51, none, .getfield 215, 3, 477, 129, 10), (54, none, .ireturn, 1, 0, 0, 0)] := fq_of2 cd_643 ow_643 cl_643 rfl (pc := 50) (by decide +kernel)
          j_aldn (pc := 50) D rfl rfl rfl fun D =>
          j_gf (pc := 51) (a := 602) D rfl rfl (by decide) rfl (s0_602 H) rfl fun D =>
          j_iret D rt_643) (fun N =>
          j_tc 3 (t := 55) D N rfl (by decide +kernel) (fun q =>
            have D : fk_D 643 [(55, none, .aload_n 0, 1, 0, 0, 0), (56, none, .getfield 218, 3, 478, 129, 10), (59, none, .ireturn, 1, 0, 0, 0)] := fq_of2 cd_643 ow_643 cl_643 rfl (pc := 55) (by decide +kernel)
            j_aldn (pc := 55) D rfl rfl rfl fun D =>
            j_gf (pc := 56) (a := 602) D rfl rfl (by decide) rfl (s0_602 H) rfl fun D =>
            j_iret D rt_643) (fun N =>
            j_tc 4 (t := 60) D N rfl (by decide +kernel) (fun q =>
              have D : fk_D 643 [(60, none, .aload_n 0, 1, 0, 0, 0), (61, none, .getfield 221, 3, 479, 129, 10), (64, none, .ireturn, 1, 0, 0, 0)] := fq_of2 cd_643 ow_643 cl_643 rfl (pc := 60) (by decide +kernel)
              j_aldn (pc := 60) D rfl rfl rfl fun D =>
              j_gf (pc := 61) (a := 602) D rfl rfl (by decide) rfl (s0_602 H) rfl fun D =>
              j_iret D rt_643) (fun N =>
              j_tc 5 (t := 65) D N rfl (by decide +kernel) (fun q =>
                have D : fk_D 643 [(65, none, .aload_n 0, 1, 0, 0, 0), (66, none, .getfield 848, 3, 480, 129, 10), (69, none, .ireturn, 1, 0, 0, 0)] := fq_of2 cd_643 ow_643 cl_643 rfl (pc := 65) (by decide +kernel)
                j_aldn (pc := 65) D rfl rfl rfl fun D =>
                j_gf (pc := 66) (a := 602) D rfl rfl (by decide) rfl (s0_602 H) rfl fun D =>
                j_iret D rt_643) (fun N =>
                j_td (t := 70) D N rfl (by decide +kernel) (by decide +kernel) <|
                have D : fk_D 643 [(70, none, .iconst (-1), 1, 0, (-1), 0), (71, none, .ireturn, 1, 0, 0, 0)] := fq_of2 cd_643 ow_643 cl_643 rfl (pc := 70) (by decide +kernel)
                j_ic (pc := 70) D rfl fun D =>
                j_iret D rt_643))))))
/-! 644 StatuteHouseModel.why(II)J -/
theorem cd_644 : fi_code 644 = prog_69_method_162_code := rfl
theorem hx_644 : ∀ pc, fi_hat 644 pc = none := fun pc => by unfold fi_hat; rw [show fi_hh 644 = [] from rfl]; rfl
theorem rt_644 : fi_ret 644 = some .long := rfl
theorem nl_644 : fi_nl 644 = 3 := rfl
theorem ow_644 : fi_ow 644 = 29 := rfl
theorem cl_644 : fj_cutT.getD 644 [] = [(23, [0, 1, 2]), (92, [0, 1]), (100, [0, 1]), (108, [0, 1]), (116, [0, 1]), (124, [0, 1]), (132, [0, 1]), (140, [0, 1]), (148, [0, 1]), (156, [0, 1]), (163, [0, 1]), (170, [])] := rfl
theorem cut_644_23 : fj_cut 644 23 = some [0, 1, 2] := by decide +kernel
noncomputable def c_644_23 (d : Nat) (x1 x2 s0 s1 s2 : Int) (h : fi_H) : fk_R := gG (fj_run d) 644 23 [(0, (4, 602)), (1, (0, x1)), (2, (0, x2))] [(0, s2), (1, s1), (1, s0)] h
theorem cut_644_92 : fj_cut 644 92 = some [0, 1] := by decide +kernel
noncomputable def c_644_92 (d : Nat) (x1 : Int) (h : fi_H) : fk_R := gG (fj_run d) 644 92 [(0, (4, 602)), (1, (0, x1))] [] h
theorem cut_644_100 : fj_cut 644 100 = some [0, 1] := by decide +kernel
noncomputable def c_644_100 (d : Nat) (x1 : Int) (h : fi_H) : fk_R := gG (fj_run d) 644 100 [(0, (4, 602)), (1, (0, x1))] [] h
theorem cut_644_108 : fj_cut 644 108 = some [0, 1] := by decide +kernel
noncomputable def c_644_108 (d : Nat) (x1 : Int) (h : fi_H) : fk_R := gG (fj_run d) 644 108 [(0, (4, 602)), (1, (0, x1))] [] h
theorem cut_644_116 : fj_cut 644 116 = some [0, 1] := by decide +kernel
noncomputable def c_644_116 (d : Nat) (x1 : Int) (h : fi_H) : fk_R := gG (fj_run d) 644 116 [(0, (4, 602)), (1, (0, x1))] [] h
theorem cut_644_124 : fj_cut 644 124 = some [0, 1] := by decide +kernel
noncomputable def c_644_124 (d : Nat) (x1 : Int) (h : fi_H) : fk_R := gG (fj_run d) 644 124 [(0, (4, 602)), (1, (0, x1))] [] h
theorem cut_644_132 : fj_cut 644 132 = some [0, 1] := by decide +kernel
noncomputable def c_644_132 (d : Nat) (x1 : Int) (h : fi_H) : fk_R := gG (fj_run d) 644 132 [(0, (4, 602)), (1, (0, x1))] [] h
theorem cut_644_140 : fj_cut 644 140 = some [0, 1] := by decide +kernel
noncomputable def c_644_140 (d : Nat) (x1 : Int) (h : fi_H) : fk_R := gG (fj_run d) 644 140 [(0, (4, 602)), (1, (0, x1))] [] h
theorem cut_644_148 : fj_cut 644 148 = some [0, 1] := by decide +kernel
noncomputable def c_644_148 (d : Nat) (x1 : Int) (h : fi_H) : fk_R := gG (fj_run d) 644 148 [(0, (4, 602)), (1, (0, x1))] [] h
theorem cut_644_156 : fj_cut 644 156 = some [0, 1] := by decide +kernel
noncomputable def c_644_156 (d : Nat) (x1 : Int) (h : fi_H) : fk_R := gG (fj_run d) 644 156 [(0, (4, 602)), (1, (0, x1))] [] h
theorem cut_644_163 : fj_cut 644 163 = some [0, 1] := by decide +kernel
noncomputable def c_644_163 (d : Nat) (x1 : Int) (h : fi_H) : fk_R := gG (fj_run d) 644 163 [(0, (4, 602)), (1, (0, x1))] [] h
theorem cut_644_170 : fj_cut 644 170 = some [] := by decide +kernel
noncomputable def c_644_170 (d : Nat) (h : fi_H) : fk_R := gG (fj_run d) 644 170 [] [] h
theorem e_644_23 (d : Nat) (x1 x2 s0 s1 s2 : Int) {h : fi_H} (H : Shp h) : c_644_23 d x1 x2 s0 s1 s2 h =
  ca_ (fj_run d 508 h [(1, s0), (1, s1), (1, wI (wI (s2 - 1)))]) 0
    (fun v2 h1 =>
    if v2 = 0 then
      some (.inl (some (1, (-1))), h1)
    else
      if x2 = 0 then
        c_644_92 d x1 h1
      else if x2 = 1 then
        c_644_100 d x1 h1
      else if x2 = 2 then
        c_644_108 d x1 h1
      else if x2 = 3 then
        c_644_116 d x1 h1
      else if x2 = 4 then
        c_644_124 d x1 h1
      else if x2 = 5 then
        c_644_132 d x1 h1
      else if x2 = 6 then
        c_644_140 d x1 h1
      else if x2 = 7 then
        c_644_148 d x1 h1
      else if x2 = 8 then
        c_644_156 d x1 h1
      else if x2 = 9 then
        c_644_163 d x1 h1
      else 
        c_644_170 d h1)
    (fun q3 h1 => tx_ q3 h1) := by
  unfold c_644_23
  exact
    have D : fk_D 644 [(23, some [0, 1, 2], .iconst 1, 1, 0, 1, 0), (24, none, .isub, 1, 0, 0, 0), (25, none, .i2l, 1, 0, 0, 0), (26, none, .invokestatic 434, 3, 3, 508, 1), (29, none, .ifCond .ne 7, 3, 36, 0, 0), (32, none, .ldc2_w 1024, 3, 1, (-1), 0), (35, none, .lreturn, 1, 0, 0, 0)] := fq_of2 cd_644 ow_644 cl_644 rfl (pc := 23) (by decide +kernel)
    j_ic (pc := 23) D rfl fun D =>
    j_isub (pc := 24) D rfl fun D =>
    j_i2l (pc := 25) D rfl fun D =>
    j_is (pc := 26) (m := 508) (a := [(1, s0), (1, s1), (1, wI (wI (s2 - 1)))]) (rest := []) D rfl rfl rfl rfl (fun v2 h1 e1 D =>
      have T := fj_run_ok _ _ _ _ _ _ H.1 e1
      have H := shp_st H T
      j_ifne (pc := 29) D rfl (fun q D =>
        j_ldc2 (pc := 32) D rfl fun D =>
        j_lret D rt_644) (fun q =>
        have D : fk_D 644 [(36, none, .iload_n 2, 1, 0, 0, 0), (37, none, .tableswitch 133 0 9 #[55, 63, 71, 79, 87, 95, 103, 111, 119, 126], 55, 0, 0, 0)] := fq_of3 cd_644 ow_644 cl_644 rfl (pc := 36) (by decide +kernel)
        j_ildn (pc := 36) D rfl rfl rfl fun D =>
        have N : fk_ni (x2) [] := trivial
        j_tc (pc := 37) 0 (t := 92) D N rfl (by decide +kernel) (fun q =>
          fk_jump cut_644_92 rfl rfl) (fun N =>
          j_tc 1 (t := 100) D N rfl (by decide +kernel) (fun q =>
            fk_jump cut_644_100 rfl rfl) (fun N =>
            j_tc 2 (t := 108) D N rfl (by decide +kernel) (fun q =>
              fk_jump cut_644_108 rfl rfl) (fun N =>
              j_tc 3 (t := 116) D N rfl (by decide +kernel) (fun q =>
                fk_jump cut_644_116 rfl rfl) (fun N =>
                j_tc 4 (t := 124) D N rfl (by decide +kernel) (fun q =>
                  fk_jump cut_644_124 rfl rfl) (fun N =>
                  j_tc 5 (t := 132) D N rfl (by decide +kernel) (fun q =>
                    fk_jump cut_644_132 rfl rfl) (fun N =>
                    j_tc 6 (t := 140) D N rfl (by decide +kernel) (fun q =>
                      fk_jump cut_644_140 rfl rfl) (fun N =>
                      j_tc 7 (t := 148) D N rfl (by decide +kernel) (fun q =>
                        fk_jump cut_644_148 rfl rfl) (fun N =>
                        j_tc 8 (t := 156) D N rfl (by decide +kernel) (fun q =>
                          fk_jump cut_644_156 rfl rfl) (fun N =>
                          j_tc 9 (t := 163) D N rfl (by decide +kernel) (fun q =>
                            fk_jump cut_644_163 rfl rfl) (fun N =>
                            j_td (t := 170) D N rfl (by decide +kernel) (by decide +kernel) <|
                            fk_jump cut_644_170 rfl rfl)))))))))))) (fun q3 h1 e1 =>
      j_tx (hx_644 _))
theorem e_644_92 (d : Nat) (x1 : Int) {h : fi_H} (H : Shp h) : c_644_92 d x1 h =
  if 0 ≤ x1 ∧ x1 < 300 then
  some (.inl (some (1, wI (h 10 666 x1.toNat))), h)
  else none := by
  unfold c_644_92
  exact
    have D : fk_D 644 [(92, some [0, 1], .aload_n 0, 1, 0, 0, 0), (93, none, .getfield 236, 3, 496, 129, 12), (96, none, .iload_n 1, 1, 0, 0, 0), (97, none, .iaload, 1, 0, 0, 0), (98, none, .i2l, 1, 0, 0, 0), (99, none, .lreturn, 1, 0, 0, 0)] := fq_of2 cd_644 ow_644 cl_644 rfl (pc := 92) (by decide +kernel)
    j_aldn (pc := 92) D rfl rfl rfl fun D =>
    j_gfc (pc := 93) (a := 602) D rfl rfl (by decide) rfl (s0_602 H) rfl (sf_496_602 H) fun D =>
    j_ildn (pc := 96) D rfl rfl rfl fun D =>
    j_al (pc := 97) (a := 666) (e := 10) D rfl rfl rfl (by decide) (s0_666 H) (s1_666 H) ⟨rfl, rfl, rfl⟩ rfl gn fun qb1 D =>
    j_i2l (pc := 98) D rfl fun D =>
    j_lret D rt_644
theorem e_644_100 (d : Nat) (x1 : Int) {h : fi_H} (H : Shp h) : c_644_100 d x1 h =
  if 0 ≤ x1 ∧ x1 < 300 then
  some (.inl (some (1, wI (h 10 667 x1.toNat))), h)
  else none := by
  unfold c_644_100
  exact
    have D : fk_D 644 [(100, some [0, 1], .aload_n 0, 1, 0, 0, 0), (101, none, .getfield 239, 3, 497, 129, 12), (104, none, .iload_n 1, 1, 0, 0, 0), (105, none, .iaload, 1, 0, 0, 0), (106, none, .i2l, 1, 0, 0, 0), (107, none, .lreturn, 1, 0, 0, 0)] := fq_of2 cd_644 ow_644 cl_644 rfl (pc := 100) (by decide +kernel)
    j_aldn (pc := 100) D rfl rfl rfl fun D =>
    j_gfc (pc := 101) (a := 602) D rfl rfl (by decide) rfl (s0_602 H) rfl (sf_497_602 H) fun D =>
    j_ildn (pc := 104) D rfl rfl rfl fun D =>
    j_al (pc := 105) (a := 667) (e := 10) D rfl rfl rfl (by decide) (s0_667 H) (s1_667 H) ⟨rfl, rfl, rfl⟩ rfl gn fun qb1 D =>
    j_i2l (pc := 106) D rfl fun D =>
    j_lret D rt_644
theorem e_644_108 (d : Nat) (x1 : Int) {h : fi_H} (H : Shp h) : c_644_108 d x1 h =
  if 0 ≤ x1 ∧ x1 < 300 then
  some (.inl (some (1, wI (h 10 668 x1.toNat))), h)
  else none := by
  unfold c_644_108
  exact
    have D : fk_D 644 [(108, some [0, 1], .aload_n 0, 1, 0, 0, 0), (109, none, .getfield 242, 3, 498, 129, 12), (112, none, .iload_n 1, 1, 0, 0, 0), (113, none, .iaload, 1, 0, 0, 0), (114, none, .i2l, 1, 0, 0, 0), (115, none, .lreturn, 1, 0, 0, 0)] := fq_of2 cd_644 ow_644 cl_644 rfl (pc := 108) (by decide +kernel)
    j_aldn (pc := 108) D rfl rfl rfl fun D =>
    j_gfc (pc := 109) (a := 602) D rfl rfl (by decide) rfl (s0_602 H) rfl (sf_498_602 H) fun D =>
    j_ildn (pc := 112) D rfl rfl rfl fun D =>
    j_al (pc := 113) (a := 668) (e := 10) D rfl rfl rfl (by decide) (s0_668 H) (s1_668 H) ⟨rfl, rfl, rfl⟩ rfl gn fun qb1 D =>
    j_i2l (pc := 114) D rfl fun D =>
    j_lret D rt_644
theorem e_644_116 (d : Nat) (x1 : Int) {h : fi_H} (H : Shp h) : c_644_116 d x1 h =
  if 0 ≤ x1 ∧ x1 < 300 then
  some (.inl (some (1, wI (h 10 669 x1.toNat))), h)
  else none := by
  unfold c_644_116
  exact
    have D : fk_D 644 [(116, some [0, 1], .aload_n 0, 1, 0, 0, 0), (117, none, .getfield 245, 3, 499, 129, 12), (120, none, .iload_n 1, 1, 0, 0, 0), (121, none, .iaload, 1, 0, 0, 0), (122, none, .i2l, 1, 0, 0, 0), (123, none, .lreturn, 1, 0, 0, 0)] := fq_of2 cd_644 ow_644 cl_644 rfl (pc := 116) (by decide +kernel)
    j_aldn (pc := 116) D rfl rfl rfl fun D =>
    j_gfc (pc := 117) (a := 602) D rfl rfl (by decide) rfl (s0_602 H) rfl (sf_499_602 H) fun D =>
    j_ildn (pc := 120) D rfl rfl rfl fun D =>
    j_al (pc := 121) (a := 669) (e := 10) D rfl rfl rfl (by decide) (s0_669 H) (s1_669 H) ⟨rfl, rfl, rfl⟩ rfl gn fun qb1 D =>
    j_i2l (pc := 122) D rfl fun D =>
    j_lret D rt_644
theorem e_644_124 (d : Nat) (x1 : Int) {h : fi_H} (H : Shp h) : c_644_124 d x1 h =
  if 0 ≤ x1 ∧ x1 < 300 then
  some (.inl (some (1, wI (h 10 670 x1.toNat))), h)
  else none := by
  unfold c_644_124
  exact
    have D : fk_D 644 [(124, some [0, 1], .aload_n 0, 1, 0, 0, 0), (125, none, .getfield 248, 3, 500, 129, 12), (128, none, .iload_n 1, 1, 0, 0, 0), (129, none, .iaload, 1, 0, 0, 0), (130, none, .i2l, 1, 0, 0, 0), (131, none, .lreturn, 1, 0, 0, 0)] := fq_of2 cd_644 ow_644 cl_644 rfl (pc := 124) (by decide +kernel)
    j_aldn (pc := 124) D rfl rfl rfl fun D =>
    j_gfc (pc := 125) (a := 602) D rfl rfl (by decide) rfl (s0_602 H) rfl (sf_500_602 H) fun D =>
    j_ildn (pc := 128) D rfl rfl rfl fun D =>
    j_al (pc := 129) (a := 670) (e := 10) D rfl rfl rfl (by decide) (s0_670 H) (s1_670 H) ⟨rfl, rfl, rfl⟩ rfl gn fun qb1 D =>
    j_i2l (pc := 130) D rfl fun D =>
    j_lret D rt_644
theorem e_644_132 (d : Nat) (x1 : Int) {h : fi_H} (H : Shp h) : c_644_132 d x1 h =
  if 0 ≤ x1 ∧ x1 < 300 then
  some (.inl (some (1, wI (h 10 671 x1.toNat))), h)
  else none := by
  unfold c_644_132
  exact
    have D : fk_D 644 [(132, some [0, 1], .aload_n 0, 1, 0, 0, 0), (133, none, .getfield 251, 3, 501, 129, 12), (136, none, .iload_n 1, 1, 0, 0, 0), (137, none, .iaload, 1, 0, 0, 0), (138, none, .i2l, 1, 0, 0, 0), (139, none, .lreturn, 1, 0, 0, 0)] := fq_of2 cd_644 ow_644 cl_644 rfl (pc := 132) (by decide +kernel)
    j_aldn (pc := 132) D rfl rfl rfl fun D =>
    j_gfc (pc := 133) (a := 602) D rfl rfl (by decide) rfl (s0_602 H) rfl (sf_501_602 H) fun D =>
    j_ildn (pc := 136) D rfl rfl rfl fun D =>
    j_al (pc := 137) (a := 671) (e := 10) D rfl rfl rfl (by decide) (s0_671 H) (s1_671 H) ⟨rfl, rfl, rfl⟩ rfl gn fun qb1 D =>
    j_i2l (pc := 138) D rfl fun D =>
    j_lret D rt_644
theorem e_644_140 (d : Nat) (x1 : Int) {h : fi_H} (H : Shp h) : c_644_140 d x1 h =
  if 0 ≤ x1 ∧ x1 < 300 then
  some (.inl (some (1, wI (h 10 672 x1.toNat))), h)
  else none := by
  unfold c_644_140
  exact
    have D : fk_D 644 [(140, some [0, 1], .aload_n 0, 1, 0, 0, 0), (141, none, .getfield 254, 3, 502, 129, 12), (144, none, .iload_n 1, 1, 0, 0, 0), (145, none, .iaload, 1, 0, 0, 0), (146, none, .i2l, 1, 0, 0, 0), (147, none, .lreturn, 1, 0, 0, 0)] := fq_of2 cd_644 ow_644 cl_644 rfl (pc := 140) (by decide +kernel)
    j_aldn (pc := 140) D rfl rfl rfl fun D =>
    j_gfc (pc := 141) (a := 602) D rfl rfl (by decide) rfl (s0_602 H) rfl (sf_502_602 H) fun D =>
    j_ildn (pc := 144) D rfl rfl rfl fun D =>
    j_al (pc := 145) (a := 672) (e := 10) D rfl rfl rfl (by decide) (s0_672 H) (s1_672 H) ⟨rfl, rfl, rfl⟩ rfl gn fun qb1 D =>
    j_i2l (pc := 146) D rfl fun D =>
    j_lret D rt_644
theorem e_644_148 (d : Nat) (x1 : Int) {h : fi_H} (H : Shp h) : c_644_148 d x1 h =
  if 0 ≤ x1 ∧ x1 < 300 then
  some (.inl (some (1, wI (h 10 673 x1.toNat))), h)
  else none := by
  unfold c_644_148
  exact
    have D : fk_D 644 [(148, some [0, 1], .aload_n 0, 1, 0, 0, 0), (149, none, .getfield 257, 3, 503, 129, 12), (152, none, .iload_n 1, 1, 0, 0, 0), (153, none, .iaload, 1, 0, 0, 0), (154, none, .i2l, 1, 0, 0, 0), (155, none, .lreturn, 1, 0, 0, 0)] := fq_of2 cd_644 ow_644 cl_644 rfl (pc := 148) (by decide +kernel)
    j_aldn (pc := 148) D rfl rfl rfl fun D =>
    j_gfc (pc := 149) (a := 602) D rfl rfl (by decide) rfl (s0_602 H) rfl (sf_503_602 H) fun D =>
    j_ildn (pc := 152) D rfl rfl rfl fun D =>
    j_al (pc := 153) (a := 673) (e := 10) D rfl rfl rfl (by decide) (s0_673 H) (s1_673 H) ⟨rfl, rfl, rfl⟩ rfl gn fun qb1 D =>
    j_i2l (pc := 154) D rfl fun D =>
    j_lret D rt_644
theorem e_644_156 (d : Nat) (x1 : Int) {h : fi_H} (H : Shp h) : c_644_156 d x1 h =
  if 0 ≤ x1 ∧ x1 < 300 then
  some (.inl (some (1, h 11 674 x1.toNat)), h)
  else none := by
  unfold c_644_156
  exact
    have D : fk_D 644 [(156, some [0, 1], .aload_n 0, 1, 0, 0, 0), (157, none, .getfield 260, 3, 504, 129, 12), (160, none, .iload_n 1, 1, 0, 0, 0), (161, none, .laload, 1, 0, 0, 0), (162, none, .lreturn, 1, 0, 0, 0)] := fq_of2 cd_644 ow_644 cl_644 rfl (pc := 156) (by decide +kernel)
    j_aldn (pc := 156) D rfl rfl rfl fun D =>
    j_gfc (pc := 157) (a := 602) D rfl rfl (by decide) rfl (s0_602 H) rfl (sf_504_602 H) fun D =>
    j_ildn (pc := 160) D rfl rfl rfl fun D =>
    j_al (pc := 161) (a := 674) (e := 11) D rfl rfl rfl (by decide) (s0_674 H) (s1_674 H) ⟨rfl, rfl, rfl⟩ rfl gn fun qb1 D =>
    j_lret D rt_644
theorem e_644_163 (d : Nat) (x1 : Int) {h : fi_H} (H : Shp h) : c_644_163 d x1 h =
  if 0 ≤ x1 ∧ x1 < 300 then
  some (.inl (some (1, h 11 675 x1.toNat)), h)
  else none := by
  unfold c_644_163
  exact
    have D : fk_D 644 [(163, some [0, 1], .aload_n 0, 1, 0, 0, 0), (164, none, .getfield 263, 3, 505, 129, 12), (167, none, .iload_n 1, 1, 0, 0, 0), (168, none, .laload, 1, 0, 0, 0), (169, none, .lreturn, 1, 0, 0, 0)] := fq_of2 cd_644 ow_644 cl_644 rfl (pc := 163) (by decide +kernel)
    j_aldn (pc := 163) D rfl rfl rfl fun D =>
    j_gfc (pc := 164) (a := 602) D rfl rfl (by decide) rfl (s0_602 H) rfl (sf_505_602 H) fun D =>
    j_ildn (pc := 167) D rfl rfl rfl fun D =>
    j_al (pc := 168) (a := 675) (e := 11) D rfl rfl rfl (by decide) (s0_675 H) (s1_675 H) ⟨rfl, rfl, rfl⟩ rfl gn fun qb1 D =>
    j_lret D rt_644
theorem e_644_170 (d : Nat) {h : fi_H} (H : Shp h) : c_644_170 d h =
  some (.inl (some (1, (-1))), h) := by
  unfold c_644_170
  exact
    have D : fk_D 644 [(170, some [], .ldc2_w 1024, 3, 1, (-1), 0), (173, none, .lreturn, 1, 0, 0, 0)] := fq_of2 cd_644 ow_644 cl_644 rfl (pc := 170) (by decide +kernel)
    j_ldc2 (pc := 170) D rfl fun D =>
    j_lret D rt_644
theorem m_644 (d : Nat) (x1 x2 : Int) {h : fi_H} (H : Shp h) : fj_run (d + 1) 644 h [(4, 602), (0, x1), (0, x2)] =
  if h 495 602 0 < 300 then
    c_644_23 d x1 x2 (wI x1) 0 (h 495 602 0) h
  else
    c_644_23 d x1 x2 (wI x1) 0 300 h := by
  rw [fj_run_eq d (by decide) h [(4, 602), (0, x1), (0, x2)] (Nat.le_of_ble_eq_true (by rw [nl_644]; rfl))]
  show gG (fj_run d) 644 0 [(0, (4, 602)), (1, (0, x1)), (2, (0, x2))] [] h = _
  exact
    have D : fk_D 644 [(0, none, .iload_n 1, 1, 0, 0, 0), (1, none, .i2l, 1, 0, 0, 0), (2, none, .lconst 0, 1, 0, 0, 0), (3, none, .aload_n 0, 1, 0, 0, 0), (4, none, .getfield 860, 3, 495, 129, 10), (7, none, .sipush 300, 3, 0, 300, 0), (10, none, .if_icmp .ge 10, 3, 20, 0, 0), (13, none, .aload_n 0, 1, 0, 0, 0), (14, none, .getfield 860, 3, 495, 129, 10), (17, none, .goto 6, 3, 23, 0, 0)] := fq_of2 cd_644 ow_644 cl_644 rfl (pc := 0) (by decide +kernel)
    j_ildn (pc := 0) D rfl rfl rfl fun D =>
    j_i2l (pc := 1) D rfl fun D =>
    j_c0 (pc := 2) (v := (1, 0)) D rfl rfl (by decide +kernel) fun D =>
    j_aldn (pc := 3) D rfl rfl rfl fun D =>
    j_gf (pc := 4) (a := 602) D rfl rfl (by decide) rfl (s0_602 H) rfl fun D =>
    j_sp (pc := 7) D rfl fun D =>
    j_ige (pc := 10) D rfl (fun q D =>
      j_aldn (pc := 13) D rfl rfl rfl fun D =>
      j_gf (pc := 14) (a := 602) D rfl rfl (by decide) rfl (s0_602 H) rfl fun D =>
      j_goto (pc := 17) D rfl <|
      fk_jump cut_644_23 rfl rfl) (fun q =>
      have D : fk_D 644 [(20, none, .sipush 300, 3, 0, 300, 0)] := fq_of2 cd_644 ow_644 cl_644 rfl (pc := 20) (by decide +kernel)
      j_sp (pc := 20) D rfl fun D =>
      fk_jump cut_644_23 rfl rfl)
/-! 645 StatuteHouseModel.changes(IIIIII)I -/
theorem cd_645 : fi_code 645 = prog_69_method_163_code := rfl
theorem rt_645 : fi_ret 645 = some .int := rfl
theorem nl_645 : fi_nl 645 = 10 := rfl
theorem ow_645 : fi_ow 645 = 29 := rfl
theorem cl_645 : fj_cutT.getD 645 [] = [(77, [0, 1, 2, 3, 5, 6, 7]), (105, [0, 1, 2, 3, 5, 6, 7]), (123, [0, 1, 2, 3, 5, 6, 7, 8]), (181, [0, 1, 2, 3, 5, 6, 7, 8]), (239, [0, 1, 2, 3, 5, 6, 7])] := rfl
theorem cut_645_77 : fj_cut 645 77 = some [0, 1, 2, 3, 5, 6, 7] := by decide +kernel
noncomputable def c_645_77 (d : Nat) (x1 x2 x3 x5 x6 x7 : Int) (h : fi_H) : fk_R := gG (fj_run d) 645 77 [(0, (4, 602)), (1, (0, x1)), (2, (0, x2)), (3, (0, x3)), (5, (0, x5)), (6, (0, x6)), (7, (0, x7))] [] h
theorem cut_645_105 : fj_cut 645 105 = some [0, 1, 2, 3, 5, 6, 7] := by decide +kernel
noncomputable def c_645_105 (d : Nat) (x1 x2 x3 x5 x6 x7 s0 : Int) (h : fi_H) : fk_R := gG (fj_run d) 645 105 [(0, (4, 602)), (1, (0, x1)), (2, (0, x2)), (3, (0, x3)), (5, (0, x5)), (6, (0, x6)), (7, (0, x7))] [(4, s0)] h
theorem cut_645_123 : fj_cut 645 123 = some [0, 1, 2, 3, 5, 6, 7, 8] := by decide +kernel
noncomputable def c_645_123 (d : Nat) (x1 x2 x3 x5 x6 x7 x8 : Int) (h : fi_H) : fk_R := gG (fj_run d) 645 123 [(0, (4, 602)), (1, (0, x1)), (2, (0, x2)), (3, (0, x3)), (5, (0, x5)), (6, (0, x6)), (7, (0, x7)), (8, (0, x8))] [] h
theorem cut_645_181 : fj_cut 645 181 = some [0, 1, 2, 3, 5, 6, 7, 8] := by decide +kernel
noncomputable def c_645_181 (d : Nat) (x1 x2 x3 x5 x6 x7 x8 : Int) (h : fi_H) : fk_R := gG (fj_run d) 645 181 [(0, (4, 602)), (1, (0, x1)), (2, (0, x2)), (3, (0, x3)), (5, (0, x5)), (6, (0, x6)), (7, (0, x7)), (8, (0, x8))] [] h
theorem cut_645_239 : fj_cut 645 239 = some [0, 1, 2, 3, 5, 6, 7] := by decide +kernel
noncomputable def c_645_239 (d : Nat) (x1 x2 x3 x5 x6 x7 : Int) (h : fi_H) : fk_R := gG (fj_run d) 645 239 [(0, (4, 602)), (1, (0, x1)), (2, (0, x2)), (3, (0, x3)), (5, (0, x5)), (6, (0, x6)), (7, (0, x7))] [] h
theorem e_645_77 (d : Nat) (x1 x2 x3 x5 x6 x7 : Int) {h : fi_H} (H : Shp h) : c_645_77 d x1 x2 x3 x5 x6 x7 h =
  if x5 < x7 then
    some (.inl (some (0, h 515 602 0)), h)
  else
    cv_ (fj_run d 574 h [(4, 602), (0, x1), (0, x3), (0, x7), (0, x6)])
      (fun h1 =>
      cv_ (fj_run d 605 h1 [(4, 602), (0, x2)])
        (fun h4 =>
        c_645_123 d x1 x2 x3 x5 x6 x7 0 h4)
        (fun q6 h4 => tc_ 130 q6 h4 (c_645_105 d x1 x2 x3 x5 x6 x7 (q6 : Int) h4)))
      (fun q3 h1 => tx_ q3 h1) := by
  unfold c_645_77
  exact
    have D : fk_D 645 [(77, some [0, 1, 2, 3, 5, 6, 7], .iload 7, 2, 0, 0, 0), (79, none, .iload 5, 2, 0, 0, 0), (81, none, .if_icmp .gt 164, 3, 245, 0, 0), (84, none, .iconst 0, 1, 0, 0, 0), (85, none, .istore 8, 2, 0, 0, 0), (87, none, .aload_n 0, 1, 0, 0, 0), (88, none, .iload_n 1, 1, 0, 0, 0), (89, none, .iload_n 3, 1, 0, 0, 0), (90, none, .iload 7, 2, 0, 0, 0), (92, none, .iload 6, 2, 0, 0, 0), (94, none, .invokevirtual 1086, 3, 4, 442, 0), (97, none, .aload_n 0, 1, 0, 0, 0), (98, none, .iload_n 2, 1, 0, 0, 0), (99, none, .invokevirtual 979, 3, 1, 420, 0), (102, none, .goto 21, 3, 123, 0, 0)] := fq_of2 cd_645 ow_645 cl_645 rfl (pc := 77) (by decide +kernel)
    j_ild (pc := 77) D rfl rfl rfl fun D =>
    j_ild (pc := 79) D rfl rfl rfl fun D =>
    j_igt (pc := 81) D rfl (fun q =>
      have D : fk_D 645 [(245, none, .aload_n 0, 1, 0, 0, 0), (246, none, .getfield 1151, 3, 515, 129, 10), (249, none, .ireturn, 1, 0, 0, 0)] := fq_of2 cd_645 ow_645 cl_645 rfl (pc := 245) (by decide +kernel)
      j_aldn (pc := 245) D rfl rfl rfl fun D =>
      j_gf (pc := 246) (a := 602) D rfl rfl (by decide) rfl (s0_602 H) rfl fun D =>
      j_iret D rt_645) (fun q D =>
      j_ic (pc := 84) D rfl fun D =>
      j_ist (pc := 85) (L' := [(8, (0, 0)), (0, (4, 602)), (1, (0, x1)), (2, (0, x2)), (3, (0, x3)), (5, (0, x5)), (6, (0, x6)), (7, (0, x7))]) D rfl nl_645 rfl rfl fun D =>
      j_aldn (pc := 87) D rfl rfl rfl fun D =>
      j_ildn (pc := 88) D rfl rfl rfl fun D =>
      j_ildn (pc := 89) D rfl rfl rfl fun D =>
      j_ild (pc := 90) D rfl rfl rfl fun D =>
      j_ild (pc := 92) D rfl rfl rfl fun D =>
      j_ivv (pc := 94) (m := 574) (dd := 442) (a := [(0, x1), (0, x3), (0, x7), (0, x6)]) (rest := []) D rfl rfl rfl rfl rfl (by decide) (s0_602 H) (by decide +kernel) (fun h1 e1 D =>
        have T := fj_run_ok _ _ _ _ _ _ H.1 e1
        have H := shp_st H T
        j_aldn (pc := 97) D rfl rfl rfl fun D =>
        j_ildn (pc := 98) D rfl rfl rfl fun D =>
        j_ivv (pc := 99) (m := 605) (dd := 420) (a := [(0, x2)]) (rest := []) D rfl rfl rfl rfl rfl (by decide) (s0_602 H) (by decide +kernel) (fun h4 e1 D =>
          have T := fj_run_ok _ _ _ _ _ _ H.1 e1
          have H := shp_st H T
          j_goto (pc := 102) D rfl <|
          fk_jump cut_645_123 rfl rfl) (fun q6 h4 e1 =>
          j_tc_ (n := 130) (fk_at (cu := none) (by decide +kernel) rfl) (s := 97) (e := 102) (hp := 105) (ct := 9) (by decide +kernel) rfl (by decide +kernel) <|
          fk_jump cut_645_105 rfl rfl)) (fun q3 h1 e1 =>
        j_tx (by decide +kernel)))
theorem e_645_105 (d : Nat) (x1 x2 x3 x5 x6 x7 s0 : Int) {h : fi_H} (H : Shp h) : c_645_105 d x1 x2 x3 x5 x6 x7 s0 h =
  lt_ (fi_upd h 492 602 0 0) fun h1 =>
  lt_ (fi_upd h1 493 602 0 0) fun h2 =>
  c_645_123 d x1 x2 x3 x5 x6 x7 (h 475 602 0) h2 := by
  unfold c_645_105
  exact
    have D : fk_D 645 [(105, some [0, 1, 2, 3, 5, 6, 7], .astore 9, 2, 0, 0, 0), (107, none, .aload_n 0, 1, 0, 0, 0), (108, none, .getfield 839, 3, 475, 129, 10), (111, none, .istore 8, 2, 0, 0, 0), (113, none, .aload_n 0, 1, 0, 0, 0), (114, none, .lconst 0, 1, 0, 0, 0), (115, none, .putfield 869, 3, 492, 129, 11), (118, none, .aload_n 0, 1, 0, 0, 0), (119, none, .lconst 0, 1, 0, 0, 0), (120, none, .putfield 872, 3, 493, 129, 11)] := fq_of2 cd_645 ow_645 cl_645 rfl (pc := 105) (by decide +kernel)
    j_ast (pc := 105) (L' := [(9, (4, s0)), (0, (4, 602)), (1, (0, x1)), (2, (0, x2)), (3, (0, x3)), (5, (0, x5)), (6, (0, x6)), (7, (0, x7))]) D rfl nl_645 rfl rfl fun D =>
    j_aldn (pc := 107) D rfl rfl rfl fun D =>
    j_gf (pc := 108) (a := 602) D rfl rfl (by decide) rfl (s0_602 H) rfl fun D =>
    j_ist (pc := 111) (L' := [(8, (0, h 475 602 0)), (9, (4, s0)), (0, (4, 602)), (1, (0, x1)), (2, (0, x2)), (3, (0, x3)), (5, (0, x5)), (6, (0, x6)), (7, (0, x7))]) D rfl nl_645 rfl rfl fun D =>
    j_aldn (pc := 113) D rfl rfl rfl fun D =>
    j_c0 (pc := 114) (v := (1, 0)) D rfl rfl (by decide +kernel) fun D =>
    j_pf (pc := 115) (a := 602) D rfl rfl rfl (s0_602 H) rfl rfl (gy (by decide)) (gy rfl) fun h1 eh1 S D =>
    have T := fj_hs_ok H.1 S
    have H := shp_st H T
    j_aldn (pc := 118) D rfl rfl rfl fun D =>
    j_c0 (pc := 119) (v := (1, 0)) D rfl rfl (by decide +kernel) fun D =>
    j_pf (pc := 120) (a := 602) D rfl rfl rfl (s0_602 H) rfl rfl (gy (by decide)) (gy rfl) fun h2 eh2 S D =>
    have T := fj_hs_ok H.1 S
    have H := shp_st H T
    fk_jump cut_645_123 rfl rfl
theorem e_645_123 (d : Nat) (x1 x2 x3 x5 x6 x7 x8 : Int) {h : fi_H} (H : Shp h) : c_645_123 d x1 x2 x3 x5 x6 x7 x8 h =
  if wI ((h 515 602 0) - 1) < 0 then
    c_645_181 d x1 x2 x3 x5 x6 x7 x8 h
  else
    if 0 ≤ wI ((h 515 602 0) - 1) ∧ wI ((h 515 602 0) - 1) < 400 then
    if h 10 678 (wI ((h 515 602 0) - 1)).toNat = x8 then
      if lc_ (h 11 679 (wI ((h 515 602 0) - 1)).toNat) (h 492 602 0) = 0 then
        if lc_ (h 11 680 (wI ((h 515 602 0) - 1)).toNat) (h 493 602 0) = 0 then
          c_645_239 d x1 x2 x3 x5 x6 x7 h
        else
          c_645_181 d x1 x2 x3 x5 x6 x7 x8 h
      else
        c_645_181 d x1 x2 x3 x5 x6 x7 x8 h
    else
      c_645_181 d x1 x2 x3 x5 x6 x7 x8 h
    else none := by
  unfold c_645_123
  exact
    have D : fk_D 645 [(123, some [0, 1, 2, 3, 5, 6, 7, 8], .aload_n 0, 1, 0, 0, 0), (124, none, .getfield 1151, 3, 515, 129, 10), (127, none, .iconst 1, 1, 0, 1, 0), (128, none, .isub, 1, 0, 0, 0), (129, none, .istore 9, 2, 0, 0, 0), (131, none, .iload 9, 2, 0, 0, 0), (133, none, .ifCond .lt 48, 3, 181, 0, 0), (136, none, .aload_n 0, 1, 0, 0, 0), (137, none, .getfield 272, 3, 512, 129, 12), (140, none, .iload 9, 2, 0, 0, 0), (142, none, .iaload, 1, 0, 0, 0), (143, none, .iload 8, 2, 0, 0, 0), (145, none, .if_icmp .ne 36, 3, 181, 0, 0), (148, none, .aload_n 0, 1, 0, 0, 0), (149, none, .getfield 275, 3, 513, 129, 12), (152, none, .iload 9, 2, 0, 0, 0), (154, none, .laload, 1, 0, 0, 0), (155, none, .aload_n 0, 1, 0, 0, 0), (156, none, .getfield 869, 3, 492, 129, 11), (159, none, .lcmp, 1, 0, 0, 0)] := fq_of2 cd_645 ow_645 cl_645 rfl (pc := 123) (by decide +kernel)
    j_aldn (pc := 123) D rfl rfl rfl fun D =>
    j_gf (pc := 124) (a := 602) D rfl rfl (by decide) rfl (s0_602 H) rfl fun D =>
    j_ic (pc := 127) D rfl fun D =>
    j_isub (pc := 128) D rfl fun D =>
    j_ist (pc := 129) (L' := [(9, (0, wI ((h 515 602 0) - 1))), (0, (4, 602)), (1, (0, x1)), (2, (0, x2)), (3, (0, x3)), (5, (0, x5)), (6, (0, x6)), (7, (0, x7)), (8, (0, x8))]) D rfl nl_645 rfl rfl fun D =>
    j_ild (pc := 131) D rfl rfl rfl fun D =>
    j_iflt (pc := 133) D rfl (fun q =>
      fk_jump cut_645_181 rfl rfl) (fun q D =>
      j_aldn (pc := 136) D rfl rfl rfl fun D =>
      j_gfc (pc := 137) (a := 602) D rfl rfl (by decide) rfl (s0_602 H) rfl (sf_512_602 H) fun D =>
      j_ild (pc := 140) D rfl rfl rfl fun D =>
      j_al (pc := 142) (a := 678) (e := 10) D rfl rfl rfl (by decide) (s0_678 H) (s1_678 H) ⟨rfl, rfl, rfl⟩ rfl gn fun qb1 D =>
      j_ild (pc := 143) D rfl rfl rfl fun D =>
      j_ine (pc := 145) D rfl (fun q D =>
        j_aldn (pc := 148) D rfl rfl rfl fun D =>
        j_gfc (pc := 149) (a := 602) D rfl rfl (by decide) rfl (s0_602 H) rfl (sf_513_602 H) fun D =>
        j_ild (pc := 152) D rfl rfl rfl fun D =>
        j_al (pc := 154) (a := 679) (e := 11) D rfl rfl rfl (by decide) (s0_679 H) (s1_679 H) ⟨rfl, rfl, rfl⟩ rfl (gy qb1) fun q D =>
        j_aldn (pc := 155) D rfl rfl rfl fun D =>
        j_gf (pc := 156) (a := 602) D rfl rfl (by decide) rfl (s0_602 H) rfl fun D =>
        j_lcmp (pc := 159) D rfl fun D =>
        have D : fk_D 645 [(160, none, .ifCond .ne 21, 3, 181, 0, 0), (163, none, .aload_n 0, 1, 0, 0, 0), (164, none, .getfield 278, 3, 514, 129, 12), (167, none, .iload 9, 2, 0, 0, 0), (169, none, .laload, 1, 0, 0, 0), (170, none, .aload_n 0, 1, 0, 0, 0), (171, none, .getfield 872, 3, 493, 129, 11), (174, none, .lcmp, 1, 0, 0, 0), (175, none, .ifCond .ne 6, 3, 181, 0, 0), (178, none, .goto 61, 3, 239, 0, 0)] := fq_of2 cd_645 ow_645 cl_645 rfl (pc := 160) (by decide +kernel)
        j_ifne (pc := 160) D rfl (fun q D =>
          j_aldn (pc := 163) D rfl rfl rfl fun D =>
          j_gfc (pc := 164) (a := 602) D rfl rfl (by decide) rfl (s0_602 H) rfl (sf_514_602 H) fun D =>
          j_ild (pc := 167) D rfl rfl rfl fun D =>
          j_al (pc := 169) (a := 680) (e := 11) D rfl rfl rfl (by decide) (s0_680 H) (s1_680 H) ⟨rfl, rfl, rfl⟩ rfl (gy qb1) fun q D =>
          j_aldn (pc := 170) D rfl rfl rfl fun D =>
          j_gf (pc := 171) (a := 602) D rfl rfl (by decide) rfl (s0_602 H) rfl fun D =>
          j_lcmp (pc := 174) D rfl fun D =>
          j_ifne (pc := 175) D rfl (fun q D =>
            j_goto (pc := 178) D rfl <|
            fk_jump cut_645_239 rfl rfl) (fun q =>
            fk_jump cut_645_181 rfl rfl)) (fun q =>
          fk_jump cut_645_181 rfl rfl)) (fun q =>
        fk_jump cut_645_181 rfl rfl))
theorem e_645_181 (d : Nat) (x1 x2 x3 x5 x6 x7 x8 : Int) {h : fi_H} (H : Shp h) : c_645_181 d x1 x2 x3 x5 x6 x7 x8 h =
  if 0 ≤ h 515 602 0 ∧ h 515 602 0 < 400 then
  lt_ (fi_upd h 10 677 (h 515 602 0).toNat x7) fun h1 =>
  if 0 ≤ h1 515 602 0 ∧ h1 515 602 0 < 400 then
  lt_ (fi_upd h1 10 678 (h1 515 602 0).toNat x8) fun h3 =>
  if 0 ≤ h3 515 602 0 ∧ h3 515 602 0 < 400 then
  lt_ (fi_upd h3 11 679 (h3 515 602 0).toNat (h3 492 602 0)) fun h5 =>
  if 0 ≤ h5 515 602 0 ∧ h5 515 602 0 < 400 then
  lt_ (fi_upd h5 11 680 (h5 515 602 0).toNat (h5 493 602 0)) fun h7 =>
  lt_ (fi_upd h7 515 602 0 (wI ((h7 515 602 0) + 1))) fun h9 =>
  c_645_239 d x1 x2 x3 x5 x6 x7 h9
  else none
  else none
  else none
  else none := by
  unfold c_645_181
  exact
    have D : fk_D 645 [(181, some [0, 1, 2, 3, 5, 6, 7, 8], .aload_n 0, 1, 0, 0, 0), (182, none, .getfield 269, 3, 511, 129, 12), (185, none, .aload_n 0, 1, 0, 0, 0), (186, none, .getfield 1151, 3, 515, 129, 10), (189, none, .iload 7, 2, 0, 0, 0), (191, none, .iastore, 1, 0, 0, 0), (192, none, .aload_n 0, 1, 0, 0, 0), (193, none, .getfield 272, 3, 512, 129, 12), (196, none, .aload_n 0, 1, 0, 0, 0), (197, none, .getfield 1151, 3, 515, 129, 10), (200, none, .iload 8, 2, 0, 0, 0), (202, none, .iastore, 1, 0, 0, 0), (203, none, .aload_n 0, 1, 0, 0, 0), (204, none, .getfield 275, 3, 513, 129, 12), (207, none, .aload_n 0, 1, 0, 0, 0), (208, none, .getfield 1151, 3, 515, 129, 10), (211, none, .aload_n 0, 1, 0, 0, 0), (212, none, .getfield 869, 3, 492, 129, 11), (215, none, .lastore, 1, 0, 0, 0), (216, none, .aload_n 0, 1, 0, 0, 0)] := fq_of2 cd_645 ow_645 cl_645 rfl (pc := 181) (by decide +kernel)
    j_aldn (pc := 181) D rfl rfl rfl fun D =>
    j_gfc (pc := 182) (a := 602) D rfl rfl (by decide) rfl (s0_602 H) rfl (sf_511_602 H) fun D =>
    j_aldn (pc := 185) D rfl rfl rfl fun D =>
    j_gf (pc := 186) (a := 602) D rfl rfl (by decide) rfl (s0_602 H) rfl fun D =>
    j_ild (pc := 189) D rfl rfl rfl fun D =>
    j_as (pc := 191) (a := 677) (e := 10) D rfl ⟨rfl, rfl⟩ rfl (by decide) (s0_677 H) (s1_677 H) ⟨rfl, rfl, rfl⟩ rfl gn (gy rfl) fun h1 eh1 S qb2 D =>
    have T := fj_hs_ok H.1 S
    have H := shp_st H T
    j_aldn (pc := 192) D rfl rfl rfl fun D =>
    j_gfc (pc := 193) (a := 602) D rfl rfl (by decide) rfl (s0_602 H) rfl (sf_512_602 H) fun D =>
    j_aldn (pc := 196) D rfl rfl rfl fun D =>
    j_gf (pc := 197) (a := 602) D rfl rfl (by decide) rfl (s0_602 H) rfl fun D =>
    j_ild (pc := 200) D rfl rfl rfl fun D =>
    j_as (pc := 202) (a := 678) (e := 10) D rfl ⟨rfl, rfl⟩ rfl (by decide) (s0_678 H) (s1_678 H) ⟨rfl, rfl, rfl⟩ rfl gn (gy rfl) fun h3 eh3 S qb4 D =>
    have T := fj_hs_ok H.1 S
    have H := shp_st H T
    j_aldn (pc := 203) D rfl rfl rfl fun D =>
    j_gfc (pc := 204) (a := 602) D rfl rfl (by decide) rfl (s0_602 H) rfl (sf_513_602 H) fun D =>
    j_aldn (pc := 207) D rfl rfl rfl fun D =>
    j_gf (pc := 208) (a := 602) D rfl rfl (by decide) rfl (s0_602 H) rfl fun D =>
    j_aldn (pc := 211) D rfl rfl rfl fun D =>
    j_gf (pc := 212) (a := 602) D rfl rfl (by decide) rfl (s0_602 H) rfl fun D =>
    j_as (pc := 215) (a := 679) (e := 11) D rfl ⟨rfl, rfl⟩ rfl (by decide) (s0_679 H) (s1_679 H) ⟨rfl, rfl, rfl⟩ rfl gn (gy rfl) fun h5 eh5 S qb6 D =>
    have T := fj_hs_ok H.1 S
    have H := shp_st H T
    j_aldn (pc := 216) D rfl rfl rfl fun D =>
    have D : fk_D 645 [(217, none, .getfield 278, 3, 514, 129, 12), (220, none, .aload_n 0, 1, 0, 0, 0), (221, none, .getfield 1151, 3, 515, 129, 10), (224, none, .aload_n 0, 1, 0, 0, 0), (225, none, .getfield 872, 3, 493, 129, 11), (228, none, .lastore, 1, 0, 0, 0), (229, none, .aload_n 0, 1, 0, 0, 0), (230, none, .dup, 1, 0, 0, 0), (231, none, .getfield 1151, 3, 515, 129, 10), (234, none, .iconst 1, 1, 0, 1, 0), (235, none, .iadd, 1, 0, 0, 0), (236, none, .putfield 1151, 3, 515, 129, 10)] := fq_of2 cd_645 ow_645 cl_645 rfl (pc := 217) (by decide +kernel)
    j_gfc (pc := 217) (a := 602) D rfl rfl (by decide) rfl (s0_602 H) rfl (sf_514_602 H) fun D =>
    j_aldn (pc := 220) D rfl rfl rfl fun D =>
    j_gf (pc := 221) (a := 602) D rfl rfl (by decide) rfl (s0_602 H) rfl fun D =>
    j_aldn (pc := 224) D rfl rfl rfl fun D =>
    j_gf (pc := 225) (a := 602) D rfl rfl (by decide) rfl (s0_602 H) rfl fun D =>
    j_as (pc := 228) (a := 680) (e := 11) D rfl ⟨rfl, rfl⟩ rfl (by decide) (s0_680 H) (s1_680 H) ⟨rfl, rfl, rfl⟩ rfl gn (gy rfl) fun h7 eh7 S qb8 D =>
    have T := fj_hs_ok H.1 S
    have H := shp_st H T
    j_aldn (pc := 229) D rfl rfl rfl fun D =>
    j_sh (pc := 230) D rfl rfl rfl fun D =>
    j_gf (pc := 231) (a := 602) D rfl rfl (by decide) rfl (s0_602 H) rfl fun D =>
    j_ic (pc := 234) D rfl fun D =>
    j_iadd (pc := 235) D rfl fun D =>
    j_pf (pc := 236) (a := 602) D rfl rfl rfl (s0_602 H) rfl rfl (gy (by decide)) (gy rfl) fun h9 eh9 S D =>
    have T := fj_hs_ok H.1 S
    have H := shp_st H T
    fk_jump cut_645_239 rfl rfl
theorem e_645_239 (d : Nat) (x1 x2 x3 x5 x6 x7 : Int) {h : fi_H} (H : Shp h) : c_645_239 d x1 x2 x3 x5 x6 x7 h =
  c_645_77 d x1 x2 x3 x5 x6 (wI (x7 + 1)) h := by
  unfold c_645_239
  exact
    have D : fk_D 645 [(239, some [0, 1, 2, 3, 5, 6, 7], .iinc 7 1, 3, 0, 1, 0), (242, none, .goto (-165), 3, 77, 0, 0)] := fq_of2 cd_645 ow_645 cl_645 rfl (pc := 239) (by decide +kernel)
    j_inc (pc := 239) (L' := [(7, (0, wI (x7 + 1))), (0, (4, 602)), (1, (0, x1)), (2, (0, x2)), (3, (0, x3)), (5, (0, x5)), (6, (0, x6))]) D rfl rfl rfl (by decide +kernel) rfl fun D =>
    j_goto (pc := 242) D rfl <|
    fk_jump cut_645_77 rfl rfl
theorem m_645 (d : Nat) (x1 x2 x3 x4 x5 x6 : Int) {h : fi_H} (H : Shp h) : fj_run (d + 1) 645 h [(4, 602), (0, x1), (0, x2), (0, x3), (0, x4), (0, x5), (0, x6)] =
  ca_ (fj_run d 641 h [(4, 602), (0, x2)]) 0
    (fun v2 h1 =>
    if v2 = 0 then
      some (.inl (some (0, (-1))), h1)
    else
      ca_ (fj_run d 571 h1 [(4, 602), (0, x1), (0, x3), (0, x4), (0, x6)]) 0
        (fun v5 h4 =>
        if v5 = 0 then
          some (.inl (some (0, (-2))), h4)
        else
          ca_ (fj_run d 520 h4 [(1, wI x5)]) 0
            (fun v8 h7 =>
            if v8 = 0 then
              some (.inl (some (0, (-2))), h7)
            else
              if x5 < x4 then
                some (.inl (some (0, (-2))), h7)
              else
                if 399 < wI (x5 - x4) then
                  some (.inl (some (0, (-2))), h7)
                else
                  lt_ (fi_upd h7 494 602 0 0) fun h10 =>
                  lt_ (fi_upd h10 474 602 0 1) fun h11 =>
                  lt_ (fi_upd h11 481 602 0 0) fun h12 =>
                  lt_ (fi_upd h12 515 602 0 0) fun h13 =>
                  c_645_77 d x1 x2 x3 x5 x6 x4 h13)
            (fun q9 h7 => tx_ q9 h7))
        (fun q6 h4 => tx_ q6 h4))
    (fun q3 h1 => tx_ q3 h1) := by
  rw [fj_run_eq d (by decide) h [(4, 602), (0, x1), (0, x2), (0, x3), (0, x4), (0, x5), (0, x6)] (Nat.le_of_ble_eq_true (by rw [nl_645]; rfl))]
  show gG (fj_run d) 645 0 [(0, (4, 602)), (1, (0, x1)), (2, (0, x2)), (3, (0, x3)), (4, (0, x4)), (5, (0, x5)), (6, (0, x6))] [] h = _
  exact
    have D : fk_D 645 [(0, none, .aload_n 0, 1, 0, 0, 0), (1, none, .iload_n 2, 1, 0, 0, 0), (2, none, .invokevirtual 1148, 3, 1, 452, 1), (5, none, .ifCond .ne 5, 3, 10, 0, 0), (8, none, .iconst (-1), 1, 0, (-1), 0), (9, none, .ireturn, 1, 0, 0, 0)] := fq_of2 cd_645 ow_645 cl_645 rfl (pc := 0) (by decide +kernel)
    j_aldn (pc := 0) D rfl rfl rfl fun D =>
    j_ildn (pc := 1) D rfl rfl rfl fun D =>
    j_iv (pc := 2) (m := 641) (dd := 452) (a := [(0, x2)]) (rest := []) D rfl rfl rfl rfl rfl (by decide) (s0_602 H) (by decide +kernel) (fun v2 h1 e1 D =>
      have T := fj_run_ok _ _ _ _ _ _ H.1 e1
      have H := shp_st H T
      j_ifne (pc := 5) D rfl (fun q D =>
        j_ic (pc := 8) D rfl fun D =>
        j_iret D rt_645) (fun q =>
        have D : fk_D 645 [(10, none, .aload_n 0, 1, 0, 0, 0), (11, none, .iload_n 1, 1, 0, 0, 0), (12, none, .iload_n 3, 1, 0, 0, 0), (13, none, .iload 4, 2, 0, 0, 0), (15, none, .iload 6, 2, 0, 0, 0), (17, none, .invokevirtual 1079, 3, 4, 440, 1), (20, none, .ifCond .eq 30, 3, 50, 0, 0), (23, none, .iload 5, 2, 0, 0, 0), (25, none, .i2l, 1, 0, 0, 0), (26, none, .invokestatic 456, 3, 1, 520, 1), (29, none, .ifCond .eq 21, 3, 50, 0, 0), (32, none, .iload 5, 2, 0, 0, 0), (34, none, .iload 4, 2, 0, 0, 0), (36, none, .if_icmp .lt 14, 3, 50, 0, 0), (39, none, .iload 5, 2, 0, 0, 0), (41, none, .iload 4, 2, 0, 0, 0), (43, none, .isub, 1, 0, 0, 0), (44, none, .sipush 399, 3, 0, 399, 0), (47, none, .if_icmp .le 6, 3, 53, 0, 0), (50, none, .bipush (-2), 2, 0, (-2), 0)] := fq_of2 cd_645 ow_645 cl_645 rfl (pc := 10) (by decide +kernel)
        j_aldn (pc := 10) D rfl rfl rfl fun D =>
        j_ildn (pc := 11) D rfl rfl rfl fun D =>
        j_ildn (pc := 12) D rfl rfl rfl fun D =>
        j_ild (pc := 13) D rfl rfl rfl fun D =>
        j_ild (pc := 15) D rfl rfl rfl fun D =>
        j_iv (pc := 17) (m := 571) (dd := 440) (a := [(0, x1), (0, x3), (0, x4), (0, x6)]) (rest := []) D rfl rfl rfl rfl rfl (by decide) (s0_602 H) (by decide +kernel) (fun v5 h4 e1 D =>
          have T := fj_run_ok _ _ _ _ _ _ H.1 e1
          have H := shp_st H T
          j_ifeq (pc := 20) D rfl (fun q =>
            have D : fk_D 645 [(50, none, .bipush (-2), 2, 0, (-2), 0), (52, none, .ireturn, 1, 0, 0, 0)] := fq_of2 cd_645 ow_645 cl_645 rfl (pc := 50) (by decide +kernel)
            j_bp (pc := 50) D rfl fun D =>
            j_iret D rt_645) (fun q D =>
            j_ild (pc := 23) D rfl rfl rfl fun D =>
            j_i2l (pc := 25) D rfl fun D =>
            j_is (pc := 26) (m := 520) (a := [(1, wI x5)]) (rest := []) D rfl rfl rfl rfl (fun v8 h7 e1 D =>
              have T := fj_run_ok _ _ _ _ _ _ H.1 e1
              have H := shp_st H T
              j_ifeq (pc := 29) D rfl (fun q =>
                have D : fk_D 645 [(50, none, .bipush (-2), 2, 0, (-2), 0), (52, none, .ireturn, 1, 0, 0, 0)] := fq_of2 cd_645 ow_645 cl_645 rfl (pc := 50) (by decide +kernel)
                j_bp (pc := 50) D rfl fun D =>
                j_iret D rt_645) (fun q D =>
                j_ild (pc := 32) D rfl rfl rfl fun D =>
                j_ild (pc := 34) D rfl rfl rfl fun D =>
                j_ilt (pc := 36) D rfl (fun q =>
                  have D : fk_D 645 [(50, none, .bipush (-2), 2, 0, (-2), 0), (52, none, .ireturn, 1, 0, 0, 0)] := fq_of2 cd_645 ow_645 cl_645 rfl (pc := 50) (by decide +kernel)
                  j_bp (pc := 50) D rfl fun D =>
                  j_iret D rt_645) (fun q D =>
                  j_ild (pc := 39) D rfl rfl rfl fun D =>
                  j_ild (pc := 41) D rfl rfl rfl fun D =>
                  j_isub (pc := 43) D rfl fun D =>
                  j_sp (pc := 44) D rfl fun D =>
                  j_ile (pc := 47) D rfl (fun q D =>
                    j_bp (pc := 50) D rfl fun D =>
                    have D : fk_D 645 [(52, none, .ireturn, 1, 0, 0, 0)] := fq_of2 cd_645 ow_645 cl_645 rfl (pc := 52) (by decide +kernel)
                    j_iret D rt_645) (fun q =>
                    have D : fk_D 645 [(53, none, .aload_n 0, 1, 0, 0, 0), (54, none, .iconst 0, 1, 0, 0, 0), (55, none, .putfield 857, 3, 494, 129, 4), (58, none, .aload_n 0, 1, 0, 0, 0), (59, none, .iconst 1, 1, 0, 1, 0), (60, none, .putfield 208, 3, 474, 129, 4), (63, none, .aload_n 0, 1, 0, 0, 0), (64, none, .iconst 0, 1, 0, 0, 0), (65, none, .putfield 851, 3, 481, 129, 10), (68, none, .aload_n 0, 1, 0, 0, 0), (69, none, .iconst 0, 1, 0, 0, 0), (70, none, .putfield 1151, 3, 515, 129, 10), (73, none, .iload 4, 2, 0, 0, 0), (75, none, .istore 7, 2, 0, 0, 0)] := fq_of2 cd_645 ow_645 cl_645 rfl (pc := 53) (by decide +kernel)
                    j_aldn (pc := 53) D rfl rfl rfl fun D =>
                    j_ic (pc := 54) D rfl fun D =>
                    j_pf (pc := 55) (a := 602) D rfl rfl rfl (s0_602 H) rfl rfl (gy (by decide)) (gy (by decide)) fun h10 eh10 S D =>
                    have T := fj_hs_ok H.1 S
                    have H := shp_st H T
                    j_aldn (pc := 58) D rfl rfl rfl fun D =>
                    j_ic (pc := 59) D rfl fun D =>
                    j_pf (pc := 60) (a := 602) D rfl rfl rfl (s0_602 H) rfl rfl (gy (by decide)) (gy (by decide)) fun h11 eh11 S D =>
                    have T := fj_hs_ok H.1 S
                    have H := shp_st H T
                    j_aldn (pc := 63) D rfl rfl rfl fun D =>
                    j_ic (pc := 64) D rfl fun D =>
                    j_pf (pc := 65) (a := 602) D rfl rfl rfl (s0_602 H) rfl rfl (gy (by decide)) (gy rfl) fun h12 eh12 S D =>
                    have T := fj_hs_ok H.1 S
                    have H := shp_st H T
                    j_aldn (pc := 68) D rfl rfl rfl fun D =>
                    j_ic (pc := 69) D rfl fun D =>
                    j_pf (pc := 70) (a := 602) D rfl rfl rfl (s0_602 H) rfl rfl (gy (by decide)) (gy rfl) fun h13 eh13 S D =>
                    have T := fj_hs_ok H.1 S
                    have H := shp_st H T
                    j_ild (pc := 73) D rfl rfl rfl fun D =>
                    j_ist (pc := 75) (L' := [(7, (0, x4)), (0, (4, 602)), (1, (0, x1)), (2, (0, x2)), (3, (0, x3)), (4, (0, x4)), (5, (0, x5)), (6, (0, x6))]) D rfl nl_645 rfl rfl fun D =>
                    fk_jump cut_645_77 rfl rfl)))) (fun q9 h7 e1 =>
              j_tx (by decide +kernel)))) (fun q6 h4 e1 =>
          j_tx (by decide +kernel)))) (fun q3 h1 e1 =>
      j_tx (by decide +kernel))
/-! 646 StatuteHouseModel.changed(II)J -/
theorem cd_646 : fi_code 646 = prog_69_method_164_code := rfl
theorem hx_646 : ∀ pc, fi_hat 646 pc = none := fun pc => by unfold fi_hat; rw [show fi_hh 646 = [] from rfl]; rfl
theorem rt_646 : fi_ret 646 = some .long := rfl
theorem nl_646 : fi_nl 646 = 3 := rfl
theorem ow_646 : fi_ow 646 = 29 := rfl
theorem cl_646 : fj_cutT.getD 646 [] = [] := rfl
theorem m_646 (d : Nat) (x1 x2 : Int) {h : fi_H} (H : Shp h) : fj_run (d + 1) 646 h [(4, 602), (0, x1), (0, x2)] =
  ca_ (fj_run d 508 h [(1, wI x1), (1, 0), (1, wI (wI ((h 515 602 0) - 1)))]) 0
    (fun v2 h1 =>
    if v2 = 0 then
      some (.inl (some (1, (-1))), h1)
    else
      if x2 = 0 then
        if 0 ≤ x1 ∧ x1 < 400 then
        some (.inl (some (1, wI (h1 10 677 x1.toNat))), h1)
        else none
      else if x2 = 1 then
        if 0 ≤ x1 ∧ x1 < 400 then
        some (.inl (some (1, wI (h1 10 678 x1.toNat))), h1)
        else none
      else if x2 = 2 then
        if 0 ≤ x1 ∧ x1 < 400 then
        some (.inl (some (1, h1 11 679 x1.toNat)), h1)
        else none
      else if x2 = 3 then
        if 0 ≤ x1 ∧ x1 < 400 then
        some (.inl (some (1, h1 11 680 x1.toNat)), h1)
        else none
      else 
        some (.inl (some (1, (-1))), h1))
    (fun q3 h1 => tx_ q3 h1) := by
  rw [fj_run_eq d (by decide) h [(4, 602), (0, x1), (0, x2)] (Nat.le_of_ble_eq_true (by rw [nl_646]; rfl))]
  show gG (fj_run d) 646 0 [(0, (4, 602)), (1, (0, x1)), (2, (0, x2))] [] h = _
  exact
    have D : fk_D 646 [(0, none, .iload_n 1, 1, 0, 0, 0), (1, none, .i2l, 1, 0, 0, 0), (2, none, .lconst 0, 1, 0, 0, 0), (3, none, .aload_n 0, 1, 0, 0, 0), (4, none, .getfield 1151, 3, 515, 129, 10), (7, none, .iconst 1, 1, 0, 1, 0), (8, none, .isub, 1, 0, 0, 0), (9, none, .i2l, 1, 0, 0, 0), (10, none, .invokestatic 434, 3, 3, 508, 1), (13, none, .ifCond .ne 7, 3, 20, 0, 0), (16, none, .ldc2_w 1024, 3, 1, (-1), 0), (19, none, .lreturn, 1, 0, 0, 0)] := fq_of2 cd_646 ow_646 cl_646 rfl (pc := 0) (by decide +kernel)
    j_ildn (pc := 0) D rfl rfl rfl fun D =>
    j_i2l (pc := 1) D rfl fun D =>
    j_c0 (pc := 2) (v := (1, 0)) D rfl rfl (by decide +kernel) fun D =>
    j_aldn (pc := 3) D rfl rfl rfl fun D =>
    j_gf (pc := 4) (a := 602) D rfl rfl (by decide) rfl (s0_602 H) rfl fun D =>
    j_ic (pc := 7) D rfl fun D =>
    j_isub (pc := 8) D rfl fun D =>
    j_i2l (pc := 9) D rfl fun D =>
    j_is (pc := 10) (m := 508) (a := [(1, wI x1), (1, 0), (1, wI (wI ((h 515 602 0) - 1)))]) (rest := []) D rfl rfl rfl rfl (fun v2 h1 e1 D =>
      have T := fj_run_ok _ _ _ _ _ _ H.1 e1
      have H := shp_st H T
      j_ifne (pc := 13) D rfl (fun q D =>
        j_ldc2 (pc := 16) D rfl fun D =>
        j_lret D rt_646) (fun q =>
        have D : fk_D 646 [(20, none, .iload_n 2, 1, 0, 0, 0), (21, none, .tableswitch 61 0 3 #[31, 39, 47, 54], 31, 0, 0, 0)] := fq_of3 cd_646 ow_646 cl_646 rfl (pc := 20) (by decide +kernel)
        j_ildn (pc := 20) D rfl rfl rfl fun D =>
        have N : fk_ni (x2) [] := trivial
        j_tc (pc := 21) 0 (t := 52) D N rfl (by decide +kernel) (fun q =>
          have D : fk_D 646 [(52, none, .aload_n 0, 1, 0, 0, 0), (53, none, .getfield 269, 3, 511, 129, 12), (56, none, .iload_n 1, 1, 0, 0, 0), (57, none, .iaload, 1, 0, 0, 0), (58, none, .i2l, 1, 0, 0, 0), (59, none, .lreturn, 1, 0, 0, 0)] := fq_of2 cd_646 ow_646 cl_646 rfl (pc := 52) (by decide +kernel)
          j_aldn (pc := 52) D rfl rfl rfl fun D =>
          j_gfc (pc := 53) (a := 602) D rfl rfl (by decide) rfl (s0_602 H) rfl (sf_511_602 H) fun D =>
          j_ildn (pc := 56) D rfl rfl rfl fun D =>
          j_al (pc := 57) (a := 677) (e := 10) D rfl rfl rfl (by decide) (s0_677 H) (s1_677 H) ⟨rfl, rfl, rfl⟩ rfl gn fun qb4 D =>
          j_i2l (pc := 58) D rfl fun D =>
          j_lret D rt_646) (fun N =>
          j_tc 1 (t := 60) D N rfl (by decide +kernel) (fun q =>
            have D : fk_D 646 [(60, none, .aload_n 0, 1, 0, 0, 0), (61, none, .getfield 272, 3, 512, 129, 12), (64, none, .iload_n 1, 1, 0, 0, 0), (65, none, .iaload, 1, 0, 0, 0), (66, none, .i2l, 1, 0, 0, 0), (67, none, .lreturn, 1, 0, 0, 0)] := fq_of2 cd_646 ow_646 cl_646 rfl (pc := 60) (by decide +kernel)
            j_aldn (pc := 60) D rfl rfl rfl fun D =>
            j_gfc (pc := 61) (a := 602) D rfl rfl (by decide) rfl (s0_602 H) rfl (sf_512_602 H) fun D =>
            j_ildn (pc := 64) D rfl rfl rfl fun D =>
            j_al (pc := 65) (a := 678) (e := 10) D rfl rfl rfl (by decide) (s0_678 H) (s1_678 H) ⟨rfl, rfl, rfl⟩ rfl gn fun qb5 D =>
            j_i2l (pc := 66) D rfl fun D =>
            j_lret D rt_646) (fun N =>
            j_tc 2 (t := 68) D N rfl (by decide +kernel) (fun q =>
              have D : fk_D 646 [(68, none, .aload_n 0, 1, 0, 0, 0), (69, none, .getfield 275, 3, 513, 129, 12), (72, none, .iload_n 1, 1, 0, 0, 0), (73, none, .laload, 1, 0, 0, 0), (74, none, .lreturn, 1, 0, 0, 0)] := fq_of2 cd_646 ow_646 cl_646 rfl (pc := 68) (by decide +kernel)
              j_aldn (pc := 68) D rfl rfl rfl fun D =>
              j_gfc (pc := 69) (a := 602) D rfl rfl (by decide) rfl (s0_602 H) rfl (sf_513_602 H) fun D =>
              j_ildn (pc := 72) D rfl rfl rfl fun D =>
              j_al (pc := 73) (a := 679) (e := 11) D rfl rfl rfl (by decide) (s0_679 H) (s1_679 H) ⟨rfl, rfl, rfl⟩ rfl gn fun qb6 D =>
              j_lret D rt_646) (fun N =>
              j_tc 3 (t := 75) D N rfl (by decide +kernel) (fun q =>
                have D : fk_D 646 [(75, none, .aload_n 0, 1, 0, 0, 0), (76, none, .getfield 278, 3, 514, 129, 12), (79, none, .iload_n 1, 1, 0, 0, 0), (80, none, .laload, 1, 0, 0, 0), (81, none, .lreturn, 1, 0, 0, 0)] := fq_of2 cd_646 ow_646 cl_646 rfl (pc := 75) (by decide +kernel)
                j_aldn (pc := 75) D rfl rfl rfl fun D =>
                j_gfc (pc := 76) (a := 602) D rfl rfl (by decide) rfl (s0_602 H) rfl (sf_514_602 H) fun D =>
                j_ildn (pc := 79) D rfl rfl rfl fun D =>
                j_al (pc := 80) (a := 680) (e := 11) D rfl rfl rfl (by decide) (s0_680 H) (s1_680 H) ⟨rfl, rfl, rfl⟩ rfl gn fun qb7 D =>
                j_lret D rt_646) (fun N =>
                j_td (t := 82) D N rfl (by decide +kernel) (by decide +kernel) <|
                have D : fk_D 646 [(82, none, .ldc2_w 1024, 3, 1, (-1), 0), (85, none, .lreturn, 1, 0, 0, 0)] := fq_of2 cd_646 ow_646 cl_646 rfl (pc := 82) (by decide +kernel)
                j_ldc2 (pc := 82) D rfl fun D =>
                j_lret D rt_646)))))) (fun q3 h1 e1 =>
      j_tx (hx_646 _))
/-! 647 StatuteHouseModel.solve(IIIIIJJ)I -/
theorem cd_647 : fi_code 647 = prog_69_method_165_code := rfl
theorem rt_647 : fi_ret 647 = some .int := rfl
theorem nl_647 : fi_nl 647 = 24 := rfl
theorem ow_647 : fi_ow 647 = 29 := rfl
theorem cl_647 : fj_cutT.getD 647 [] = [(56, [0, 1, 2, 3, 4, 5, 6, 8]), (60, [0, 1, 2, 3, 4, 5, 6, 8]), (61, [0, 1, 2, 3, 4, 5, 6, 8]), (150, [0, 1, 2, 3, 4, 5, 6, 8, 11]), (182, [0, 1, 2, 3, 4, 5, 6, 8, 11]), (188, [0, 1, 2, 3, 4, 5, 6, 8, 11]), (202, [0, 1, 2, 3, 4, 5, 6, 8, 11]), (262, [0, 1, 2, 3, 4, 6, 8, 11, 12, 13, 15]), (270, [0, 1, 2, 3, 4, 11, 12, 13, 15, 17, 19]), (316, [0, 1, 2, 3, 4, 11, 12, 13, 15, 17, 19]), (340, [0, 11, 12, 13, 15, 17]), (351, [0, 11, 12, 13, 15]), (362, [0, 11, 12, 13, 15, 21]), (377, [0, 11, 13, 15, 21])] := rfl
theorem cut_647_56 : fj_cut 647 56 = some [0, 1, 2, 3, 4, 5, 6, 8] := by decide +kernel
noncomputable def c_647_56 (d : Nat) (x1 x2 x3 x4 x5 x6 x8 : Int) (h : fi_H) : fk_R := gG (fj_run d) 647 56 [(0, (4, 602)), (1, (0, x1)), (2, (0, x2)), (3, (0, x3)), (4, (0, x4)), (5, (0, x5)), (6, (1, x6)), (8, (1, x8))] [] h
theorem cut_647_60 : fj_cut 647 60 = some [0, 1, 2, 3, 4, 5, 6, 8] := by decide +kernel
noncomputable def c_647_60 (d : Nat) (x1 x2 x3 x4 x5 x6 x8 : Int) (h : fi_H) : fk_R := gG (fj_run d) 647 60 [(0, (4, 602)), (1, (0, x1)), (2, (0, x2)), (3, (0, x3)), (4, (0, x4)), (5, (0, x5)), (6, (1, x6)), (8, (1, x8))] [] h
theorem cut_647_61 : fj_cut 647 61 = some [0, 1, 2, 3, 4, 5, 6, 8] := by decide +kernel
noncomputable def c_647_61 (d : Nat) (x1 x2 x3 x4 x5 x6 x8 s0 : Int) (h : fi_H) : fk_R := gG (fj_run d) 647 61 [(0, (4, 602)), (1, (0, x1)), (2, (0, x2)), (3, (0, x3)), (4, (0, x4)), (5, (0, x5)), (6, (1, x6)), (8, (1, x8))] [(0, s0)] h
theorem cut_647_150 : fj_cut 647 150 = some [0, 1, 2, 3, 4, 5, 6, 8, 11] := by decide +kernel
noncomputable def c_647_150 (d : Nat) (x1 x2 x3 x4 x5 x6 x8 x11 : Int) (h : fi_H) : fk_R := gG (fj_run d) 647 150 [(0, (4, 602)), (1, (0, x1)), (2, (0, x2)), (3, (0, x3)), (4, (0, x4)), (5, (0, x5)), (6, (1, x6)), (8, (1, x8)), (11, (0, x11))] [] h
theorem cut_647_182 : fj_cut 647 182 = some [0, 1, 2, 3, 4, 5, 6, 8, 11] := by decide +kernel
noncomputable def c_647_182 (d : Nat) (x1 x2 x3 x4 x5 x6 x8 x11 : Int) (h : fi_H) : fk_R := gG (fj_run d) 647 182 [(0, (4, 602)), (1, (0, x1)), (2, (0, x2)), (3, (0, x3)), (4, (0, x4)), (5, (0, x5)), (6, (1, x6)), (8, (1, x8)), (11, (0, x11))] [] h
theorem cut_647_188 : fj_cut 647 188 = some [0, 1, 2, 3, 4, 5, 6, 8, 11] := by decide +kernel
noncomputable def c_647_188 (d : Nat) (x1 x2 x3 x4 x5 x6 x8 x11 : Int) (h : fi_H) : fk_R := gG (fj_run d) 647 188 [(0, (4, 602)), (1, (0, x1)), (2, (0, x2)), (3, (0, x3)), (4, (0, x4)), (5, (0, x5)), (6, (1, x6)), (8, (1, x8)), (11, (0, x11))] [] h
theorem cut_647_202 : fj_cut 647 202 = some [0, 1, 2, 3, 4, 5, 6, 8, 11] := by decide +kernel
noncomputable def c_647_202 (d : Nat) (x1 x2 x3 x4 x5 x6 x8 x11 s0 : Int) (h : fi_H) : fk_R := gG (fj_run d) 647 202 [(0, (4, 602)), (1, (0, x1)), (2, (0, x2)), (3, (0, x3)), (4, (0, x4)), (5, (0, x5)), (6, (1, x6)), (8, (1, x8)), (11, (0, x11))] [(0, s0)] h
theorem cut_647_262 : fj_cut 647 262 = some [0, 1, 2, 3, 4, 6, 8, 11, 12, 13, 15] := by decide +kernel
noncomputable def c_647_262 (d : Nat) (x1 x2 x3 x4 x6 x8 x11 x12 x13 x15 : Int) (h : fi_H) : fk_R := gG (fj_run d) 647 262 [(0, (4, 602)), (1, (0, x1)), (2, (0, x2)), (3, (0, x3)), (4, (0, x4)), (6, (1, x6)), (8, (1, x8)), (11, (0, x11)), (12, (0, x12)), (13, (1, x13)), (15, (1, x15))] [] h
theorem cut_647_270 : fj_cut 647 270 = some [0, 1, 2, 3, 4, 11, 12, 13, 15, 17, 19] := by decide +kernel
noncomputable def c_647_270 (d : Nat) (x1 x2 x3 x4 x11 x12 x13 x15 x17 x19 : Int) (h : fi_H) : fk_R := gG (fj_run d) 647 270 [(0, (4, 602)), (1, (0, x1)), (2, (0, x2)), (3, (0, x3)), (4, (0, x4)), (11, (0, x11)), (12, (0, x12)), (13, (1, x13)), (15, (1, x15)), (17, (1, x17)), (19, (1, x19))] [] h
theorem cut_647_316 : fj_cut 647 316 = some [0, 1, 2, 3, 4, 11, 12, 13, 15, 17, 19] := by decide +kernel
noncomputable def c_647_316 (d : Nat) (x1 x2 x3 x4 x11 x12 x13 x15 x17 x19 : Int) (h : fi_H) : fk_R := gG (fj_run d) 647 316 [(0, (4, 602)), (1, (0, x1)), (2, (0, x2)), (3, (0, x3)), (4, (0, x4)), (11, (0, x11)), (12, (0, x12)), (13, (1, x13)), (15, (1, x15)), (17, (1, x17)), (19, (1, x19))] [] h
theorem cut_647_340 : fj_cut 647 340 = some [0, 11, 12, 13, 15, 17] := by decide +kernel
noncomputable def c_647_340 (d : Nat) (x11 x12 x13 x15 x17 s0 : Int) (h : fi_H) : fk_R := gG (fj_run d) 647 340 [(0, (4, 602)), (11, (0, x11)), (12, (0, x12)), (13, (1, x13)), (15, (1, x15)), (17, (1, x17))] [(0, s0)] h
theorem cut_647_351 : fj_cut 647 351 = some [0, 11, 12, 13, 15] := by decide +kernel
noncomputable def c_647_351 (d : Nat) (x11 x12 x13 x15 s0 : Int) (h : fi_H) : fk_R := gG (fj_run d) 647 351 [(0, (4, 602)), (11, (0, x11)), (12, (0, x12)), (13, (1, x13)), (15, (1, x15))] [(4, s0)] h
theorem cut_647_362 : fj_cut 647 362 = some [0, 11, 12, 13, 15, 21] := by decide +kernel
noncomputable def c_647_362 (d : Nat) (x11 x12 x13 x15 x21 : Int) (h : fi_H) : fk_R := gG (fj_run d) 647 362 [(0, (4, 602)), (11, (0, x11)), (12, (0, x12)), (13, (1, x13)), (15, (1, x15)), (21, (0, x21))] [] h
theorem cut_647_377 : fj_cut 647 377 = some [0, 11, 13, 15, 21] := by decide +kernel
noncomputable def c_647_377 (d : Nat) (x11 x13 x15 x21 : Int) (h : fi_H) : fk_R := gG (fj_run d) 647 377 [(0, (4, 602)), (11, (0, x11)), (13, (1, x13)), (15, (1, x15)), (21, (0, x21))] [] h
theorem e_647_56 (d : Nat) (x1 x2 x3 x4 x5 x6 x8 : Int) {h : fi_H} (H : Shp h) : c_647_56 d x1 x2 x3 x4 x5 x6 x8 h =
  c_647_61 d x1 x2 x3 x4 x5 x6 x8 1 h := by
  unfold c_647_56
  exact
    have D : fk_D 647 [(56, some [0, 1, 2, 3, 4, 5, 6, 8], .iconst 1, 1, 0, 1, 0), (57, none, .goto 4, 3, 61, 0, 0)] := fq_of2 cd_647 ow_647 cl_647 rfl (pc := 56) (by decide +kernel)
    j_ic (pc := 56) D rfl fun D =>
    j_goto (pc := 57) D rfl <|
    fk_jump cut_647_61 rfl rfl
theorem e_647_60 (d : Nat) (x1 x2 x3 x4 x5 x6 x8 : Int) {h : fi_H} (H : Shp h) : c_647_60 d x1 x2 x3 x4 x5 x6 x8 h =
  c_647_61 d x1 x2 x3 x4 x5 x6 x8 0 h := by
  unfold c_647_60
  exact
    have D : fk_D 647 [(60, some [0, 1, 2, 3, 4, 5, 6, 8], .iconst 0, 1, 0, 0, 0)] := fq_of2 cd_647 ow_647 cl_647 rfl (pc := 60) (by decide +kernel)
    j_ic (pc := 60) D rfl fun D =>
    fk_jump cut_647_61 rfl rfl
theorem e_647_61 (d : Nat) (x1 x2 x3 x4 x5 x6 x8 s0 : Int) {h : fi_H} (H : Shp h) : c_647_61 d x1 x2 x3 x4 x5 x6 x8 s0 h =
  if s0 = 0 then
    some (.inl (some (0, (-1))), h)
  else
    ca_ (fj_run d 525 h [(4, 602), (0, x1)]) 0
      (fun v2 h1 =>
      if v2 = 0 then
        some (.inl (some (0, (-2))), h1)
      else
        ca_ (fj_run d 520 h1 [(1, wI x4)]) 0
          (fun v5 h4 =>
          if v5 = 0 then
            some (.inl (some (0, (-2))), h4)
          else
            if 0 ≤ x5 ∧ x5 < 41 then
            ca_ (fj_run d 628 h4 [(4, 602), (0, h4 10 611 x5.toNat), (1, x6), (1, 0)]) 0
              (fun v9 h8 =>
              if v9 = 0 then
                some (.inl (some (0, (-2))), h8)
              else
                ca_ (fj_run d 628 h8 [(4, 602), (0, h8 10 611 x5.toNat), (1, x8), (1, 0)]) 0
                  (fun v12 h11 =>
                  if v12 = 0 then
                    some (.inl (some (0, (-2))), h11)
                  else
                    if 0 < lc_ x6 x8 then
                      some (.inl (some (0, (-2))), h11)
                    else
                      lt_ (fi_upd h11 494 602 0 0) fun h14 =>
                      lt_ (fi_upd h14 474 602 0 1) fun h15 =>
                      lt_ (fi_upd h15 481 602 0 0) fun h16 =>
                      c_647_150 d x1 x2 x3 x4 x5 x6 x8 0 h16)
                  (fun q13 h11 => tx_ q13 h11))
              (fun q10 h8 => tx_ q10 h8)
            else none)
          (fun q6 h4 => tx_ q6 h4))
      (fun q3 h1 => tx_ q3 h1) := by
  unfold c_647_61
  exact
    have D : fk_D 647 [(61, some [0, 1, 2, 3, 4, 5, 6, 8], .istore 10, 2, 0, 0, 0), (63, none, .iload 10, 2, 0, 0, 0), (65, none, .ifCond .ne 5, 3, 70, 0, 0), (68, none, .iconst (-1), 1, 0, (-1), 0), (69, none, .ireturn, 1, 0, 0, 0)] := fq_of2 cd_647 ow_647 cl_647 rfl (pc := 61) (by decide +kernel)
    j_ist (pc := 61) (L' := [(10, (0, s0)), (0, (4, 602)), (1, (0, x1)), (2, (0, x2)), (3, (0, x3)), (4, (0, x4)), (5, (0, x5)), (6, (1, x6)), (8, (1, x8))]) D rfl nl_647 rfl rfl fun D =>
    j_ild (pc := 63) D rfl rfl rfl fun D =>
    j_ifne (pc := 65) D rfl (fun q D =>
      j_ic (pc := 68) D rfl fun D =>
      j_iret D rt_647) (fun q =>
      have D : fk_D 647 [(70, none, .aload_n 0, 1, 0, 0, 0), (71, none, .iload_n 1, 1, 0, 0, 0), (72, none, .invokevirtual 823, 3, 1, 399, 1), (75, none, .ifCond .eq 54, 3, 129, 0, 0), (78, none, .iload 4, 2, 0, 0, 0), (80, none, .i2l, 1, 0, 0, 0), (81, none, .invokestatic 456, 3, 1, 520, 1), (84, none, .ifCond .eq 45, 3, 129, 0, 0), (87, none, .aload_n 0, 1, 0, 0, 0), (88, none, .aload_n 0, 1, 0, 0, 0), (89, none, .getfield 43, 3, 407, 129, 12), (92, none, .iload 5, 2, 0, 0, 0), (94, none, .iaload, 1, 0, 0, 0), (95, none, .lload 6, 2, 0, 0, 0), (97, none, .lconst 0, 1, 0, 0, 0), (98, none, .invokevirtual 1121, 3, 3, 444, 1), (101, none, .ifCond .eq 28, 3, 129, 0, 0), (104, none, .aload_n 0, 1, 0, 0, 0), (105, none, .aload_n 0, 1, 0, 0, 0), (106, none, .getfield 43, 3, 407, 129, 12)] := fq_of2 cd_647 ow_647 cl_647 rfl (pc := 70) (by decide +kernel)
      j_aldn (pc := 70) D rfl rfl rfl fun D =>
      j_ildn (pc := 71) D rfl rfl rfl fun D =>
      j_iv (pc := 72) (m := 525) (dd := 399) (a := [(0, x1)]) (rest := []) D rfl rfl rfl rfl rfl (by decide) (s0_602 H) (by decide +kernel) (fun v2 h1 e1 D =>
        have T := fj_run_ok _ _ _ _ _ _ H.1 e1
        have H := shp_st H T
        j_ifeq (pc := 75) D rfl (fun q =>
          have D : fk_D 647 [(129, none, .bipush (-2), 2, 0, (-2), 0), (131, none, .ireturn, 1, 0, 0, 0)] := fq_of2 cd_647 ow_647 cl_647 rfl (pc := 129) (by decide +kernel)
          j_bp (pc := 129) D rfl fun D =>
          j_iret D rt_647) (fun q D =>
          j_ild (pc := 78) D rfl rfl rfl fun D =>
          j_i2l (pc := 80) D rfl fun D =>
          j_is (pc := 81) (m := 520) (a := [(1, wI x4)]) (rest := []) D rfl rfl rfl rfl (fun v5 h4 e1 D =>
            have T := fj_run_ok _ _ _ _ _ _ H.1 e1
            have H := shp_st H T
            j_ifeq (pc := 84) D rfl (fun q =>
              have D : fk_D 647 [(129, none, .bipush (-2), 2, 0, (-2), 0), (131, none, .ireturn, 1, 0, 0, 0)] := fq_of2 cd_647 ow_647 cl_647 rfl (pc := 129) (by decide +kernel)
              j_bp (pc := 129) D rfl fun D =>
              j_iret D rt_647) (fun q D =>
              j_aldn (pc := 87) D rfl rfl rfl fun D =>
              j_aldn (pc := 88) D rfl rfl rfl fun D =>
              j_gfc (pc := 89) (a := 602) D rfl rfl (by decide) rfl (s0_602 H) rfl (sf_407_602 H) fun D =>
              j_ild (pc := 92) D rfl rfl rfl fun D =>
              j_al (pc := 94) (a := 611) (e := 10) D rfl rfl rfl (by decide) (s0_611 H) (s1_611 H) ⟨rfl, rfl, rfl⟩ rfl gn fun qb7 D =>
              j_lld (pc := 95) D rfl rfl rfl fun D =>
              j_c0 (pc := 97) (v := (1, 0)) D rfl rfl (by decide +kernel) fun D =>
              j_iv (pc := 98) (m := 628) (dd := 444) (a := [(0, h4 10 611 x5.toNat), (1, x6), (1, 0)]) (rest := []) D rfl rfl rfl rfl rfl (by decide) (s0_602 H) (by decide +kernel) (fun v9 h8 e1 D =>
                have T := fj_run_ok _ _ _ _ _ _ H.1 e1
                have H := shp_st H T
                j_ifeq (pc := 101) D rfl (fun q =>
                  have D : fk_D 647 [(129, none, .bipush (-2), 2, 0, (-2), 0), (131, none, .ireturn, 1, 0, 0, 0)] := fq_of2 cd_647 ow_647 cl_647 rfl (pc := 129) (by decide +kernel)
                  j_bp (pc := 129) D rfl fun D =>
                  j_iret D rt_647) (fun q D =>
                  j_aldn (pc := 104) D rfl rfl rfl fun D =>
                  j_aldn (pc := 105) D rfl rfl rfl fun D =>
                  j_gfc (pc := 106) (a := 602) D rfl rfl (by decide) rfl (s0_602 H) rfl (sf_407_602 H) fun D =>
                  have D : fk_D 647 [(109, none, .iload 5, 2, 0, 0, 0), (111, none, .iaload, 1, 0, 0, 0), (112, none, .lload 8, 2, 0, 0, 0), (114, none, .lconst 0, 1, 0, 0, 0), (115, none, .invokevirtual 1121, 3, 3, 444, 1), (118, none, .ifCond .eq 11, 3, 129, 0, 0), (121, none, .lload 6, 2, 0, 0, 0), (123, none, .lload 8, 2, 0, 0, 0), (125, none, .lcmp, 1, 0, 0, 0), (126, none, .ifCond .le 6, 3, 132, 0, 0), (129, none, .bipush (-2), 2, 0, (-2), 0), (131, none, .ireturn, 1, 0, 0, 0)] := fq_of2 cd_647 ow_647 cl_647 rfl (pc := 109) (by decide +kernel)
                  j_ild (pc := 109) D rfl rfl rfl fun D =>
                  j_al (pc := 111) (a := 611) (e := 10) D rfl rfl rfl (by decide) (s0_611 H) (s1_611 H) ⟨rfl, rfl, rfl⟩ rfl (gy qb7) fun q D =>
                  j_lld (pc := 112) D rfl rfl rfl fun D =>
                  j_c0 (pc := 114) (v := (1, 0)) D rfl rfl (by decide +kernel) fun D =>
                  j_iv (pc := 115) (m := 628) (dd := 444) (a := [(0, h8 10 611 x5.toNat), (1, x8), (1, 0)]) (rest := []) D rfl rfl rfl rfl rfl (by decide) (s0_602 H) (by decide +kernel) (fun v12 h11 e1 D =>
                    have T := fj_run_ok _ _ _ _ _ _ H.1 e1
                    have H := shp_st H T
                    j_ifeq (pc := 118) D rfl (fun q =>
                      have D : fk_D 647 [(129, none, .bipush (-2), 2, 0, (-2), 0), (131, none, .ireturn, 1, 0, 0, 0)] := fq_of2 cd_647 ow_647 cl_647 rfl (pc := 129) (by decide +kernel)
                      j_bp (pc := 129) D rfl fun D =>
                      j_iret D rt_647) (fun q D =>
                      j_lld (pc := 121) D rfl rfl rfl fun D =>
                      j_lld (pc := 123) D rfl rfl rfl fun D =>
                      j_lcmp (pc := 125) D rfl fun D =>
                      j_ifle (pc := 126) D rfl (fun q D =>
                        j_bp (pc := 129) D rfl fun D =>
                        j_iret D rt_647) (fun q =>
                        have D : fk_D 647 [(132, none, .aload_n 0, 1, 0, 0, 0), (133, none, .iconst 0, 1, 0, 0, 0), (134, none, .putfield 857, 3, 494, 129, 4), (137, none, .aload_n 0, 1, 0, 0, 0), (138, none, .iconst 1, 1, 0, 1, 0), (139, none, .putfield 208, 3, 474, 129, 4), (142, none, .aload_n 0, 1, 0, 0, 0), (143, none, .iconst 0, 1, 0, 0, 0), (144, none, .putfield 851, 3, 481, 129, 10), (147, none, .iconst 0, 1, 0, 0, 0), (148, none, .istore 11, 2, 0, 0, 0)] := fq_of2 cd_647 ow_647 cl_647 rfl (pc := 132) (by decide +kernel)
                        j_aldn (pc := 132) D rfl rfl rfl fun D =>
                        j_ic (pc := 133) D rfl fun D =>
                        j_pf (pc := 134) (a := 602) D rfl rfl rfl (s0_602 H) rfl rfl (gy (by decide)) (gy (by decide)) fun h14 eh14 S D =>
                        have T := fj_hs_ok H.1 S
                        have H := shp_st H T
                        j_aldn (pc := 137) D rfl rfl rfl fun D =>
                        j_ic (pc := 138) D rfl fun D =>
                        j_pf (pc := 139) (a := 602) D rfl rfl rfl (s0_602 H) rfl rfl (gy (by decide)) (gy (by decide)) fun h15 eh15 S D =>
                        have T := fj_hs_ok H.1 S
                        have H := shp_st H T
                        j_aldn (pc := 142) D rfl rfl rfl fun D =>
                        j_ic (pc := 143) D rfl fun D =>
                        j_pf (pc := 144) (a := 602) D rfl rfl rfl (s0_602 H) rfl rfl (gy (by decide)) (gy rfl) fun h16 eh16 S D =>
                        have T := fj_hs_ok H.1 S
                        have H := shp_st H T
                        j_ic (pc := 147) D rfl fun D =>
                        j_ist (pc := 148) (L' := [(11, (0, 0)), (10, (0, s0)), (0, (4, 602)), (1, (0, x1)), (2, (0, x2)), (3, (0, x3)), (4, (0, x4)), (5, (0, x5)), (6, (1, x6)), (8, (1, x8))]) D rfl nl_647 rfl rfl fun D =>
                        fk_jump cut_647_150 rfl rfl))) (fun q13 h11 e1 =>
                    j_tx (by decide +kernel)))) (fun q10 h8 e1 =>
                j_tx (by decide +kernel)))) (fun q6 h4 e1 =>
            j_tx (by decide +kernel)))) (fun q3 h1 e1 =>
        j_tx (by decide +kernel)))
theorem e_647_150 (d : Nat) (x1 x2 x3 x4 x5 x6 x8 x11 : Int) {h : fi_H} (H : Shp h) : c_647_150 d x1 x2 x3 x4 x5 x6 x8 x11 h =
  if x11 < h 473 602 0 then
    if 0 ≤ x11 ∧ x11 < 9 then
    if h 10 659 x11.toNat = x3 then
      if h 10 660 x11.toNat = x5 then
        c_647_188 d x1 x2 x3 x4 x5 x6 x8 x11 h
      else
        c_647_182 d x1 x2 x3 x4 x5 x6 x8 x11 h
    else
      c_647_182 d x1 x2 x3 x4 x5 x6 x8 x11 h
    else none
  else
    c_647_188 d x1 x2 x3 x4 x5 x6 x8 x11 h := by
  unfold c_647_150
  exact
    have D : fk_D 647 [(150, some [0, 1, 2, 3, 4, 5, 6, 8, 11], .iload 11, 2, 0, 0, 0), (152, none, .aload_n 0, 1, 0, 0, 0), (153, none, .getfield 875, 3, 473, 129, 10), (156, none, .if_icmp .ge 32, 3, 188, 0, 0), (159, none, .aload_n 0, 1, 0, 0, 0), (160, none, .getfield 196, 3, 469, 129, 12), (163, none, .iload 11, 2, 0, 0, 0), (165, none, .iaload, 1, 0, 0, 0), (166, none, .iload_n 3, 1, 0, 0, 0), (167, none, .if_icmp .ne 15, 3, 182, 0, 0), (170, none, .aload_n 0, 1, 0, 0, 0), (171, none, .getfield 199, 3, 470, 129, 12), (174, none, .iload 11, 2, 0, 0, 0), (176, none, .iaload, 1, 0, 0, 0), (177, none, .iload 5, 2, 0, 0, 0), (179, none, .if_icmp .eq 9, 3, 188, 0, 0)] := fq_of2 cd_647 ow_647 cl_647 rfl (pc := 150) (by decide +kernel)
    j_ild (pc := 150) D rfl rfl rfl fun D =>
    j_aldn (pc := 152) D rfl rfl rfl fun D =>
    j_gf (pc := 153) (a := 602) D rfl rfl (by decide) rfl (s0_602 H) rfl fun D =>
    j_ige (pc := 156) D rfl (fun q D =>
      j_aldn (pc := 159) D rfl rfl rfl fun D =>
      j_gfc (pc := 160) (a := 602) D rfl rfl (by decide) rfl (s0_602 H) rfl (sf_469_602 H) fun D =>
      j_ild (pc := 163) D rfl rfl rfl fun D =>
      j_al (pc := 165) (a := 659) (e := 10) D rfl rfl rfl (by decide) (s0_659 H) (s1_659 H) ⟨rfl, rfl, rfl⟩ rfl gn fun qb1 D =>
      j_ildn (pc := 166) D rfl rfl rfl fun D =>
      j_ine (pc := 167) D rfl (fun q D =>
        j_aldn (pc := 170) D rfl rfl rfl fun D =>
        j_gfc (pc := 171) (a := 602) D rfl rfl (by decide) rfl (s0_602 H) rfl (sf_470_602 H) fun D =>
        j_ild (pc := 174) D rfl rfl rfl fun D =>
        j_al (pc := 176) (a := 660) (e := 10) D rfl rfl rfl (by decide) (s0_660 H) (s1_660 H) ⟨rfl, rfl, rfl⟩ rfl (gy qb1) fun q D =>
        j_ild (pc := 177) D rfl rfl rfl fun D =>
        j_ieq (pc := 179) D rfl (fun q =>
          fk_jump cut_647_188 rfl rfl) (fun q D =>
          fk_jump cut_647_182 rfl rfl)) (fun q =>
        fk_jump cut_647_182 rfl rfl)) (fun q =>
      fk_jump cut_647_188 rfl rfl)
theorem e_647_182 (d : Nat) (x1 x2 x3 x4 x5 x6 x8 x11 : Int) {h : fi_H} (H : Shp h) : c_647_182 d x1 x2 x3 x4 x5 x6 x8 x11 h =
  c_647_150 d x1 x2 x3 x4 x5 x6 x8 (wI (x11 + 1)) h := by
  unfold c_647_182
  exact
    have D : fk_D 647 [(182, some [0, 1, 2, 3, 4, 5, 6, 8, 11], .iinc 11 1, 3, 0, 1, 0), (185, none, .goto (-35), 3, 150, 0, 0)] := fq_of2 cd_647 ow_647 cl_647 rfl (pc := 182) (by decide +kernel)
    j_inc (pc := 182) (L' := [(11, (0, wI (x11 + 1))), (0, (4, 602)), (1, (0, x1)), (2, (0, x2)), (3, (0, x3)), (4, (0, x4)), (5, (0, x5)), (6, (1, x6)), (8, (1, x8))]) D rfl rfl rfl (by decide +kernel) rfl fun D =>
    j_goto (pc := 185) D rfl <|
    fk_jump cut_647_150 rfl rfl
theorem e_647_188 (d : Nat) (x1 x2 x3 x4 x5 x6 x8 x11 : Int) {h : fi_H} (H : Shp h) : c_647_188 d x1 x2 x3 x4 x5 x6 x8 x11 h =
  if x11 = h 473 602 0 then
    c_647_202 d x1 x2 x3 x4 x5 x6 x8 x11 1 h
  else
    c_647_202 d x1 x2 x3 x4 x5 x6 x8 x11 0 h := by
  unfold c_647_188
  exact
    have D : fk_D 647 [(188, some [0, 1, 2, 3, 4, 5, 6, 8, 11], .iload 11, 2, 0, 0, 0), (190, none, .aload_n 0, 1, 0, 0, 0), (191, none, .getfield 875, 3, 473, 129, 10), (194, none, .if_icmp .ne 7, 3, 201, 0, 0), (197, none, .iconst 1, 1, 0, 1, 0), (198, none, .goto 4, 3, 202, 0, 0)] := fq_of2 cd_647 ow_647 cl_647 rfl (pc := 188) (by decide +kernel)
    j_ild (pc := 188) D rfl rfl rfl fun D =>
    j_aldn (pc := 190) D rfl rfl rfl fun D =>
    j_gf (pc := 191) (a := 602) D rfl rfl (by decide) rfl (s0_602 H) rfl fun D =>
    j_ine (pc := 194) D rfl (fun q D =>
      j_ic (pc := 197) D rfl fun D =>
      j_goto (pc := 198) D rfl <|
      fk_jump cut_647_202 rfl rfl) (fun q =>
      have D : fk_D 647 [(201, none, .iconst 0, 1, 0, 0, 0)] := fq_of2 cd_647 ow_647 cl_647 rfl (pc := 201) (by decide +kernel)
      j_ic (pc := 201) D rfl fun D =>
      fk_jump cut_647_202 rfl rfl)
theorem e_647_202 (d : Nat) (x1 x2 x3 x4 x5 x6 x8 x11 s0 : Int) {h : fi_H} (H : Shp h) : c_647_202 d x1 x2 x3 x4 x5 x6 x8 x11 s0 h =
  if 0 ≤ x11 ∧ x11 < 9 then
  lt_ (fi_upd h 10 659 x11.toNat x3) fun h2 =>
  lt_ (fi_upd h2 10 660 x11.toNat x5) fun h3 =>
  lt_ (fi_upd h3 11 662 x11.toNat 0) fun h4 =>
  if s0 = 0 then
    c_647_262 d x1 x2 x3 x4 x6 x8 x11 s0 (h 11 661 x11.toNat) (h 11 662 x11.toNat) h4
  else
    lt_ (fi_upd h4 473 602 0 (wI ((h4 473 602 0) + 1))) fun h5 =>
    c_647_262 d x1 x2 x3 x4 x6 x8 x11 s0 (h 11 661 x11.toNat) (h 11 662 x11.toNat) h5
  else none := by
  unfold c_647_202
  exact
    have D : fk_D 647 [(202, some [0, 1, 2, 3, 4, 5, 6, 8, 11], .istore 12, 2, 0, 0, 0), (204, none, .aload_n 0, 1, 0, 0, 0), (205, none, .getfield 202, 3, 471, 129, 12), (208, none, .iload 11, 2, 0, 0, 0), (210, none, .laload, 1, 0, 0, 0), (211, none, .lstore 13, 2, 0, 0, 0), (213, none, .aload_n 0, 1, 0, 0, 0), (214, none, .getfield 205, 3, 472, 129, 12), (217, none, .iload 11, 2, 0, 0, 0), (219, none, .laload, 1, 0, 0, 0), (220, none, .lstore 15, 2, 0, 0, 0), (222, none, .aload_n 0, 1, 0, 0, 0), (223, none, .getfield 196, 3, 469, 129, 12), (226, none, .iload 11, 2, 0, 0, 0), (228, none, .iload_n 3, 1, 0, 0, 0), (229, none, .iastore, 1, 0, 0, 0), (230, none, .aload_n 0, 1, 0, 0, 0), (231, none, .getfield 199, 3, 470, 129, 12), (234, none, .iload 11, 2, 0, 0, 0), (236, none, .iload 5, 2, 0, 0, 0)] := fq_of2 cd_647 ow_647 cl_647 rfl (pc := 202) (by decide +kernel)
    j_ist (pc := 202) (L' := [(12, (0, s0)), (0, (4, 602)), (1, (0, x1)), (2, (0, x2)), (3, (0, x3)), (4, (0, x4)), (5, (0, x5)), (6, (1, x6)), (8, (1, x8)), (11, (0, x11))]) D rfl nl_647 rfl rfl fun D =>
    j_aldn (pc := 204) D rfl rfl rfl fun D =>
    j_gfc (pc := 205) (a := 602) D rfl rfl (by decide) rfl (s0_602 H) rfl (sf_471_602 H) fun D =>
    j_ild (pc := 208) D rfl rfl rfl fun D =>
    j_al (pc := 210) (a := 661) (e := 11) D rfl rfl rfl (by decide) (s0_661 H) (s1_661 H) ⟨rfl, rfl, rfl⟩ rfl gn fun qb1 D =>
    j_lst (pc := 211) (L' := [(13, (1, h 11 661 x11.toNat)), (12, (0, s0)), (0, (4, 602)), (1, (0, x1)), (2, (0, x2)), (3, (0, x3)), (4, (0, x4)), (5, (0, x5)), (6, (1, x6)), (8, (1, x8)), (11, (0, x11))]) D rfl nl_647 rfl rfl fun D =>
    j_aldn (pc := 213) D rfl rfl rfl fun D =>
    j_gfc (pc := 214) (a := 602) D rfl rfl (by decide) rfl (s0_602 H) rfl (sf_472_602 H) fun D =>
    j_ild (pc := 217) D rfl rfl rfl fun D =>
    j_al (pc := 219) (a := 662) (e := 11) D rfl rfl rfl (by decide) (s0_662 H) (s1_662 H) ⟨rfl, rfl, rfl⟩ rfl (gy qb1) fun q D =>
    j_lst (pc := 220) (L' := [(15, (1, h 11 662 x11.toNat)), (13, (1, h 11 661 x11.toNat)), (12, (0, s0)), (0, (4, 602)), (1, (0, x1)), (2, (0, x2)), (3, (0, x3)), (4, (0, x4)), (5, (0, x5)), (6, (1, x6)), (8, (1, x8)), (11, (0, x11))]) D rfl nl_647 rfl rfl fun D =>
    j_aldn (pc := 222) D rfl rfl rfl fun D =>
    j_gfc (pc := 223) (a := 602) D rfl rfl (by decide) rfl (s0_602 H) rfl (sf_469_602 H) fun D =>
    j_ild (pc := 226) D rfl rfl rfl fun D =>
    j_ildn (pc := 228) D rfl rfl rfl fun D =>
    j_as (pc := 229) (a := 659) (e := 10) D rfl ⟨rfl, rfl⟩ rfl (by decide) (s0_659 H) (s1_659 H) ⟨rfl, rfl, rfl⟩ rfl (gy qb1) (gy rfl) fun h2 eh2 S q D =>
    have T := fj_hs_ok H.1 S
    have H := shp_st H T
    j_aldn (pc := 230) D rfl rfl rfl fun D =>
    j_gfc (pc := 231) (a := 602) D rfl rfl (by decide) rfl (s0_602 H) rfl (sf_470_602 H) fun D =>
    j_ild (pc := 234) D rfl rfl rfl fun D =>
    j_ild (pc := 236) D rfl rfl rfl fun D =>
    have D : fk_D 647 [(238, none, .iastore, 1, 0, 0, 0), (239, none, .aload_n 0, 1, 0, 0, 0), (240, none, .getfield 205, 3, 472, 129, 12), (243, none, .iload 11, 2, 0, 0, 0), (245, none, .lconst 0, 1, 0, 0, 0), (246, none, .lastore, 1, 0, 0, 0), (247, none, .iload 12, 2, 0, 0, 0), (249, none, .ifCond .eq 13, 3, 262, 0, 0), (252, none, .aload_n 0, 1, 0, 0, 0), (253, none, .dup, 1, 0, 0, 0), (254, none, .getfield 875, 3, 473, 129, 10), (257, none, .iconst 1, 1, 0, 1, 0), (258, none, .iadd, 1, 0, 0, 0), (259, none, .putfield 875, 3, 473, 129, 10)] := fq_of2 cd_647 ow_647 cl_647 rfl (pc := 238) (by decide +kernel)
    j_as (pc := 238) (a := 660) (e := 10) D rfl ⟨rfl, rfl⟩ rfl (by decide) (s0_660 H) (s1_660 H) ⟨rfl, rfl, rfl⟩ rfl (gy qb1) (gy rfl) fun h3 eh3 S q D =>
    have T := fj_hs_ok H.1 S
    have H := shp_st H T
    j_aldn (pc := 239) D rfl rfl rfl fun D =>
    j_gfc (pc := 240) (a := 602) D rfl rfl (by decide) rfl (s0_602 H) rfl (sf_472_602 H) fun D =>
    j_ild (pc := 243) D rfl rfl rfl fun D =>
    j_c0 (pc := 245) (v := (1, 0)) D rfl rfl (by decide +kernel) fun D =>
    j_as (pc := 246) (a := 662) (e := 11) D rfl ⟨rfl, rfl⟩ rfl (by decide) (s0_662 H) (s1_662 H) ⟨rfl, rfl, rfl⟩ rfl (gy qb1) (gy rfl) fun h4 eh4 S q D =>
    have T := fj_hs_ok H.1 S
    have H := shp_st H T
    j_ild (pc := 247) D rfl rfl rfl fun D =>
    j_ifeq (pc := 249) D rfl (fun q =>
      fk_jump cut_647_262 rfl rfl) (fun q D =>
      j_aldn (pc := 252) D rfl rfl rfl fun D =>
      j_sh (pc := 253) D rfl rfl rfl fun D =>
      j_gf (pc := 254) (a := 602) D rfl rfl (by decide) rfl (s0_602 H) rfl fun D =>
      j_ic (pc := 257) D rfl fun D =>
      j_iadd (pc := 258) D rfl fun D =>
      j_pf (pc := 259) (a := 602) D rfl rfl rfl (s0_602 H) rfl rfl (gy (by decide)) (gy rfl) fun h5 eh5 S D =>
      have T := fj_hs_ok H.1 S
      have H := shp_st H T
      fk_jump cut_647_262 rfl rfl)
theorem e_647_262 (d : Nat) (x1 x2 x3 x4 x6 x8 x11 x12 x13 x15 : Int) {h : fi_H} (H : Shp h) : c_647_262 d x1 x2 x3 x4 x6 x8 x11 x12 x13 x15 h =
  c_647_270 d x1 x2 x3 x4 x11 x12 x13 x15 x6 x8 h := by
  unfold c_647_262
  exact
    have D : fk_D 647 [(262, some [0, 1, 2, 3, 4, 6, 8, 11, 12, 13, 15], .lload 6, 2, 0, 0, 0), (264, none, .lstore 17, 2, 0, 0, 0), (266, none, .lload 8, 2, 0, 0, 0), (268, none, .lstore 19, 2, 0, 0, 0)] := fq_of2 cd_647 ow_647 cl_647 rfl (pc := 262) (by decide +kernel)
    j_lld (pc := 262) D rfl rfl rfl fun D =>
    j_lst (pc := 264) (L' := [(17, (1, x6)), (0, (4, 602)), (1, (0, x1)), (2, (0, x2)), (3, (0, x3)), (4, (0, x4)), (6, (1, x6)), (8, (1, x8)), (11, (0, x11)), (12, (0, x12)), (13, (1, x13)), (15, (1, x15))]) D rfl nl_647 rfl rfl fun D =>
    j_lld (pc := 266) D rfl rfl rfl fun D =>
    j_lst (pc := 268) (L' := [(19, (1, x8)), (17, (1, x6)), (0, (4, 602)), (1, (0, x1)), (2, (0, x2)), (3, (0, x3)), (4, (0, x4)), (6, (1, x6)), (8, (1, x8)), (11, (0, x11)), (12, (0, x12)), (13, (1, x13)), (15, (1, x15))]) D rfl nl_647 rfl rfl fun D =>
    fk_jump cut_647_270 rfl rfl
theorem e_647_270 (d : Nat) (x1 x2 x3 x4 x11 x12 x13 x15 x17 x19 : Int) {h : fi_H} (H : Shp h) : c_647_270 d x1 x2 x3 x4 x11 x12 x13 x15 x17 x19 h =
  if lc_ x17 x19 < 0 then
    ca_ (fj_run d 648 h [(4, 602), (0, x1), (0, x2), (0, x3), (0, x4), (0, x11), (1, lsr_ (wJ (x17 + x19)) 1)]) 0
      (fun v2 h1 =>
      if v2 = 0 then
        c_647_316 d x1 x2 x3 x4 x11 x12 x13 x15 (wJ ((lsr_ (wJ (x17 + x19)) 1) + 1)) x19 h1
      else
        c_647_316 d x1 x2 x3 x4 x11 x12 x13 x15 x17 (lsr_ (wJ (x17 + x19)) 1) h1)
      (fun q3 h1 => tc_ 130 q3 h1 (c_647_351 d x11 x12 x13 x15 (q3 : Int) h1))
  else
    ca_ (fj_run d 648 h [(4, 602), (0, x1), (0, x2), (0, x3), (0, x4), (0, x11), (1, x17)]) 0
      (fun v5 h4 =>
      if v5 = 0 then
        c_647_340 d x11 x12 x13 x15 x17 0 h4
      else
        c_647_340 d x11 x12 x13 x15 x17 1 h4)
      (fun q6 h4 => tc_ 130 q6 h4 (c_647_351 d x11 x12 x13 x15 (q6 : Int) h4)) := by
  unfold c_647_270
  exact
    have D : fk_D 647 [(270, some [0, 1, 2, 3, 4, 11, 12, 13, 15, 17, 19], .lload 17, 2, 0, 0, 0), (272, none, .lload 19, 2, 0, 0, 0), (274, none, .lcmp, 1, 0, 0, 0), (275, none, .ifCond .ge 44, 3, 319, 0, 0), (278, none, .lload 17, 2, 0, 0, 0), (280, none, .lload 19, 2, 0, 0, 0), (282, none, .ladd, 1, 0, 0, 0), (283, none, .iconst 1, 1, 0, 1, 0), (284, none, .lshr, 1, 0, 0, 0), (285, none, .lstore 22, 2, 0, 0, 0), (287, none, .aload_n 0, 1, 0, 0, 0), (288, none, .iload_n 1, 1, 0, 0, 0), (289, none, .iload_n 2, 1, 0, 0, 0), (290, none, .iload_n 3, 1, 0, 0, 0), (291, none, .iload 4, 2, 0, 0, 0), (293, none, .iload 11, 2, 0, 0, 0), (295, none, .lload 22, 2, 0, 0, 0), (297, none, .invokevirtual 1154, 3, 6, 453, 1), (300, none, .ifCond .eq 10, 3, 310, 0, 0), (303, none, .lload 22, 2, 0, 0, 0)] := fq_of2 cd_647 ow_647 cl_647 rfl (pc := 270) (by decide +kernel)
    j_lld (pc := 270) D rfl rfl rfl fun D =>
    j_lld (pc := 272) D rfl rfl rfl fun D =>
    j_lcmp (pc := 274) D rfl fun D =>
    j_ifge (pc := 275) D rfl (fun q D =>
      j_lld (pc := 278) D rfl rfl rfl fun D =>
      j_lld (pc := 280) D rfl rfl rfl fun D =>
      j_ladd (pc := 282) D rfl fun D =>
      j_ic (pc := 283) D rfl fun D =>
      j_lshr (pc := 284) D rfl fun D =>
      j_lst (pc := 285) (L' := [(22, (1, lsr_ (wJ (x17 + x19)) 1)), (0, (4, 602)), (1, (0, x1)), (2, (0, x2)), (3, (0, x3)), (4, (0, x4)), (11, (0, x11)), (12, (0, x12)), (13, (1, x13)), (15, (1, x15)), (17, (1, x17)), (19, (1, x19))]) D rfl nl_647 rfl rfl fun D =>
      j_aldn (pc := 287) D rfl rfl rfl fun D =>
      j_ildn (pc := 288) D rfl rfl rfl fun D =>
      j_ildn (pc := 289) D rfl rfl rfl fun D =>
      j_ildn (pc := 290) D rfl rfl rfl fun D =>
      j_ild (pc := 291) D rfl rfl rfl fun D =>
      j_ild (pc := 293) D rfl rfl rfl fun D =>
      j_lld (pc := 295) D rfl rfl rfl fun D =>
      j_iv (pc := 297) (m := 648) (dd := 453) (a := [(0, x1), (0, x2), (0, x3), (0, x4), (0, x11), (1, lsr_ (wJ (x17 + x19)) 1)]) (rest := []) D rfl rfl rfl rfl rfl (by decide) (s0_602 H) (by decide +kernel) (fun v2 h1 e1 D =>
        have T := fj_run_ok _ _ _ _ _ _ H.1 e1
        have H := shp_st H T
        j_ifeq (pc := 300) D rfl (fun q =>
          have D : fk_D 647 [(310, none, .lload 22, 2, 0, 0, 0), (312, none, .lconst 1, 1, 0, 0, 0), (313, none, .ladd, 1, 0, 0, 0), (314, none, .lstore 17, 2, 0, 0, 0)] := fq_of2 cd_647 ow_647 cl_647 rfl (pc := 310) (by decide +kernel)
          j_lld (pc := 310) D rfl rfl rfl fun D =>
          j_c0 (pc := 312) (v := (1, 1)) D rfl rfl (by decide +kernel) fun D =>
          j_ladd (pc := 313) D rfl fun D =>
          j_lst (pc := 314) (L' := [(17, (1, wJ ((lsr_ (wJ (x17 + x19)) 1) + 1))), (22, (1, lsr_ (wJ (x17 + x19)) 1)), (0, (4, 602)), (1, (0, x1)), (2, (0, x2)), (3, (0, x3)), (4, (0, x4)), (11, (0, x11)), (12, (0, x12)), (13, (1, x13)), (15, (1, x15)), (19, (1, x19))]) D rfl nl_647 rfl rfl fun D =>
          fk_jump cut_647_316 rfl rfl) (fun q D =>
          j_lld (pc := 303) D rfl rfl rfl fun D =>
          have D : fk_D 647 [(305, none, .lstore 19, 2, 0, 0, 0), (307, none, .goto 9, 3, 316, 0, 0)] := fq_of2 cd_647 ow_647 cl_647 rfl (pc := 305) (by decide +kernel)
          j_lst (pc := 305) (L' := [(19, (1, lsr_ (wJ (x17 + x19)) 1)), (22, (1, lsr_ (wJ (x17 + x19)) 1)), (0, (4, 602)), (1, (0, x1)), (2, (0, x2)), (3, (0, x3)), (4, (0, x4)), (11, (0, x11)), (12, (0, x12)), (13, (1, x13)), (15, (1, x15)), (17, (1, x17))]) D rfl nl_647 rfl rfl fun D =>
          j_goto (pc := 307) D rfl <|
          fk_jump cut_647_316 rfl rfl)) (fun q3 h1 e1 =>
        j_tc_ (n := 130) (fk_at (cu := none) (by decide +kernel) rfl) (s := 270) (e := 348) (hp := 351) (ct := 9) (by decide +kernel) rfl (by decide +kernel) <|
        fk_jump cut_647_351 rfl rfl)) (fun q =>
      have D : fk_D 647 [(319, none, .aload_n 0, 1, 0, 0, 0), (320, none, .iload_n 1, 1, 0, 0, 0), (321, none, .iload_n 2, 1, 0, 0, 0), (322, none, .iload_n 3, 1, 0, 0, 0), (323, none, .iload 4, 2, 0, 0, 0), (325, none, .iload 11, 2, 0, 0, 0), (327, none, .lload 17, 2, 0, 0, 0), (329, none, .invokevirtual 1154, 3, 6, 453, 1), (332, none, .ifCond .eq 7, 3, 339, 0, 0), (335, none, .iconst 1, 1, 0, 1, 0), (336, none, .goto 4, 3, 340, 0, 0)] := fq_of2 cd_647 ow_647 cl_647 rfl (pc := 319) (by decide +kernel)
      j_aldn (pc := 319) D rfl rfl rfl fun D =>
      j_ildn (pc := 320) D rfl rfl rfl fun D =>
      j_ildn (pc := 321) D rfl rfl rfl fun D =>
      j_ildn (pc := 322) D rfl rfl rfl fun D =>
      j_ild (pc := 323) D rfl rfl rfl fun D =>
      j_ild (pc := 325) D rfl rfl rfl fun D =>
      j_lld (pc := 327) D rfl rfl rfl fun D =>
      j_iv (pc := 329) (m := 648) (dd := 453) (a := [(0, x1), (0, x2), (0, x3), (0, x4), (0, x11), (1, x17)]) (rest := []) D rfl rfl rfl rfl rfl (by decide) (s0_602 H) (by decide +kernel) (fun v5 h4 e1 D =>
        have T := fj_run_ok _ _ _ _ _ _ H.1 e1
        have H := shp_st H T
        j_ifeq (pc := 332) D rfl (fun q =>
          have D : fk_D 647 [(339, none, .iconst 0, 1, 0, 0, 0)] := fq_of2 cd_647 ow_647 cl_647 rfl (pc := 339) (by decide +kernel)
          j_ic (pc := 339) D rfl fun D =>
          fk_jump cut_647_340 rfl rfl) (fun q D =>
          j_ic (pc := 335) D rfl fun D =>
          j_goto (pc := 336) D rfl <|
          fk_jump cut_647_340 rfl rfl)) (fun q6 h4 e1 =>
        j_tc_ (n := 130) (fk_at (cu := none) (by decide +kernel) rfl) (s := 270) (e := 348) (hp := 351) (ct := 9) (by decide +kernel) rfl (by decide +kernel) <|
        fk_jump cut_647_351 rfl rfl))
theorem e_647_316 (d : Nat) (x1 x2 x3 x4 x11 x12 x13 x15 x17 x19 : Int) {h : fi_H} (H : Shp h) : c_647_316 d x1 x2 x3 x4 x11 x12 x13 x15 x17 x19 h =
  c_647_270 d x1 x2 x3 x4 x11 x12 x13 x15 x17 x19 h := by
  unfold c_647_316
  exact
    have D : fk_D 647 [(316, some [0, 1, 2, 3, 4, 11, 12, 13, 15, 17, 19], .goto (-46), 3, 270, 0, 0)] := fq_of2 cd_647 ow_647 cl_647 rfl (pc := 316) (by decide +kernel)
    j_goto (pc := 316) D rfl <|
    fk_jump cut_647_270 rfl rfl
theorem e_647_340 (d : Nat) (x11 x12 x13 x15 x17 s0 : Int) {h : fi_H} (H : Shp h) : c_647_340 d x11 x12 x13 x15 x17 s0 h =
  lt_ (fi_upd h 516 602 0 x17) fun h1 =>
  c_647_362 d x11 x12 x13 x15 s0 h1 := by
  unfold c_647_340
  exact
    have D : fk_D 647 [(340, some [0, 11, 12, 13, 15, 17], .istore 21, 2, 0, 0, 0), (342, none, .aload_n 0, 1, 0, 0, 0), (343, none, .lload 17, 2, 0, 0, 0), (345, none, .putfield 1158, 3, 516, 129, 11), (348, none, .goto 14, 3, 362, 0, 0)] := fq_of2 cd_647 ow_647 cl_647 rfl (pc := 340) (by decide +kernel)
    j_ist (pc := 340) (L' := [(21, (0, s0)), (0, (4, 602)), (11, (0, x11)), (12, (0, x12)), (13, (1, x13)), (15, (1, x15)), (17, (1, x17))]) D rfl nl_647 rfl rfl fun D =>
    j_aldn (pc := 342) D rfl rfl rfl fun D =>
    j_lld (pc := 343) D rfl rfl rfl fun D =>
    j_pf (pc := 345) (a := 602) D rfl rfl rfl (s0_602 H) rfl rfl (gy (by decide)) (gy rfl) fun h1 eh1 S D =>
    have T := fj_hs_ok H.1 S
    have H := shp_st H T
    j_goto (pc := 348) D rfl <|
    fk_jump cut_647_362 rfl rfl
theorem e_647_351 (d : Nat) (x11 x12 x13 x15 s0 : Int) {h : fi_H} (H : Shp h) : c_647_351 d x11 x12 x13 x15 s0 h =
  c_647_362 d x11 x12 x13 x15 (wI ((-10) - (h 475 602 0))) h := by
  unfold c_647_351
  exact
    have D : fk_D 647 [(351, some [0, 11, 12, 13, 15], .astore 22, 2, 0, 0, 0), (353, none, .bipush (-10), 2, 0, (-10), 0), (355, none, .aload_n 0, 1, 0, 0, 0), (356, none, .getfield 839, 3, 475, 129, 10), (359, none, .isub, 1, 0, 0, 0), (360, none, .istore 21, 2, 0, 0, 0)] := fq_of2 cd_647 ow_647 cl_647 rfl (pc := 351) (by decide +kernel)
    j_ast (pc := 351) (L' := [(22, (4, s0)), (0, (4, 602)), (11, (0, x11)), (12, (0, x12)), (13, (1, x13)), (15, (1, x15))]) D rfl nl_647 rfl rfl fun D =>
    j_bp (pc := 353) D rfl fun D =>
    j_aldn (pc := 355) D rfl rfl rfl fun D =>
    j_gf (pc := 356) (a := 602) D rfl rfl (by decide) rfl (s0_602 H) rfl fun D =>
    j_isub (pc := 359) D rfl fun D =>
    j_ist (pc := 360) (L' := [(21, (0, wI ((-10) - (h 475 602 0)))), (22, (4, s0)), (0, (4, 602)), (11, (0, x11)), (12, (0, x12)), (13, (1, x13)), (15, (1, x15))]) D rfl nl_647 rfl rfl fun D =>
    fk_jump cut_647_362 rfl rfl
theorem e_647_362 (d : Nat) (x11 x12 x13 x15 x21 : Int) {h : fi_H} (H : Shp h) : c_647_362 d x11 x12 x13 x15 x21 h =
  if x12 = 0 then
    c_647_377 d x11 x13 x15 x21 h
  else
    lt_ (fi_upd h 473 602 0 (wI ((h 473 602 0) - 1))) fun h1 =>
    c_647_377 d x11 x13 x15 x21 h1 := by
  unfold c_647_362
  exact
    have D : fk_D 647 [(362, some [0, 11, 12, 13, 15, 21], .iload 12, 2, 0, 0, 0), (364, none, .ifCond .eq 13, 3, 377, 0, 0), (367, none, .aload_n 0, 1, 0, 0, 0), (368, none, .dup, 1, 0, 0, 0), (369, none, .getfield 875, 3, 473, 129, 10), (372, none, .iconst 1, 1, 0, 1, 0), (373, none, .isub, 1, 0, 0, 0), (374, none, .putfield 875, 3, 473, 129, 10)] := fq_of2 cd_647 ow_647 cl_647 rfl (pc := 362) (by decide +kernel)
    j_ild (pc := 362) D rfl rfl rfl fun D =>
    j_ifeq (pc := 364) D rfl (fun q =>
      fk_jump cut_647_377 rfl rfl) (fun q D =>
      j_aldn (pc := 367) D rfl rfl rfl fun D =>
      j_sh (pc := 368) D rfl rfl rfl fun D =>
      j_gf (pc := 369) (a := 602) D rfl rfl (by decide) rfl (s0_602 H) rfl fun D =>
      j_ic (pc := 372) D rfl fun D =>
      j_isub (pc := 373) D rfl fun D =>
      j_pf (pc := 374) (a := 602) D rfl rfl rfl (s0_602 H) rfl rfl (gy (by decide)) (gy rfl) fun h1 eh1 S D =>
      have T := fj_hs_ok H.1 S
      have H := shp_st H T
      fk_jump cut_647_377 rfl rfl)
theorem e_647_377 (d : Nat) (x11 x13 x15 x21 : Int) {h : fi_H} (H : Shp h) : c_647_377 d x11 x13 x15 x21 h =
  if 0 ≤ x11 ∧ x11 < 9 then
  lt_ (fi_upd h 11 661 x11.toNat x13) fun h1 =>
  lt_ (fi_upd h1 11 662 x11.toNat x15) fun h3 =>
  some (.inl (some (0, x21)), h3)
  else none := by
  unfold c_647_377
  exact
    have D : fk_D 647 [(377, some [0, 11, 13, 15, 21], .aload_n 0, 1, 0, 0, 0), (378, none, .getfield 202, 3, 471, 129, 12), (381, none, .iload 11, 2, 0, 0, 0), (383, none, .lload 13, 2, 0, 0, 0), (385, none, .lastore, 1, 0, 0, 0), (386, none, .aload_n 0, 1, 0, 0, 0), (387, none, .getfield 205, 3, 472, 129, 12), (390, none, .iload 11, 2, 0, 0, 0), (392, none, .lload 15, 2, 0, 0, 0), (394, none, .lastore, 1, 0, 0, 0), (395, none, .iload 21, 2, 0, 0, 0), (397, none, .ireturn, 1, 0, 0, 0)] := fq_of2 cd_647 ow_647 cl_647 rfl (pc := 377) (by decide +kernel)
    j_aldn (pc := 377) D rfl rfl rfl fun D =>
    j_gfc (pc := 378) (a := 602) D rfl rfl (by decide) rfl (s0_602 H) rfl (sf_471_602 H) fun D =>
    j_ild (pc := 381) D rfl rfl rfl fun D =>
    j_lld (pc := 383) D rfl rfl rfl fun D =>
    j_as (pc := 385) (a := 661) (e := 11) D rfl ⟨rfl, rfl⟩ rfl (by decide) (s0_661 H) (s1_661 H) ⟨rfl, rfl, rfl⟩ rfl gn (gy rfl) fun h1 eh1 S qb2 D =>
    have T := fj_hs_ok H.1 S
    have H := shp_st H T
    j_aldn (pc := 386) D rfl rfl rfl fun D =>
    j_gfc (pc := 387) (a := 602) D rfl rfl (by decide) rfl (s0_602 H) rfl (sf_472_602 H) fun D =>
    j_ild (pc := 390) D rfl rfl rfl fun D =>
    j_lld (pc := 392) D rfl rfl rfl fun D =>
    j_as (pc := 394) (a := 662) (e := 11) D rfl ⟨rfl, rfl⟩ rfl (by decide) (s0_662 H) (s1_662 H) ⟨rfl, rfl, rfl⟩ rfl (gy qb2) (gy rfl) fun h3 eh3 S q D =>
    have T := fj_hs_ok H.1 S
    have H := shp_st H T
    j_ild (pc := 395) D rfl rfl rfl fun D =>
    j_iret D rt_647
theorem m_647 (d : Nat) (x1 x2 x3 x4 x5 x6 x8 : Int) {h : fi_H} (H : Shp h) : fj_run (d + 1) 647 h [(4, 602), (0, x1), (0, x2), (0, x3), (0, x4), (0, x5), (1, x6), (1, x8)] =
  ca_ (fj_run d 641 h [(4, 602), (0, x2)]) 0
    (fun v2 h1 =>
    if v2 = 0 then
      c_647_60 d x1 x2 x3 x4 x5 x6 x8 h1
    else
      if 0 ≤ x2 ∧ x2 < 41 then
      if h1 10 611 x2.toNat = 0 then
        ca_ (fj_run d 572 h1 [(4, 602), (0, x3)]) 0
          (fun v6 h5 =>
          if v6 = 0 then
            c_647_60 d x1 x2 x3 x4 x5 x6 x8 h5
          else
            ca_ (fj_run d 627 h5 [(4, 602), (0, x5)]) 0
              (fun v9 h8 =>
              if v9 = 0 then
                c_647_60 d x1 x2 x3 x4 x5 x6 x8 h8
              else
                if 0 ≤ x5 ∧ x5 < 41 then
                if h8 10 611 x5.toNat = 1 then
                  c_647_56 d x1 x2 x3 x4 x5 x6 x8 h8
                else
                  if h8 10 611 x5.toNat = 2 then
                    c_647_56 d x1 x2 x3 x4 x5 x6 x8 h8
                  else
                    c_647_60 d x1 x2 x3 x4 x5 x6 x8 h8
                else none)
              (fun q10 h8 => tx_ q10 h8))
          (fun q7 h5 => tx_ q7 h5)
      else
        c_647_60 d x1 x2 x3 x4 x5 x6 x8 h1
      else none)
    (fun q3 h1 => tx_ q3 h1) := by
  rw [fj_run_eq d (by decide) h [(4, 602), (0, x1), (0, x2), (0, x3), (0, x4), (0, x5), (1, x6), (1, x8)] (Nat.le_of_ble_eq_true (by rw [nl_647]; rfl))]
  show gG (fj_run d) 647 0 [(0, (4, 602)), (1, (0, x1)), (2, (0, x2)), (3, (0, x3)), (4, (0, x4)), (5, (0, x5)), (6, (1, x6)), (8, (1, x8))] [] h = _
  exact
    have D : fk_D 647 [(0, none, .aload_n 0, 1, 0, 0, 0), (1, none, .iload_n 2, 1, 0, 0, 0), (2, none, .invokevirtual 1148, 3, 1, 452, 1), (5, none, .ifCond .eq 55, 3, 60, 0, 0), (8, none, .aload_n 0, 1, 0, 0, 0), (9, none, .getfield 43, 3, 407, 129, 12), (12, none, .iload_n 2, 1, 0, 0, 0), (13, none, .iaload, 1, 0, 0, 0), (14, none, .ifCond .ne 46, 3, 60, 0, 0), (17, none, .aload_n 0, 1, 0, 0, 0), (18, none, .iload_n 3, 1, 0, 0, 0), (19, none, .invokevirtual 1076, 3, 1, 439, 1), (22, none, .ifCond .eq 38, 3, 60, 0, 0), (25, none, .aload_n 0, 1, 0, 0, 0), (26, none, .iload 5, 2, 0, 0, 0), (28, none, .invokevirtual 1118, 3, 1, 443, 1), (31, none, .ifCond .eq 29, 3, 60, 0, 0), (34, none, .aload_n 0, 1, 0, 0, 0), (35, none, .getfield 43, 3, 407, 129, 12), (38, none, .iload 5, 2, 0, 0, 0)] := fq_of2 cd_647 ow_647 cl_647 rfl (pc := 0) (by decide +kernel)
    j_aldn (pc := 0) D rfl rfl rfl fun D =>
    j_ildn (pc := 1) D rfl rfl rfl fun D =>
    j_iv (pc := 2) (m := 641) (dd := 452) (a := [(0, x2)]) (rest := []) D rfl rfl rfl rfl rfl (by decide) (s0_602 H) (by decide +kernel) (fun v2 h1 e1 D =>
      have T := fj_run_ok _ _ _ _ _ _ H.1 e1
      have H := shp_st H T
      j_ifeq (pc := 5) D rfl (fun q =>
        fk_jump cut_647_60 rfl rfl) (fun q D =>
        j_aldn (pc := 8) D rfl rfl rfl fun D =>
        j_gfc (pc := 9) (a := 602) D rfl rfl (by decide) rfl (s0_602 H) rfl (sf_407_602 H) fun D =>
        j_ildn (pc := 12) D rfl rfl rfl fun D =>
        j_al (pc := 13) (a := 611) (e := 10) D rfl rfl rfl (by decide) (s0_611 H) (s1_611 H) ⟨rfl, rfl, rfl⟩ rfl gn fun qb4 D =>
        j_ifne (pc := 14) D rfl (fun q D =>
          j_aldn (pc := 17) D rfl rfl rfl fun D =>
          j_ildn (pc := 18) D rfl rfl rfl fun D =>
          j_iv (pc := 19) (m := 572) (dd := 439) (a := [(0, x3)]) (rest := []) D rfl rfl rfl rfl rfl (by decide) (s0_602 H) (by decide +kernel) (fun v6 h5 e1 D =>
            have T := fj_run_ok _ _ _ _ _ _ H.1 e1
            have H := shp_st H T
            j_ifeq (pc := 22) D rfl (fun q =>
              fk_jump cut_647_60 rfl rfl) (fun q D =>
              j_aldn (pc := 25) D rfl rfl rfl fun D =>
              j_ild (pc := 26) D rfl rfl rfl fun D =>
              j_iv (pc := 28) (m := 627) (dd := 443) (a := [(0, x5)]) (rest := []) D rfl rfl rfl rfl rfl (by decide) (s0_602 H) (by decide +kernel) (fun v9 h8 e1 D =>
                have T := fj_run_ok _ _ _ _ _ _ H.1 e1
                have H := shp_st H T
                j_ifeq (pc := 31) D rfl (fun q =>
                  fk_jump cut_647_60 rfl rfl) (fun q D =>
                  j_aldn (pc := 34) D rfl rfl rfl fun D =>
                  j_gfc (pc := 35) (a := 602) D rfl rfl (by decide) rfl (s0_602 H) rfl (sf_407_602 H) fun D =>
                  j_ild (pc := 38) D rfl rfl rfl fun D =>
                  have D : fk_D 647 [(40, none, .iaload, 1, 0, 0, 0), (41, none, .iconst 1, 1, 0, 1, 0), (42, none, .if_icmp .eq 14, 3, 56, 0, 0), (45, none, .aload_n 0, 1, 0, 0, 0), (46, none, .getfield 43, 3, 407, 129, 12), (49, none, .iload 5, 2, 0, 0, 0), (51, none, .iaload, 1, 0, 0, 0), (52, none, .iconst 2, 1, 0, 2, 0), (53, none, .if_icmp .ne 7, 3, 60, 0, 0)] := fq_of2 cd_647 ow_647 cl_647 rfl (pc := 40) (by decide +kernel)
                  j_al (pc := 40) (a := 611) (e := 10) D rfl rfl rfl (by decide) (s0_611 H) (s1_611 H) ⟨rfl, rfl, rfl⟩ rfl gn fun qb11 D =>
                  j_ic (pc := 41) D rfl fun D =>
                  j_ieq (pc := 42) D rfl (fun q =>
                    fk_jump cut_647_56 rfl rfl) (fun q D =>
                    j_aldn (pc := 45) D rfl rfl rfl fun D =>
                    j_gfc (pc := 46) (a := 602) D rfl rfl (by decide) rfl (s0_602 H) rfl (sf_407_602 H) fun D =>
                    j_ild (pc := 49) D rfl rfl rfl fun D =>
                    j_al (pc := 51) (a := 611) (e := 10) D rfl rfl rfl (by decide) (s0_611 H) (s1_611 H) ⟨rfl, rfl, rfl⟩ rfl (gy qb11) fun q D =>
                    j_ic (pc := 52) D rfl fun D =>
                    j_ine (pc := 53) D rfl (fun q D =>
                      fk_jump cut_647_56 rfl rfl) (fun q =>
                      fk_jump cut_647_60 rfl rfl)))) (fun q10 h8 e1 =>
                j_tx (by decide +kernel)))) (fun q7 h5 e1 =>
            j_tx (by decide +kernel))) (fun q =>
          fk_jump cut_647_60 rfl rfl))) (fun q3 h1 e1 =>
      j_tx (by decide +kernel))
/-! 648 StatuteHouseModel.isSolved(IIIIIJ)Z -/
theorem cd_648 : fi_code 648 = prog_69_method_166_code := rfl
theorem hx_648 : ∀ pc, fi_hat 648 pc = none := fun pc => by unfold fi_hat; rw [show fi_hh 648 = [] from rfl]; rfl
theorem rt_648 : fi_ret 648 = some .boolean := rfl
theorem nl_648 : fi_nl 648 = 8 := rfl
theorem ow_648 : fi_ow 648 = 29 := rfl
theorem cl_648 : fj_cutT.getD 648 [] = [] := rfl
theorem m_648 (d : Nat) (x1 x2 x3 x4 x5 x6 : Int) {h : fi_H} (H : Shp h) : fj_run (d + 1) 648 h [(4, 602), (0, x1), (0, x2), (0, x3), (0, x4), (0, x5), (1, x6)] =
  if 0 ≤ x5 ∧ x5 < 9 then
  lt_ (fi_upd h 11 661 x5.toNat x6) fun h1 =>
  cv_ (fj_run d 574 h1 [(4, 602), (0, x1), (0, x3), (0, x4), (0, h1 449 602 0)])
    (fun h3 =>
    cv_ (fj_run d 605 h3 [(4, 602), (0, x2)])
      (fun h6 =>
      if lc_ (h6 492 602 0) 1 = 0 then
        some (.inl (some (0, 1)), h6)
      else
        some (.inl (some (0, 0)), h6))
      (fun q8 h6 => tx_ q8 h6))
    (fun q5 h3 => tx_ q5 h3)
  else none := by
  rw [fj_run_eq d (by decide) h [(4, 602), (0, x1), (0, x2), (0, x3), (0, x4), (0, x5), (1, x6)] (Nat.le_of_ble_eq_true (by rw [nl_648]; rfl))]
  show gG (fj_run d) 648 0 [(0, (4, 602)), (1, (0, x1)), (2, (0, x2)), (3, (0, x3)), (4, (0, x4)), (5, (0, x5)), (6, (1, x6))] [] h = _
  exact
    have D : fk_D 648 [(0, none, .aload_n 0, 1, 0, 0, 0), (1, none, .getfield 202, 3, 471, 129, 12), (4, none, .iload 5, 2, 0, 0, 0), (6, none, .lload 6, 2, 0, 0, 0), (8, none, .lastore, 1, 0, 0, 0), (9, none, .aload_n 0, 1, 0, 0, 0), (10, none, .iload_n 1, 1, 0, 0, 0), (11, none, .iload_n 3, 1, 0, 0, 0), (12, none, .iload 4, 2, 0, 0, 0), (14, none, .aload_n 0, 1, 0, 0, 0), (15, none, .getfield 141, 3, 449, 129, 10), (18, none, .invokevirtual 1086, 3, 4, 442, 0), (21, none, .aload_n 0, 1, 0, 0, 0), (22, none, .iload_n 2, 1, 0, 0, 0), (23, none, .invokevirtual 979, 3, 1, 420, 0), (26, none, .aload_n 0, 1, 0, 0, 0), (27, none, .getfield 869, 3, 492, 129, 11), (30, none, .lconst 1, 1, 0, 0, 0), (31, none, .lcmp, 1, 0, 0, 0), (32, none, .ifCond .ne 7, 3, 39, 0, 0)] := fq_of2 cd_648 ow_648 cl_648 rfl (pc := 0) (by decide +kernel)
    j_aldn (pc := 0) D rfl rfl rfl fun D =>
    j_gfc (pc := 1) (a := 602) D rfl rfl (by decide) rfl (s0_602 H) rfl (sf_471_602 H) fun D =>
    j_ild (pc := 4) D rfl rfl rfl fun D =>
    j_lld (pc := 6) D rfl rfl rfl fun D =>
    j_as (pc := 8) (a := 661) (e := 11) D rfl ⟨rfl, rfl⟩ rfl (by decide) (s0_661 H) (s1_661 H) ⟨rfl, rfl, rfl⟩ rfl gn (gy rfl) fun h1 eh1 S qb2 D =>
    have T := fj_hs_ok H.1 S
    have H := shp_st H T
    j_aldn (pc := 9) D rfl rfl rfl fun D =>
    j_ildn (pc := 10) D rfl rfl rfl fun D =>
    j_ildn (pc := 11) D rfl rfl rfl fun D =>
    j_ild (pc := 12) D rfl rfl rfl fun D =>
    j_aldn (pc := 14) D rfl rfl rfl fun D =>
    j_gf (pc := 15) (a := 602) D rfl rfl (by decide) rfl (s0_602 H) rfl fun D =>
    j_ivv (pc := 18) (m := 574) (dd := 442) (a := [(0, x1), (0, x3), (0, x4), (0, h1 449 602 0)]) (rest := []) D rfl rfl rfl rfl rfl (by decide) (s0_602 H) (by decide +kernel) (fun h3 e1 D =>
      have T := fj_run_ok _ _ _ _ _ _ H.1 e1
      have H := shp_st H T
      j_aldn (pc := 21) D rfl rfl rfl fun D =>
      j_ildn (pc := 22) D rfl rfl rfl fun D =>
      j_ivv (pc := 23) (m := 605) (dd := 420) (a := [(0, x2)]) (rest := []) D rfl rfl rfl rfl rfl (by decide) (s0_602 H) (by decide +kernel) (fun h6 e1 D =>
        have T := fj_run_ok _ _ _ _ _ _ H.1 e1
        have H := shp_st H T
        j_aldn (pc := 26) D rfl rfl rfl fun D =>
        j_gf (pc := 27) (a := 602) D rfl rfl (by decide) rfl (s0_602 H) rfl fun D =>
        j_c0 (pc := 30) (v := (1, 1)) D rfl rfl (by decide +kernel) fun D =>
        j_lcmp (pc := 31) D rfl fun D =>
        j_ifne (pc := 32) D rfl (fun q D =>
          have D : fk_D 648 [(35, none, .iconst 1, 1, 0, 1, 0), (36, none, .goto 4, 3, 40, 0, 0)] := fq_of2 cd_648 ow_648 cl_648 rfl (pc := 35) (by decide +kernel)
          j_ic (pc := 35) D rfl fun D =>
          j_goto (pc := 36) D rfl <|
          have D : fk_D 648 [(40, none, .ireturn, 1, 0, 0, 0)] := fq_of2 cd_648 ow_648 cl_648 rfl (pc := 40) (by decide +kernel)
          j_zret D rt_648 (gy (by decide))) (fun q =>
          have D : fk_D 648 [(39, none, .iconst 0, 1, 0, 0, 0), (40, none, .ireturn, 1, 0, 0, 0)] := fq_of2 cd_648 ow_648 cl_648 rfl (pc := 39) (by decide +kernel)
          j_ic (pc := 39) D rfl fun D =>
          j_zret D rt_648 (gy (by decide)))) (fun q8 h6 e1 =>
        j_tx (hx_648 _))) (fun q5 h3 e1 =>
      j_tx (hx_648 _))
/-! 649 StatuteHouseModel.solved()J -/
theorem cd_649 : fi_code 649 = prog_69_method_167_code := rfl
theorem hx_649 : ∀ pc, fi_hat 649 pc = none := fun pc => by unfold fi_hat; rw [show fi_hh 649 = [] from rfl]; rfl
theorem rt_649 : fi_ret 649 = some .long := rfl
theorem nl_649 : fi_nl 649 = 1 := rfl
theorem ow_649 : fi_ow 649 = 29 := rfl
theorem cl_649 : fj_cutT.getD 649 [] = [] := rfl
theorem m_649 (d : Nat) {h : fi_H} (H : Shp h) : fj_run (d + 1) 649 h [(4, 602)] =
  some (.inl (some (1, h 516 602 0)), h) := by
  rw [fj_run_eq d (by decide) h [(4, 602)] (Nat.le_of_ble_eq_true (by rw [nl_649]; rfl))]
  show gG (fj_run d) 649 0 [(0, (4, 602))] [] h = _
  exact
    have D : fk_D 649 [(0, none, .aload_n 0, 1, 0, 0, 0), (1, none, .getfield 1158, 3, 516, 129, 11), (4, none, .lreturn, 1, 0, 0, 0)] := fq_of2 cd_649 ow_649 cl_649 rfl (pc := 0) (by decide +kernel)
    j_aldn (pc := 0) D rfl rfl rfl fun D =>
    j_gf (pc := 1) (a := 602) D rfl rfl (by decide) rfl (s0_602 H) rfl fun D =>
    j_lret D rt_649
/-! 650 StatuteHouseModel.terms(III)I -/
theorem cd_650 : fi_code 650 = prog_69_method_168_code := rfl
theorem hx_650 : ∀ pc, fi_hat 650 pc = none := fun pc => by unfold fi_hat; rw [show fi_hh 650 = [] from rfl]; rfl
theorem rt_650 : fi_ret 650 = some .int := rfl
theorem nl_650 : fi_nl 650 = 6 := rfl
theorem ow_650 : fi_ow 650 = 29 := rfl
theorem cl_650 : fj_cutT.getD 650 [] = [] := rfl
theorem m_650 (d : Nat) (x1 x2 x3 : Int) {h : fi_H} (H : Shp h) : fj_run (d + 1) 650 h [(4, 602), (0, x1), (0, x2), (0, x3)] =
  ca_ (fj_run d 508 h [(1, wI x1), (1, 0), (1, 600)]) 0
    (fun v2 h1 =>
    if v2 = 0 then
      some (.inl (some (0, (-2))), h1)
    else
      if x2 < 0 then
        some (.inl (some (0, (-2))), h1)
      else
        if x3 < 1 then
          some (.inl (some (0, (-2))), h1)
        else
          ca_ (fj_run d 514 h1 [(1, wI x2), (1, wI x3)]) 1
            (fun v5 h4 =>
            if v5 = 0 then none else
            if 0 < lc_ (lq_ (wI x2) v5) 1000000 then
              some (.inl (some (0, (-2))), h4)
            else
              if v5 = 0 then none else
              if 0 < lc_ (lq_ (wI x3) v5) 1000000 then
                some (.inl (some (0, (-2))), h4)
              else
                lt_ (fi_upd h4 517 602 0 x1) fun h7 =>
                if v5 = 0 then none else
                lt_ (fi_upd h7 518 602 0 (lq_ (wI x2) v5)) fun h8 =>
                if v5 = 0 then none else
                lt_ (fi_upd h8 519 602 0 (lq_ (wI x3) v5)) fun h9 =>
                some (.inl (some (0, 1)), h9))
            (fun q6 h4 => tx_ q6 h4))
    (fun q3 h1 => tx_ q3 h1) := by
  rw [fj_run_eq d (by decide) h [(4, 602), (0, x1), (0, x2), (0, x3)] (Nat.le_of_ble_eq_true (by rw [nl_650]; rfl))]
  show gG (fj_run d) 650 0 [(0, (4, 602)), (1, (0, x1)), (2, (0, x2)), (3, (0, x3))] [] h = _
  exact
    have D : fk_D 650 [(0, none, .iload_n 1, 1, 0, 0, 0), (1, none, .i2l, 1, 0, 0, 0), (2, none, .lconst 0, 1, 0, 0, 0), (3, none, .ldc2_w 1161, 3, 1, 600, 0), (6, none, .invokestatic 434, 3, 3, 508, 1), (9, none, .ifCond .eq 12, 3, 21, 0, 0), (12, none, .iload_n 2, 1, 0, 0, 0), (13, none, .ifCond .lt 8, 3, 21, 0, 0), (16, none, .iload_n 3, 1, 0, 0, 0), (17, none, .iconst 1, 1, 0, 1, 0), (18, none, .if_icmp .ge 6, 3, 24, 0, 0), (21, none, .bipush (-2), 2, 0, (-2), 0), (23, none, .ireturn, 1, 0, 0, 0)] := fq_of2 cd_650 ow_650 cl_650 rfl (pc := 0) (by decide +kernel)
    j_ildn (pc := 0) D rfl rfl rfl fun D =>
    j_i2l (pc := 1) D rfl fun D =>
    j_c0 (pc := 2) (v := (1, 0)) D rfl rfl (by decide +kernel) fun D =>
    j_ldc2 (pc := 3) D rfl fun D =>
    j_is (pc := 6) (m := 508) (a := [(1, wI x1), (1, 0), (1, 600)]) (rest := []) D rfl rfl rfl rfl (fun v2 h1 e1 D =>
      have T := fj_run_ok _ _ _ _ _ _ H.1 e1
      have H := shp_st H T
      j_ifeq (pc := 9) D rfl (fun q =>
        have D : fk_D 650 [(21, none, .bipush (-2), 2, 0, (-2), 0), (23, none, .ireturn, 1, 0, 0, 0)] := fq_of2 cd_650 ow_650 cl_650 rfl (pc := 21) (by decide +kernel)
        j_bp (pc := 21) D rfl fun D =>
        j_iret D rt_650) (fun q D =>
        j_ildn (pc := 12) D rfl rfl rfl fun D =>
        j_iflt (pc := 13) D rfl (fun q =>
          have D : fk_D 650 [(21, none, .bipush (-2), 2, 0, (-2), 0), (23, none, .ireturn, 1, 0, 0, 0)] := fq_of2 cd_650 ow_650 cl_650 rfl (pc := 21) (by decide +kernel)
          j_bp (pc := 21) D rfl fun D =>
          j_iret D rt_650) (fun q D =>
          j_ildn (pc := 16) D rfl rfl rfl fun D =>
          j_ic (pc := 17) D rfl fun D =>
          j_ige (pc := 18) D rfl (fun q D =>
            j_bp (pc := 21) D rfl fun D =>
            j_iret D rt_650) (fun q =>
            have D : fk_D 650 [(24, none, .iload_n 2, 1, 0, 0, 0), (25, none, .i2l, 1, 0, 0, 0), (26, none, .iload_n 3, 1, 0, 0, 0), (27, none, .i2l, 1, 0, 0, 0), (28, none, .invokestatic 604, 3, 2, 514, 2), (31, none, .lstore 4, 2, 0, 0, 0), (33, none, .iload_n 2, 1, 0, 0, 0), (34, none, .i2l, 1, 0, 0, 0), (35, none, .lload 4, 2, 0, 0, 0), (37, none, .ldiv, 1, 0, 0, 0), (38, none, .ldc2_w 934, 3, 1, 1000000, 0), (41, none, .lcmp, 1, 0, 0, 0), (42, none, .ifCond .gt 15, 3, 57, 0, 0), (45, none, .iload_n 3, 1, 0, 0, 0), (46, none, .i2l, 1, 0, 0, 0), (47, none, .lload 4, 2, 0, 0, 0), (49, none, .ldiv, 1, 0, 0, 0), (50, none, .ldc2_w 934, 3, 1, 1000000, 0), (53, none, .lcmp, 1, 0, 0, 0), (54, none, .ifCond .le 6, 3, 60, 0, 0)] := fq_of2 cd_650 ow_650 cl_650 rfl (pc := 24) (by decide +kernel)
            j_ildn (pc := 24) D rfl rfl rfl fun D =>
            j_i2l (pc := 25) D rfl fun D =>
            j_ildn (pc := 26) D rfl rfl rfl fun D =>
            j_i2l (pc := 27) D rfl fun D =>
            j_is (pc := 28) (m := 514) (a := [(1, wI x2), (1, wI x3)]) (rest := []) D rfl rfl rfl rfl (fun v5 h4 e1 D =>
              have T := fj_run_ok _ _ _ _ _ _ H.1 e1
              have H := shp_st H T
              j_lst (pc := 31) (L' := [(4, (1, v5)), (0, (4, 602)), (1, (0, x1)), (2, (0, x2)), (3, (0, x3))]) D rfl nl_650 rfl rfl fun D =>
              j_ildn (pc := 33) D rfl rfl rfl fun D =>
              j_i2l (pc := 34) D rfl fun D =>
              j_lld (pc := 35) D rfl rfl rfl fun D =>
              j_ldiv (pc := 37) D rfl fun q D =>
              j_ldc2 (pc := 38) D rfl fun D =>
              j_lcmp (pc := 41) D rfl fun D =>
              j_ifgt (pc := 42) D rfl (fun q =>
                have D : fk_D 650 [(57, none, .bipush (-2), 2, 0, (-2), 0), (59, none, .ireturn, 1, 0, 0, 0)] := fq_of2 cd_650 ow_650 cl_650 rfl (pc := 57) (by decide +kernel)
                j_bp (pc := 57) D rfl fun D =>
                j_iret D rt_650) (fun q D =>
                j_ildn (pc := 45) D rfl rfl rfl fun D =>
                j_i2l (pc := 46) D rfl fun D =>
                j_lld (pc := 47) D rfl rfl rfl fun D =>
                j_ldiv (pc := 49) D rfl fun q D =>
                j_ldc2 (pc := 50) D rfl fun D =>
                j_lcmp (pc := 53) D rfl fun D =>
                j_ifle (pc := 54) D rfl (fun q D =>
                  have D : fk_D 650 [(57, none, .bipush (-2), 2, 0, (-2), 0), (59, none, .ireturn, 1, 0, 0, 0)] := fq_of2 cd_650 ow_650 cl_650 rfl (pc := 57) (by decide +kernel)
                  j_bp (pc := 57) D rfl fun D =>
                  j_iret D rt_650) (fun q =>
                  have D : fk_D 650 [(60, none, .aload_n 0, 1, 0, 0, 0), (61, none, .iload_n 1, 1, 0, 0, 0), (62, none, .putfield 281, 3, 517, 129, 10), (65, none, .aload_n 0, 1, 0, 0, 0), (66, none, .iload_n 2, 1, 0, 0, 0), (67, none, .i2l, 1, 0, 0, 0), (68, none, .lload 4, 2, 0, 0, 0), (70, none, .ldiv, 1, 0, 0, 0), (71, none, .putfield 284, 3, 518, 129, 11), (74, none, .aload_n 0, 1, 0, 0, 0), (75, none, .iload_n 3, 1, 0, 0, 0), (76, none, .i2l, 1, 0, 0, 0), (77, none, .lload 4, 2, 0, 0, 0), (79, none, .ldiv, 1, 0, 0, 0), (80, none, .putfield 290, 3, 519, 129, 11), (83, none, .iconst 1, 1, 0, 1, 0), (84, none, .ireturn, 1, 0, 0, 0)] := fq_of2 cd_650 ow_650 cl_650 rfl (pc := 60) (by decide +kernel)
                  j_aldn (pc := 60) D rfl rfl rfl fun D =>
                  j_ildn (pc := 61) D rfl rfl rfl fun D =>
                  j_pf (pc := 62) (a := 602) D rfl rfl rfl (s0_602 H) rfl rfl (gy (by decide)) (gy rfl) fun h7 eh7 S D =>
                  have T := fj_hs_ok H.1 S
                  have H := shp_st H T
                  j_aldn (pc := 65) D rfl rfl rfl fun D =>
                  j_ildn (pc := 66) D rfl rfl rfl fun D =>
                  j_i2l (pc := 67) D rfl fun D =>
                  j_lld (pc := 68) D rfl rfl rfl fun D =>
                  j_ldiv (pc := 70) D rfl fun q D =>
                  j_pf (pc := 71) (a := 602) D rfl rfl rfl (s0_602 H) rfl rfl (gy (by decide)) (gy rfl) fun h8 eh8 S D =>
                  have T := fj_hs_ok H.1 S
                  have H := shp_st H T
                  j_aldn (pc := 74) D rfl rfl rfl fun D =>
                  j_ildn (pc := 75) D rfl rfl rfl fun D =>
                  j_i2l (pc := 76) D rfl fun D =>
                  j_lld (pc := 77) D rfl rfl rfl fun D =>
                  j_ldiv (pc := 79) D rfl fun q D =>
                  j_pf (pc := 80) (a := 602) D rfl rfl rfl (s0_602 H) rfl rfl (gy (by decide)) (gy rfl) fun h9 eh9 S D =>
                  have T := fj_hs_ok H.1 S
                  have H := shp_st H T
                  j_ic (pc := 83) D rfl fun D =>
                  j_iret D rt_650))) (fun q6 h4 e1 =>
              j_tx (hx_650 _)))))) (fun q3 h1 e1 =>
      j_tx (hx_650 _))
/-! 651 StatuteHouseModel.decide(IIII)I -/
theorem cd_651 : fi_code 651 = prog_69_method_172_code := rfl
theorem rt_651 : fi_ret 651 = some .int := rfl
theorem nl_651 : fi_nl 651 = 8 := rfl
theorem ow_651 : fi_ow 651 = 29 := rfl
theorem cl_651 : fj_cutT.getD 651 [] = [(132, [0, 1, 2, 3, 4, 5, 6]), (184, [0, 1, 2, 3, 4, 5, 6, 7]), (212, [0]), (269, [0, 1, 4, 5, 6]), (292, [0, 1, 4, 6, 7]), (358, [0, 1, 6])] := rfl
theorem cut_651_132 : fj_cut 651 132 = some [0, 1, 2, 3, 4, 5, 6] := by decide +kernel
noncomputable def c_651_132 (d : Nat) (x1 x2 x3 x4 x5 x6 : Int) (h : fi_H) : fk_R := gG (fj_run d) 651 132 [(0, (4, 602)), (1, (0, x1)), (2, (0, x2)), (3, (0, x3)), (4, (0, x4)), (5, (0, x5)), (6, (0, x6))] [] h
theorem cut_651_184 : fj_cut 651 184 = some [0, 1, 2, 3, 4, 5, 6, 7] := by decide +kernel
noncomputable def c_651_184 (d : Nat) (x1 x2 x3 x4 x5 x6 x7 s0 s1 s2 s3 : Int) (h : fi_H) : fk_R := gG (fj_run d) 651 184 [(0, (4, 602)), (1, (0, x1)), (2, (0, x2)), (3, (0, x3)), (4, (0, x4)), (5, (0, x5)), (6, (0, x6)), (7, (0, x7))] [(0, s3), (4, s2), (0, s1), (4, s0)] h
theorem cut_651_212 : fj_cut 651 212 = some [0] := by decide +kernel
noncomputable def c_651_212 (d : Nat) (s0 : Int) (h : fi_H) : fk_R := gG (fj_run d) 651 212 [(0, (4, 602))] [(4, s0)] h
theorem cut_651_269 : fj_cut 651 269 = some [0, 1, 4, 5, 6] := by decide +kernel
noncomputable def c_651_269 (d : Nat) (x1 x4 x5 x6 : Int) (h : fi_H) : fk_R := gG (fj_run d) 651 269 [(0, (4, 602)), (1, (0, x1)), (4, (0, x4)), (5, (0, x5)), (6, (0, x6))] [] h
theorem cut_651_292 : fj_cut 651 292 = some [0, 1, 4, 6, 7] := by decide +kernel
noncomputable def c_651_292 (d : Nat) (x1 x4 x6 x7 : Int) (h : fi_H) : fk_R := gG (fj_run d) 651 292 [(0, (4, 602)), (1, (0, x1)), (4, (0, x4)), (6, (0, x6)), (7, (0, x7))] [] h
theorem cut_651_358 : fj_cut 651 358 = some [0, 1, 6] := by decide +kernel
noncomputable def c_651_358 (d : Nat) (x1 x6 : Int) (h : fi_H) : fk_R := gG (fj_run d) 651 358 [(0, (4, 602)), (1, (0, x1)), (6, (0, x6))] [] h
theorem e_651_132 (d : Nat) (x1 x2 x3 x4 x5 x6 : Int) {h : fi_H} (H : Shp h) : c_651_132 d x1 x2 x3 x4 x5 x6 h =
  if x6 < x4 then
    ca_ (fj_run d 601 h [(4, 602), (0, x3), (0, x6)]) 0
      (fun v2 h1 =>
      cv_ (fj_run d 574 h1 [(4, 602), (0, 0), (0, 0), (0, 0), (0, h1 449 602 0)])
        (fun h4 =>
        if h4 449 602 0 < v2 then
          c_651_184 d x1 x2 x3 x4 x5 x6 v2 701 x6 602 v2 h4
        else
          c_651_184 d x1 x2 x3 x4 x5 x6 v2 701 x6 602 (h4 449 602 0) h4)
        (fun q6 h4 => tc_ 130 q6 h4 (c_651_212 d (q6 : Int) h4)))
      (fun q3 h1 => tc_ 130 q3 h1 (c_651_212 d (q3 : Int) h1))
  else
    if 0 ≤ h 528 602 0 ∧ h 528 602 0 < 30 then
    lt_ (fi_upd h 10 681 (h 528 602 0).toNat x1) fun h7 =>
    lt_ (fi_upd h7 10 682 (h 528 602 0).toNat x2) fun h9 =>
    lt_ (fi_upd h9 10 683 (h 528 602 0).toNat x3) fun h10 =>
    lt_ (fi_upd h10 10 684 (h 528 602 0).toNat x4) fun h11 =>
    lt_ (fi_upd h11 10 685 (h 528 602 0).toNat 0) fun h12 =>
    c_651_269 d x1 x4 x5 (h 528 602 0) h12
    else none := by
  unfold c_651_132
  exact
    have D : fk_D 651 [(132, some [0, 1, 2, 3, 4, 5, 6], .iload 6, 2, 0, 0, 0), (134, none, .iload 4, 2, 0, 0, 0), (136, none, .if_icmp .ge 73, 3, 209, 0, 0), (139, none, .aload_n 0, 1, 0, 0, 0), (140, none, .iload_n 3, 1, 0, 0, 0), (141, none, .iload 6, 2, 0, 0, 0), (143, none, .invokevirtual 453, 3, 2, 336, 1), (146, none, .istore 7, 2, 0, 0, 0), (148, none, .aload_n 0, 1, 0, 0, 0), (149, none, .iconst 0, 1, 0, 0, 0), (150, none, .iconst 0, 1, 0, 0, 0), (151, none, .iconst 0, 1, 0, 0, 0), (152, none, .aload_n 0, 1, 0, 0, 0), (153, none, .getfield 141, 3, 449, 129, 10), (156, none, .invokevirtual 1086, 3, 4, 442, 0), (159, none, .aload_n 0, 1, 0, 0, 0), (160, none, .getfield 359, 3, 544, 129, 12), (163, none, .iload 6, 2, 0, 0, 0), (165, none, .aload_n 0, 1, 0, 0, 0), (166, none, .iload 7, 2, 0, 0, 0)] := fq_of2 cd_651 ow_651 cl_651 rfl (pc := 132) (by decide +kernel)
    j_ild (pc := 132) D rfl rfl rfl fun D =>
    j_ild (pc := 134) D rfl rfl rfl fun D =>
    j_ige (pc := 136) D rfl (fun q D =>
      j_aldn (pc := 139) D rfl rfl rfl fun D =>
      j_ildn (pc := 140) D rfl rfl rfl fun D =>
      j_ild (pc := 141) D rfl rfl rfl fun D =>
      j_iv (pc := 143) (m := 601) (dd := 336) (a := [(0, x3), (0, x6)]) (rest := []) D rfl rfl rfl rfl rfl (by decide) (s0_602 H) (by decide +kernel) (fun v2 h1 e1 D =>
        have T := fj_run_ok _ _ _ _ _ _ H.1 e1
        have H := shp_st H T
        j_ist (pc := 146) (L' := [(7, (0, v2)), (0, (4, 602)), (1, (0, x1)), (2, (0, x2)), (3, (0, x3)), (4, (0, x4)), (5, (0, x5)), (6, (0, x6))]) D rfl nl_651 rfl rfl fun D =>
        j_aldn (pc := 148) D rfl rfl rfl fun D =>
        j_ic (pc := 149) D rfl fun D =>
        j_ic (pc := 150) D rfl fun D =>
        j_ic (pc := 151) D rfl fun D =>
        j_aldn (pc := 152) D rfl rfl rfl fun D =>
        j_gf (pc := 153) (a := 602) D rfl rfl (by decide) rfl (s0_602 H) rfl fun D =>
        j_ivv (pc := 156) (m := 574) (dd := 442) (a := [(0, 0), (0, 0), (0, 0), (0, h1 449 602 0)]) (rest := []) D rfl rfl rfl rfl rfl (by decide) (s0_602 H) (by decide +kernel) (fun h4 e1 D =>
          have T := fj_run_ok _ _ _ _ _ _ H.1 e1
          have H := shp_st H T
          j_aldn (pc := 159) D rfl rfl rfl fun D =>
          j_gfc (pc := 160) (a := 602) D rfl rfl (by decide) rfl (s0_602 H) rfl (sf_544_602 H) fun D =>
          j_ild (pc := 163) D rfl rfl rfl fun D =>
          j_aldn (pc := 165) D rfl rfl rfl fun D =>
          j_ild (pc := 166) D rfl rfl rfl fun D =>
          have D : fk_D 651 [(168, none, .aload_n 0, 1, 0, 0, 0), (169, none, .getfield 141, 3, 449, 129, 10), (172, none, .if_icmp .le 8, 3, 180, 0, 0), (175, none, .iload 7, 2, 0, 0, 0), (177, none, .goto 7, 3, 184, 0, 0)] := fq_of2 cd_651 ow_651 cl_651 rfl (pc := 168) (by decide +kernel)
          j_aldn (pc := 168) D rfl rfl rfl fun D =>
          j_gf (pc := 169) (a := 602) D rfl rfl (by decide) rfl (s0_602 H) rfl fun D =>
          j_ile (pc := 172) D rfl (fun q D =>
            j_ild (pc := 175) D rfl rfl rfl fun D =>
            j_goto (pc := 177) D rfl <|
            fk_jump cut_651_184 rfl rfl) (fun q =>
            have D : fk_D 651 [(180, none, .aload_n 0, 1, 0, 0, 0), (181, none, .getfield 141, 3, 449, 129, 10)] := fq_of2 cd_651 ow_651 cl_651 rfl (pc := 180) (by decide +kernel)
            j_aldn (pc := 180) D rfl rfl rfl fun D =>
            j_gf (pc := 181) (a := 602) D rfl rfl (by decide) rfl (s0_602 H) rfl fun D =>
            fk_jump cut_651_184 rfl rfl)) (fun q6 h4 e1 =>
          j_tc_ (n := 130) (fk_at (cu := none) (by decide +kernel) rfl) (s := 113) (e := 209) (hp := 212) (ct := 9) (by decide +kernel) rfl (by decide +kernel) <|
          fk_jump cut_651_212 rfl rfl)) (fun q3 h1 e1 =>
        j_tc_ (n := 130) (fk_at (cu := none) (by decide +kernel) rfl) (s := 113) (e := 209) (hp := 212) (ct := 9) (by decide +kernel) rfl (by decide +kernel) <|
        fk_jump cut_651_212 rfl rfl)) (fun q =>
      have D : fk_D 651 [(209, none, .goto 13, 3, 222, 0, 0)] := fq_of2 cd_651 ow_651 cl_651 rfl (pc := 209) (by decide +kernel)
      j_goto (pc := 209) D rfl <|
      have D : fk_D 651 [(222, none, .aload_n 0, 1, 0, 0, 0), (223, none, .getfield 1095, 3, 528, 129, 10), (226, none, .istore 6, 2, 0, 0, 0), (228, none, .aload_n 0, 1, 0, 0, 0), (229, none, .getfield 293, 3, 520, 129, 12), (232, none, .iload 6, 2, 0, 0, 0), (234, none, .iload_n 1, 1, 0, 0, 0), (235, none, .iastore, 1, 0, 0, 0), (236, none, .aload_n 0, 1, 0, 0, 0), (237, none, .getfield 296, 3, 521, 129, 12), (240, none, .iload 6, 2, 0, 0, 0), (242, none, .iload_n 2, 1, 0, 0, 0), (243, none, .iastore, 1, 0, 0, 0), (244, none, .aload_n 0, 1, 0, 0, 0), (245, none, .getfield 299, 3, 522, 129, 12), (248, none, .iload 6, 2, 0, 0, 0), (250, none, .iload_n 3, 1, 0, 0, 0), (251, none, .iastore, 1, 0, 0, 0), (252, none, .aload_n 0, 1, 0, 0, 0), (253, none, .getfield 302, 3, 523, 129, 12)] := fq_of2 cd_651 ow_651 cl_651 rfl (pc := 222) (by decide +kernel)
      j_aldn (pc := 222) D rfl rfl rfl fun D =>
      j_gf (pc := 223) (a := 602) D rfl rfl (by decide) rfl (s0_602 H) rfl fun D =>
      j_ist (pc := 226) (L' := [(6, (0, h 528 602 0)), (0, (4, 602)), (1, (0, x1)), (2, (0, x2)), (3, (0, x3)), (4, (0, x4)), (5, (0, x5))]) D rfl nl_651 rfl rfl fun D =>
      j_aldn (pc := 228) D rfl rfl rfl fun D =>
      j_gfc (pc := 229) (a := 602) D rfl rfl (by decide) rfl (s0_602 H) rfl (sf_520_602 H) fun D =>
      j_ild (pc := 232) D rfl rfl rfl fun D =>
      j_ildn (pc := 234) D rfl rfl rfl fun D =>
      j_as (pc := 235) (a := 681) (e := 10) D rfl ⟨rfl, rfl⟩ rfl (by decide) (s0_681 H) (s1_681 H) ⟨rfl, rfl, rfl⟩ rfl gn (gy rfl) fun h7 eh7 S qb8 D =>
      have T := fj_hs_ok H.1 S
      have H := shp_st H T
      j_aldn (pc := 236) D rfl rfl rfl fun D =>
      j_gfc (pc := 237) (a := 602) D rfl rfl (by decide) rfl (s0_602 H) rfl (sf_521_602 H) fun D =>
      j_ild (pc := 240) D rfl rfl rfl fun D =>
      j_ildn (pc := 242) D rfl rfl rfl fun D =>
      j_as (pc := 243) (a := 682) (e := 10) D rfl ⟨rfl, rfl⟩ rfl (by decide) (s0_682 H) (s1_682 H) ⟨rfl, rfl, rfl⟩ rfl (gy qb8) (gy rfl) fun h9 eh9 S q D =>
      have T := fj_hs_ok H.1 S
      have H := shp_st H T
      j_aldn (pc := 244) D rfl rfl rfl fun D =>
      j_gfc (pc := 245) (a := 602) D rfl rfl (by decide) rfl (s0_602 H) rfl (sf_522_602 H) fun D =>
      j_ild (pc := 248) D rfl rfl rfl fun D =>
      j_ildn (pc := 250) D rfl rfl rfl fun D =>
      j_as (pc := 251) (a := 683) (e := 10) D rfl ⟨rfl, rfl⟩ rfl (by decide) (s0_683 H) (s1_683 H) ⟨rfl, rfl, rfl⟩ rfl (gy qb8) (gy rfl) fun h10 eh10 S q D =>
      have T := fj_hs_ok H.1 S
      have H := shp_st H T
      j_aldn (pc := 252) D rfl rfl rfl fun D =>
      j_gfc (pc := 253) (a := 602) D rfl rfl (by decide) rfl (s0_602 H) rfl (sf_523_602 H) fun D =>
      have D : fk_D 651 [(256, none, .iload 6, 2, 0, 0, 0), (258, none, .iload 4, 2, 0, 0, 0), (260, none, .iastore, 1, 0, 0, 0), (261, none, .aload_n 0, 1, 0, 0, 0), (262, none, .getfield 305, 3, 524, 129, 12), (265, none, .iload 6, 2, 0, 0, 0), (267, none, .iconst 0, 1, 0, 0, 0), (268, none, .iastore, 1, 0, 0, 0)] := fq_of2 cd_651 ow_651 cl_651 rfl (pc := 256) (by decide +kernel)
      j_ild (pc := 256) D rfl rfl rfl fun D =>
      j_ild (pc := 258) D rfl rfl rfl fun D =>
      j_as (pc := 260) (a := 684) (e := 10) D rfl ⟨rfl, rfl⟩ rfl (by decide) (s0_684 H) (s1_684 H) ⟨rfl, rfl, rfl⟩ rfl (gy qb8) (gy rfl) fun h11 eh11 S q D =>
      have T := fj_hs_ok H.1 S
      have H := shp_st H T
      j_aldn (pc := 261) D rfl rfl rfl fun D =>
      j_gfc (pc := 262) (a := 602) D rfl rfl (by decide) rfl (s0_602 H) rfl (sf_524_602 H) fun D =>
      j_ild (pc := 265) D rfl rfl rfl fun D =>
      j_ic (pc := 267) D rfl fun D =>
      j_as (pc := 268) (a := 685) (e := 10) D rfl ⟨rfl, rfl⟩ rfl (by decide) (s0_685 H) (s1_685 H) ⟨rfl, rfl, rfl⟩ rfl (gy qb8) (gy rfl) fun h12 eh12 S q D =>
      have T := fj_hs_ok H.1 S
      have H := shp_st H T
      fk_jump cut_651_269 rfl rfl)
theorem e_651_184 (d : Nat) (x1 x2 x3 x4 x5 x6 x7 s0 s1 s2 s3 : Int) {h : fi_H} (H : Shp h) : c_651_184 d x1 x2 x3 x4 x5 x6 x7 s0 s1 s2 s3 h =
  dv_ (fi_vt 455 (h 0 s2.toNat 0)) fun m4 => ca_ (fj_run d m4 h [(4, s2), (0, s3)]) 0
    (fun v2 h1 =>
    if 302 < s0 ∧ h1 0 s0.toNat 0 = 10 then
    if 0 ≤ s1 ∧ s1 < h1 1 s0.toNat 0 then
    lt_ (fi_upd h1 10 s0.toNat s1.toNat v2) fun h5 =>
    ca_ (fj_run d 654 h5 [(4, 602), (0, x2), (0, x1), (0, x7)]) 1
      (fun v7 h6 =>
      if 0 ≤ x6 ∧ x6 < 24 then
      lt_ (fi_upd h6 11 700 x6.toNat v7) fun h9 =>
      c_651_132 d x1 x2 x3 x4 x5 (wI (x6 + 1)) h9
      else none)
      (fun q8 h6 => tc_ 130 q8 h6 (c_651_212 d (q8 : Int) h6))
    else none
    else none)
    (fun q3 h1 => tc_ 130 q3 h1 (c_651_212 d (q3 : Int) h1)) := by
  unfold c_651_184
  exact
    have D : fk_D 651 [(184, some [0, 1, 2, 3, 4, 5, 6, 7], .invokevirtual 1168, 3, 1, 455, 1), (187, none, .iastore, 1, 0, 0, 0), (188, none, .aload_n 0, 1, 0, 0, 0), (189, none, .getfield 356, 3, 543, 129, 12), (192, none, .iload 6, 2, 0, 0, 0), (194, none, .aload_n 0, 1, 0, 0, 0), (195, none, .iload_n 2, 1, 0, 0, 0), (196, none, .iload_n 1, 1, 0, 0, 0), (197, none, .iload 7, 2, 0, 0, 0), (199, none, .invokevirtual 1171, 3, 3, 456, 2), (202, none, .lastore, 1, 0, 0, 0), (203, none, .iinc 6 1, 3, 0, 1, 0), (206, none, .goto (-74), 3, 132, 0, 0)] := fq_of2 cd_651 ow_651 cl_651 rfl (pc := 184) (by decide +kernel)
    j_ivu (pc := 184) (dd := 455) (a := [(0, s3)]) (rest := [(0, s1), (4, s0)]) H.2.1 D rfl rfl rfl rfl rfl (fun m4 v2 h1 e1 D =>
      have T := fj_run_ok _ _ _ _ _ _ H.1 e1
      have H := shp_st H T
      j_asu (pc := 187) (e := 10) D rfl rfl ⟨rfl, rfl, rfl⟩ rfl gn gn (gy rfl) fun h5 eh5 S q q2 D =>
      have T := fj_hs_ok H.1 S
      have H := shp_st H T
      j_aldn (pc := 188) D rfl rfl rfl fun D =>
      j_gfc (pc := 189) (a := 602) D rfl rfl (by decide) rfl (s0_602 H) rfl (sf_543_602 H) fun D =>
      j_ild (pc := 192) D rfl rfl rfl fun D =>
      j_aldn (pc := 194) D rfl rfl rfl fun D =>
      j_ildn (pc := 195) D rfl rfl rfl fun D =>
      j_ildn (pc := 196) D rfl rfl rfl fun D =>
      j_ild (pc := 197) D rfl rfl rfl fun D =>
      j_iv (pc := 199) (m := 654) (dd := 456) (a := [(0, x2), (0, x1), (0, x7)]) (rest := [(0, x6), (4, 700)]) D rfl rfl rfl rfl rfl (by decide) (s0_602 H) (by decide +kernel) (fun v7 h6 e1 D =>
        have T := fj_run_ok _ _ _ _ _ _ H.1 e1
        have H := shp_st H T
        j_as (pc := 202) (a := 700) (e := 11) D rfl ⟨rfl, rfl⟩ rfl (by decide) (s0_700 H) (s1_700 H) ⟨rfl, rfl, rfl⟩ rfl gn (gy rfl) fun h9 eh9 S qb10 D =>
        have T := fj_hs_ok H.1 S
        have H := shp_st H T
        j_inc (pc := 203) (L' := [(6, (0, wI (x6 + 1))), (0, (4, 602)), (1, (0, x1)), (2, (0, x2)), (3, (0, x3)), (4, (0, x4)), (5, (0, x5)), (7, (0, x7))]) D rfl rfl rfl (by decide +kernel) rfl fun D =>
        j_goto (pc := 206) D rfl <|
        fk_jump cut_651_132 rfl rfl) (fun q8 h6 e1 =>
        j_tc_ (n := 130) (fk_at (cu := none) (by decide +kernel) rfl) (s := 113) (e := 209) (hp := 212) (ct := 9) (by decide +kernel) rfl (by decide +kernel) <|
        fk_jump cut_651_212 rfl rfl)) (fun m4 q3 h1 e1 =>
      j_tc_ (n := 130) (fk_at (cu := some [0, 1, 2, 3, 4, 5, 6, 7]) (by decide +kernel) rfl) (s := 113) (e := 209) (hp := 212) (ct := 9) (by decide +kernel) rfl (by decide +kernel) <|
      fk_jump cut_651_212 rfl rfl)
theorem e_651_212 (d : Nat) (s0 : Int) {h : fi_H} (H : Shp h) : c_651_212 d s0 h =
  some (.inl (some (0, wI ((-10) - (h 475 602 0)))), h) := by
  unfold c_651_212
  exact
    have D : fk_D 651 [(212, some [0], .astore 6, 2, 0, 0, 0), (214, none, .bipush (-10), 2, 0, (-10), 0), (216, none, .aload_n 0, 1, 0, 0, 0), (217, none, .getfield 839, 3, 475, 129, 10), (220, none, .isub, 1, 0, 0, 0), (221, none, .ireturn, 1, 0, 0, 0)] := fq_of2 cd_651 ow_651 cl_651 rfl (pc := 212) (by decide +kernel)
    j_ast (pc := 212) (L' := [(6, (4, s0)), (0, (4, 602))]) D rfl nl_651 rfl rfl fun D =>
    j_bp (pc := 214) D rfl fun D =>
    j_aldn (pc := 216) D rfl rfl rfl fun D =>
    j_gf (pc := 217) (a := 602) D rfl rfl (by decide) rfl (s0_602 H) rfl fun D =>
    j_isub (pc := 220) D rfl fun D =>
    j_iret D rt_651
theorem e_651_269 (d : Nat) (x1 x4 x5 x6 : Int) {h : fi_H} (H : Shp h) : c_651_269 d x1 x4 x5 x6 h =
  if 0 ≤ x6 ∧ x6 < 30 then
  lt_ (fi_upd h 10 686 x6.toNat x5) fun h1 =>
  lt_ (fi_upd h1 10 687 x6.toNat (h1 449 602 0)) fun h3 =>
  c_651_292 d x1 x4 x6 0 h3
  else none := by
  unfold c_651_269
  exact
    have D : fk_D 651 [(269, some [0, 1, 4, 5, 6], .aload_n 0, 1, 0, 0, 0), (270, none, .getfield 308, 3, 525, 129, 12), (273, none, .iload 6, 2, 0, 0, 0), (275, none, .iload 5, 2, 0, 0, 0), (277, none, .iastore, 1, 0, 0, 0), (278, none, .aload_n 0, 1, 0, 0, 0), (279, none, .getfield 311, 3, 526, 129, 12), (282, none, .iload 6, 2, 0, 0, 0), (284, none, .aload_n 0, 1, 0, 0, 0), (285, none, .getfield 141, 3, 449, 129, 10), (288, none, .iastore, 1, 0, 0, 0), (289, none, .iconst 0, 1, 0, 0, 0), (290, none, .istore 7, 2, 0, 0, 0)] := fq_of2 cd_651 ow_651 cl_651 rfl (pc := 269) (by decide +kernel)
    j_aldn (pc := 269) D rfl rfl rfl fun D =>
    j_gfc (pc := 270) (a := 602) D rfl rfl (by decide) rfl (s0_602 H) rfl (sf_525_602 H) fun D =>
    j_ild (pc := 273) D rfl rfl rfl fun D =>
    j_ild (pc := 275) D rfl rfl rfl fun D =>
    j_as (pc := 277) (a := 686) (e := 10) D rfl ⟨rfl, rfl⟩ rfl (by decide) (s0_686 H) (s1_686 H) ⟨rfl, rfl, rfl⟩ rfl gn (gy rfl) fun h1 eh1 S qb2 D =>
    have T := fj_hs_ok H.1 S
    have H := shp_st H T
    j_aldn (pc := 278) D rfl rfl rfl fun D =>
    j_gfc (pc := 279) (a := 602) D rfl rfl (by decide) rfl (s0_602 H) rfl (sf_526_602 H) fun D =>
    j_ild (pc := 282) D rfl rfl rfl fun D =>
    j_aldn (pc := 284) D rfl rfl rfl fun D =>
    j_gf (pc := 285) (a := 602) D rfl rfl (by decide) rfl (s0_602 H) rfl fun D =>
    j_as (pc := 288) (a := 687) (e := 10) D rfl ⟨rfl, rfl⟩ rfl (by decide) (s0_687 H) (s1_687 H) ⟨rfl, rfl, rfl⟩ rfl (gy qb2) (gy rfl) fun h3 eh3 S q D =>
    have T := fj_hs_ok H.1 S
    have H := shp_st H T
    j_ic (pc := 289) D rfl fun D =>
    j_ist (pc := 290) (L' := [(7, (0, 0)), (0, (4, 602)), (1, (0, x1)), (4, (0, x4)), (5, (0, x5)), (6, (0, x6))]) D rfl nl_651 rfl rfl fun D =>
    fk_jump cut_651_292 rfl rfl
theorem e_651_292 (d : Nat) (x1 x4 x6 x7 : Int) {h : fi_H} (H : Shp h) : c_651_292 d x1 x4 x6 x7 h =
  if x7 < x4 then
    if 0 ≤ x7 ∧ x7 < 24 then
    if 0 ≤ wI ((wI (24 * x6)) + x7) ∧ wI ((wI (24 * x6)) + x7) < 720 then
    lt_ (fi_upd h 11 688 (wI ((wI (24 * x6)) + x7)).toNat (h 11 700 x7.toNat)) fun h2 =>
    cv_ (fj_run d 655 h2 [(4, 602), (0, x6), (0, x7), (1, h2 11 700 x7.toNat), (0, h2 10 701 x7.toNat), (0, 0)])
      (fun h4 =>
      c_651_292 d x1 x4 x6 (wI (x7 + 1)) h4)
      (fun q6 h4 => tx_ q6 h4)
    else none
    else none
  else
    lt_ (fi_upd h 528 602 0 (wI ((h 528 602 0) + 1))) fun h7 =>
    c_651_358 d x1 x6 h7 := by
  unfold c_651_292
  exact
    have D : fk_D 651 [(292, some [0, 1, 4, 6, 7], .iload 7, 2, 0, 0, 0), (294, none, .iload 4, 2, 0, 0, 0), (296, none, .if_icmp .ge 52, 3, 348, 0, 0), (299, none, .aload_n 0, 1, 0, 0, 0), (300, none, .getfield 314, 3, 527, 129, 12), (303, none, .bipush 24, 2, 0, 24, 0), (305, none, .iload 6, 2, 0, 0, 0), (307, none, .imul, 1, 0, 0, 0), (308, none, .iload 7, 2, 0, 0, 0), (310, none, .iadd, 1, 0, 0, 0), (311, none, .aload_n 0, 1, 0, 0, 0), (312, none, .getfield 356, 3, 543, 129, 12), (315, none, .iload 7, 2, 0, 0, 0), (317, none, .laload, 1, 0, 0, 0), (318, none, .lastore, 1, 0, 0, 0), (319, none, .aload_n 0, 1, 0, 0, 0), (320, none, .iload 6, 2, 0, 0, 0), (322, none, .iload 7, 2, 0, 0, 0), (324, none, .aload_n 0, 1, 0, 0, 0), (325, none, .getfield 356, 3, 543, 129, 12)] := fq_of2 cd_651 ow_651 cl_651 rfl (pc := 292) (by decide +kernel)
    j_ild (pc := 292) D rfl rfl rfl fun D =>
    j_ild (pc := 294) D rfl rfl rfl fun D =>
    j_ige (pc := 296) D rfl (fun q D =>
      j_aldn (pc := 299) D rfl rfl rfl fun D =>
      j_gfc (pc := 300) (a := 602) D rfl rfl (by decide) rfl (s0_602 H) rfl (sf_527_602 H) fun D =>
      j_bp (pc := 303) D rfl fun D =>
      j_ild (pc := 305) D rfl rfl rfl fun D =>
      j_imul (pc := 307) D rfl fun D =>
      j_ild (pc := 308) D rfl rfl rfl fun D =>
      j_iadd (pc := 310) D rfl fun D =>
      j_aldn (pc := 311) D rfl rfl rfl fun D =>
      j_gfc (pc := 312) (a := 602) D rfl rfl (by decide) rfl (s0_602 H) rfl (sf_543_602 H) fun D =>
      j_ild (pc := 315) D rfl rfl rfl fun D =>
      j_al (pc := 317) (a := 700) (e := 11) D rfl rfl rfl (by decide) (s0_700 H) (s1_700 H) ⟨rfl, rfl, rfl⟩ rfl gn fun qb1 D =>
      j_as (pc := 318) (a := 688) (e := 11) D rfl ⟨rfl, rfl⟩ rfl (by decide) (s0_688 H) (s1_688 H) ⟨rfl, rfl, rfl⟩ rfl gn (gy rfl) fun h2 eh2 S qb3 D =>
      have T := fj_hs_ok H.1 S
      have H := shp_st H T
      j_aldn (pc := 319) D rfl rfl rfl fun D =>
      j_ild (pc := 320) D rfl rfl rfl fun D =>
      j_ild (pc := 322) D rfl rfl rfl fun D =>
      j_aldn (pc := 324) D rfl rfl rfl fun D =>
      j_gfc (pc := 325) (a := 602) D rfl rfl (by decide) rfl (s0_602 H) rfl (sf_543_602 H) fun D =>
      have D : fk_D 651 [(328, none, .iload 7, 2, 0, 0, 0), (330, none, .laload, 1, 0, 0, 0), (331, none, .aload_n 0, 1, 0, 0, 0), (332, none, .getfield 359, 3, 544, 129, 12), (335, none, .iload 7, 2, 0, 0, 0), (337, none, .iaload, 1, 0, 0, 0), (338, none, .iconst 0, 1, 0, 0, 0), (339, none, .invokevirtual 1175, 3, 5, 457, 0), (342, none, .iinc 7 1, 3, 0, 1, 0), (345, none, .goto (-53), 3, 292, 0, 0)] := fq_of2 cd_651 ow_651 cl_651 rfl (pc := 328) (by decide +kernel)
      j_ild (pc := 328) D rfl rfl rfl fun D =>
      j_al (pc := 330) (a := 700) (e := 11) D rfl rfl rfl (by decide) (s0_700 H) (s1_700 H) ⟨rfl, rfl, rfl⟩ rfl (gy qb1) fun q D =>
      j_aldn (pc := 331) D rfl rfl rfl fun D =>
      j_gfc (pc := 332) (a := 602) D rfl rfl (by decide) rfl (s0_602 H) rfl (sf_544_602 H) fun D =>
      j_ild (pc := 335) D rfl rfl rfl fun D =>
      j_al (pc := 337) (a := 701) (e := 10) D rfl rfl rfl (by decide) (s0_701 H) (s1_701 H) ⟨rfl, rfl, rfl⟩ rfl (gy qb1) fun q D =>
      j_ic (pc := 338) D rfl fun D =>
      j_ivv (pc := 339) (m := 655) (dd := 457) (a := [(0, x6), (0, x7), (1, h2 11 700 x7.toNat), (0, h2 10 701 x7.toNat), (0, 0)]) (rest := []) D rfl rfl rfl rfl rfl (by decide) (s0_602 H) (by decide +kernel) (fun h4 e1 D =>
        have T := fj_run_ok _ _ _ _ _ _ H.1 e1
        have H := shp_st H T
        j_inc (pc := 342) (L' := [(7, (0, wI (x7 + 1))), (0, (4, 602)), (1, (0, x1)), (4, (0, x4)), (6, (0, x6))]) D rfl rfl rfl (by decide +kernel) rfl fun D =>
        j_goto (pc := 345) D rfl <|
        fk_jump cut_651_292 rfl rfl) (fun q6 h4 e1 =>
        j_tx (by decide +kernel))) (fun q =>
      have D : fk_D 651 [(348, none, .aload_n 0, 1, 0, 0, 0), (349, none, .dup, 1, 0, 0, 0), (350, none, .getfield 1095, 3, 528, 129, 10), (353, none, .iconst 1, 1, 0, 1, 0), (354, none, .iadd, 1, 0, 0, 0), (355, none, .putfield 1095, 3, 528, 129, 10)] := fq_of2 cd_651 ow_651 cl_651 rfl (pc := 348) (by decide +kernel)
      j_aldn (pc := 348) D rfl rfl rfl fun D =>
      j_sh (pc := 349) D rfl rfl rfl fun D =>
      j_gf (pc := 350) (a := 602) D rfl rfl (by decide) rfl (s0_602 H) rfl fun D =>
      j_ic (pc := 353) D rfl fun D =>
      j_iadd (pc := 354) D rfl fun D =>
      j_pf (pc := 355) (a := 602) D rfl rfl rfl (s0_602 H) rfl rfl (gy (by decide)) (gy rfl) fun h7 eh7 S D =>
      have T := fj_hs_ok H.1 S
      have H := shp_st H T
      fk_jump cut_651_358 rfl rfl)
theorem e_651_358 (d : Nat) (x1 x6 : Int) {h : fi_H} (H : Shp h) : c_651_358 d x1 x6 h =
  cv_ (fj_run d 656 h [(4, 602), (0, x1)])
    (fun h1 =>
    some (.inl (some (0, x6)), h1))
    (fun q3 h1 => tx_ q3 h1) := by
  unfold c_651_358
  exact
    have D : fk_D 651 [(358, some [0, 1, 6], .aload_n 0, 1, 0, 0, 0), (359, none, .iload_n 1, 1, 0, 0, 0), (360, none, .invokevirtual 1179, 3, 1, 458, 0), (363, none, .iload 6, 2, 0, 0, 0), (365, none, .ireturn, 1, 0, 0, 0)] := fq_of2 cd_651 ow_651 cl_651 rfl (pc := 358) (by decide +kernel)
    j_aldn (pc := 358) D rfl rfl rfl fun D =>
    j_ildn (pc := 359) D rfl rfl rfl fun D =>
    j_ivv (pc := 360) (m := 656) (dd := 458) (a := [(0, x1)]) (rest := []) D rfl rfl rfl rfl rfl (by decide) (s0_602 H) (by decide +kernel) (fun h1 e1 D =>
      have T := fj_run_ok _ _ _ _ _ _ H.1 e1
      have H := shp_st H T
      j_ild (pc := 363) D rfl rfl rfl fun D =>
      j_iret D rt_651) (fun q3 h1 e1 =>
      j_tx (by decide +kernel))
theorem m_651 (d : Nat) (x1 x2 x3 x4 : Int) {h : fi_H} (H : Shp h) : fj_run (d + 1) 651 h [(4, 602), (0, x1), (0, x2), (0, x3), (0, x4)] =
  ca_ (fj_run d 572 h [(4, 602), (0, x1)]) 0
    (fun v2 h1 =>
    if v2 = 0 then
      some (.inl (some (0, (-1))), h1)
    else
      ca_ (fj_run d 641 h1 [(4, 602), (0, x2)]) 0
        (fun v5 h4 =>
        if v5 = 0 then
          some (.inl (some (0, (-1))), h4)
        else
          if 0 ≤ x2 ∧ x2 < 41 then
          if h4 10 611 x2.toNat = 2 then
            ca_ (fj_run d 520 h4 [(1, wI x3)]) 0
              (fun v9 h8 =>
              if v9 = 0 then
                some (.inl (some (0, (-2))), h8)
              else
                ca_ (fj_run d 508 h8 [(1, wI x4), (1, 1), (1, 24)]) 0
                  (fun v12 h11 =>
                  if v12 = 0 then
                    some (.inl (some (0, (-2))), h11)
                  else
                    cv_ (fj_run d 593 h11 [(4, 602), (0, x3)])
                      (fun h14 =>
                      if h14 386 602 0 = 1 then
                        ca_ (fj_run d 601 h14 [(4, 602), (0, x3), (0, wI (x4 - 1))]) 0
                          (fun v18 h17 =>
                          ca_ (fj_run d 520 h17 [(1, wI v18)]) 0
                            (fun v21 h20 =>
                            if v21 = 0 then
                              some (.inl (some (0, (-2))), h20)
                            else
                              if h20 528 602 0 = 30 then
                                some (.inl (some (0, (-4))), h20)
                              else
                                if 400 < wI ((h20 542 602 0) + x4) then
                                  some (.inl (some (0, (-4))), h20)
                                else
                                  cv_ (fj_run d 652 h20 [(4, 602)])
                                    (fun h23 =>
                                    ca_ (fj_run d 618 h23 [(4, 602), (0, h23 449 602 0), (0, 1), (0, 0)]) 0
                                      (fun v27 h26 =>
                                      ca_ (fj_run d 653 h26 [(4, 602), (0, v27)]) 0
                                        (fun v30 h29 =>
                                        c_651_132 d x1 x2 x3 x4 v30 0 h29)
                                        (fun q31 h29 => tc_ 130 q31 h29 (c_651_212 d (q31 : Int) h29)))
                                      (fun q28 h26 => tc_ 130 q28 h26 (c_651_212 d (q28 : Int) h26)))
                                    (fun q25 h23 => tx_ q25 h23))
                            (fun q22 h20 => tx_ q22 h20))
                          (fun q19 h17 => tx_ q19 h17)
                      else
                        some (.inl (some (0, (-2))), h14))
                      (fun q16 h14 => tx_ q16 h14))
                  (fun q13 h11 => tx_ q13 h11))
              (fun q10 h8 => tx_ q10 h8)
          else
            some (.inl (some (0, (-1))), h4)
          else none)
        (fun q6 h4 => tx_ q6 h4))
    (fun q3 h1 => tx_ q3 h1) := by
  rw [fj_run_eq d (by decide) h [(4, 602), (0, x1), (0, x2), (0, x3), (0, x4)] (Nat.le_of_ble_eq_true (by rw [nl_651]; rfl))]
  show gG (fj_run d) 651 0 [(0, (4, 602)), (1, (0, x1)), (2, (0, x2)), (3, (0, x3)), (4, (0, x4))] [] h = _
  exact
    have D : fk_D 651 [(0, none, .aload_n 0, 1, 0, 0, 0), (1, none, .iload_n 1, 1, 0, 0, 0), (2, none, .invokevirtual 1076, 3, 1, 439, 1), (5, none, .ifCond .eq 21, 3, 26, 0, 0), (8, none, .aload_n 0, 1, 0, 0, 0), (9, none, .iload_n 2, 1, 0, 0, 0), (10, none, .invokevirtual 1148, 3, 1, 452, 1), (13, none, .ifCond .eq 13, 3, 26, 0, 0), (16, none, .aload_n 0, 1, 0, 0, 0), (17, none, .getfield 43, 3, 407, 129, 12), (20, none, .iload_n 2, 1, 0, 0, 0), (21, none, .iaload, 1, 0, 0, 0), (22, none, .iconst 2, 1, 0, 2, 0), (23, none, .if_icmp .eq 5, 3, 28, 0, 0), (26, none, .iconst (-1), 1, 0, (-1), 0), (27, none, .ireturn, 1, 0, 0, 0)] := fq_of2 cd_651 ow_651 cl_651 rfl (pc := 0) (by decide +kernel)
    j_aldn (pc := 0) D rfl rfl rfl fun D =>
    j_ildn (pc := 1) D rfl rfl rfl fun D =>
    j_iv (pc := 2) (m := 572) (dd := 439) (a := [(0, x1)]) (rest := []) D rfl rfl rfl rfl rfl (by decide) (s0_602 H) (by decide +kernel) (fun v2 h1 e1 D =>
      have T := fj_run_ok _ _ _ _ _ _ H.1 e1
      have H := shp_st H T
      j_ifeq (pc := 5) D rfl (fun q =>
        have D : fk_D 651 [(26, none, .iconst (-1), 1, 0, (-1), 0), (27, none, .ireturn, 1, 0, 0, 0)] := fq_of2 cd_651 ow_651 cl_651 rfl (pc := 26) (by decide +kernel)
        j_ic (pc := 26) D rfl fun D =>
        j_iret D rt_651) (fun q D =>
        j_aldn (pc := 8) D rfl rfl rfl fun D =>
        j_ildn (pc := 9) D rfl rfl rfl fun D =>
        j_iv (pc := 10) (m := 641) (dd := 452) (a := [(0, x2)]) (rest := []) D rfl rfl rfl rfl rfl (by decide) (s0_602 H) (by decide +kernel) (fun v5 h4 e1 D =>
          have T := fj_run_ok _ _ _ _ _ _ H.1 e1
          have H := shp_st H T
          j_ifeq (pc := 13) D rfl (fun q =>
            have D : fk_D 651 [(26, none, .iconst (-1), 1, 0, (-1), 0), (27, none, .ireturn, 1, 0, 0, 0)] := fq_of2 cd_651 ow_651 cl_651 rfl (pc := 26) (by decide +kernel)
            j_ic (pc := 26) D rfl fun D =>
            j_iret D rt_651) (fun q D =>
            j_aldn (pc := 16) D rfl rfl rfl fun D =>
            j_gfc (pc := 17) (a := 602) D rfl rfl (by decide) rfl (s0_602 H) rfl (sf_407_602 H) fun D =>
            j_ildn (pc := 20) D rfl rfl rfl fun D =>
            j_al (pc := 21) (a := 611) (e := 10) D rfl rfl rfl (by decide) (s0_611 H) (s1_611 H) ⟨rfl, rfl, rfl⟩ rfl gn fun qb7 D =>
            j_ic (pc := 22) D rfl fun D =>
            j_ieq (pc := 23) D rfl (fun q =>
              have D : fk_D 651 [(28, none, .iload_n 3, 1, 0, 0, 0), (29, none, .i2l, 1, 0, 0, 0), (30, none, .invokestatic 456, 3, 1, 520, 1), (33, none, .ifCond .eq 16, 3, 49, 0, 0), (36, none, .iload 4, 2, 0, 0, 0), (38, none, .i2l, 1, 0, 0, 0), (39, none, .lconst 1, 1, 0, 0, 0), (40, none, .ldc2_w 1163, 3, 1, 24, 0), (43, none, .invokestatic 434, 3, 3, 508, 1), (46, none, .ifCond .ne 6, 3, 52, 0, 0), (49, none, .bipush (-2), 2, 0, (-2), 0), (51, none, .ireturn, 1, 0, 0, 0)] := fq_of2 cd_651 ow_651 cl_651 rfl (pc := 28) (by decide +kernel)
              j_ildn (pc := 28) D rfl rfl rfl fun D =>
              j_i2l (pc := 29) D rfl fun D =>
              j_is (pc := 30) (m := 520) (a := [(1, wI x3)]) (rest := []) D rfl rfl rfl rfl (fun v9 h8 e1 D =>
                have T := fj_run_ok _ _ _ _ _ _ H.1 e1
                have H := shp_st H T
                j_ifeq (pc := 33) D rfl (fun q =>
                  have D : fk_D 651 [(49, none, .bipush (-2), 2, 0, (-2), 0), (51, none, .ireturn, 1, 0, 0, 0)] := fq_of2 cd_651 ow_651 cl_651 rfl (pc := 49) (by decide +kernel)
                  j_bp (pc := 49) D rfl fun D =>
                  j_iret D rt_651) (fun q D =>
                  j_ild (pc := 36) D rfl rfl rfl fun D =>
                  j_i2l (pc := 38) D rfl fun D =>
                  j_c0 (pc := 39) (v := (1, 1)) D rfl rfl (by decide +kernel) fun D =>
                  j_ldc2 (pc := 40) D rfl fun D =>
                  j_is (pc := 43) (m := 508) (a := [(1, wI x4), (1, 1), (1, 24)]) (rest := []) D rfl rfl rfl rfl (fun v12 h11 e1 D =>
                    have T := fj_run_ok _ _ _ _ _ _ H.1 e1
                    have H := shp_st H T
                    j_ifne (pc := 46) D rfl (fun q D =>
                      j_bp (pc := 49) D rfl fun D =>
                      j_iret D rt_651) (fun q =>
                      have D : fk_D 651 [(52, none, .aload_n 0, 1, 0, 0, 0), (53, none, .iload_n 3, 1, 0, 0, 0), (54, none, .invokevirtual 438, 3, 1, 335, 0), (57, none, .aload_n 0, 1, 0, 0, 0), (58, none, .getfield 429, 3, 386, 129, 10), (61, none, .iconst 1, 1, 0, 1, 0), (62, none, .if_icmp .ne 19, 3, 81, 0, 0), (65, none, .aload_n 0, 1, 0, 0, 0), (66, none, .iload_n 3, 1, 0, 0, 0), (67, none, .iload 4, 2, 0, 0, 0), (69, none, .iconst 1, 1, 0, 1, 0), (70, none, .isub, 1, 0, 0, 0), (71, none, .invokevirtual 453, 3, 2, 336, 1), (74, none, .i2l, 1, 0, 0, 0), (75, none, .invokestatic 456, 3, 1, 520, 1), (78, none, .ifCond .ne 6, 3, 84, 0, 0), (81, none, .bipush (-2), 2, 0, (-2), 0), (83, none, .ireturn, 1, 0, 0, 0)] := fq_of2 cd_651 ow_651 cl_651 rfl (pc := 52) (by decide +kernel)
                      j_aldn (pc := 52) D rfl rfl rfl fun D =>
                      j_ildn (pc := 53) D rfl rfl rfl fun D =>
                      j_ivv (pc := 54) (m := 593) (dd := 335) (a := [(0, x3)]) (rest := []) D rfl rfl rfl rfl rfl (by decide) (s0_602 H) (by decide +kernel) (fun h14 e1 D =>
                        have T := fj_run_ok _ _ _ _ _ _ H.1 e1
                        have H := shp_st H T
                        j_aldn (pc := 57) D rfl rfl rfl fun D =>
                        j_gf (pc := 58) (a := 602) D rfl rfl (by decide) rfl (s0_602 H) rfl fun D =>
                        j_ic (pc := 61) D rfl fun D =>
                        j_ine (pc := 62) D rfl (fun q D =>
                          j_aldn (pc := 65) D rfl rfl rfl fun D =>
                          j_ildn (pc := 66) D rfl rfl rfl fun D =>
                          j_ild (pc := 67) D rfl rfl rfl fun D =>
                          j_ic (pc := 69) D rfl fun D =>
                          j_isub (pc := 70) D rfl fun D =>
                          j_iv (pc := 71) (m := 601) (dd := 336) (a := [(0, x3), (0, wI (x4 - 1))]) (rest := []) D rfl rfl rfl rfl rfl (by decide) (s0_602 H) (by decide +kernel) (fun v18 h17 e1 D =>
                            have T := fj_run_ok _ _ _ _ _ _ H.1 e1
                            have H := shp_st H T
                            j_i2l (pc := 74) D rfl fun D =>
                            j_is (pc := 75) (m := 520) (a := [(1, wI v18)]) (rest := []) D rfl rfl rfl rfl (fun v21 h20 e1 D =>
                              have T := fj_run_ok _ _ _ _ _ _ H.1 e1
                              have H := shp_st H T
                              j_ifne (pc := 78) D rfl (fun q D =>
                                j_bp (pc := 81) D rfl fun D =>
                                j_iret D rt_651) (fun q =>
                                have D : fk_D 651 [(84, none, .aload_n 0, 1, 0, 0, 0), (85, none, .getfield 1095, 3, 528, 129, 10), (88, none, .bipush 30, 2, 0, 30, 0), (90, none, .if_icmp .eq 16, 3, 106, 0, 0), (93, none, .aload_n 0, 1, 0, 0, 0), (94, none, .getfield 1098, 3, 542, 129, 10), (97, none, .iload 4, 2, 0, 0, 0), (99, none, .iadd, 1, 0, 0, 0), (100, none, .sipush 400, 3, 0, 400, 0), (103, none, .if_icmp .le 6, 3, 109, 0, 0), (106, none, .bipush (-4), 2, 0, (-4), 0), (108, none, .ireturn, 1, 0, 0, 0)] := fq_of2 cd_651 ow_651 cl_651 rfl (pc := 84) (by decide +kernel)
                                j_aldn (pc := 84) D rfl rfl rfl fun D =>
                                j_gf (pc := 85) (a := 602) D rfl rfl (by decide) rfl (s0_602 H) rfl fun D =>
                                j_bp (pc := 88) D rfl fun D =>
                                j_ieq (pc := 90) D rfl (fun q =>
                                  have D : fk_D 651 [(106, none, .bipush (-4), 2, 0, (-4), 0), (108, none, .ireturn, 1, 0, 0, 0)] := fq_of2 cd_651 ow_651 cl_651 rfl (pc := 106) (by decide +kernel)
                                  j_bp (pc := 106) D rfl fun D =>
                                  j_iret D rt_651) (fun q D =>
                                  j_aldn (pc := 93) D rfl rfl rfl fun D =>
                                  j_gf (pc := 94) (a := 602) D rfl rfl (by decide) rfl (s0_602 H) rfl fun D =>
                                  j_ild (pc := 97) D rfl rfl rfl fun D =>
                                  j_iadd (pc := 99) D rfl fun D =>
                                  j_sp (pc := 100) D rfl fun D =>
                                  j_ile (pc := 103) D rfl (fun q D =>
                                    j_bp (pc := 106) D rfl fun D =>
                                    j_iret D rt_651) (fun q =>
                                    have D : fk_D 651 [(109, none, .aload_n 0, 1, 0, 0, 0), (110, none, .invokevirtual 1165, 3, 0, 454, 0), (113, none, .aload_n 0, 1, 0, 0, 0), (114, none, .aload_n 0, 1, 0, 0, 0), (115, none, .aload_n 0, 1, 0, 0, 0), (116, none, .getfield 141, 3, 449, 129, 10), (119, none, .iconst 1, 1, 0, 1, 0), (120, none, .iconst 0, 1, 0, 0, 0), (121, none, .invokevirtual 1017, 3, 3, 430, 1), (124, none, .invokevirtual 1168, 3, 1, 455, 1), (127, none, .istore 5, 2, 0, 0, 0), (129, none, .iconst 0, 1, 0, 0, 0), (130, none, .istore 6, 2, 0, 0, 0)] := fq_of2 cd_651 ow_651 cl_651 rfl (pc := 109) (by decide +kernel)
                                    j_aldn (pc := 109) D rfl rfl rfl fun D =>
                                    j_ivv (pc := 110) (m := 652) (dd := 454) (a := []) (rest := []) D rfl rfl rfl rfl rfl (by decide) (s0_602 H) (by decide +kernel) (fun h23 e1 D =>
                                      have T := fj_run_ok _ _ _ _ _ _ H.1 e1
                                      have H := shp_st H T
                                      j_aldn (pc := 113) D rfl rfl rfl fun D =>
                                      j_aldn (pc := 114) D rfl rfl rfl fun D =>
                                      j_aldn (pc := 115) D rfl rfl rfl fun D =>
                                      j_gf (pc := 116) (a := 602) D rfl rfl (by decide) rfl (s0_602 H) rfl fun D =>
                                      j_ic (pc := 119) D rfl fun D =>
                                      j_ic (pc := 120) D rfl fun D =>
                                      j_iv (pc := 121) (m := 618) (dd := 430) (a := [(0, h23 449 602 0), (0, 1), (0, 0)]) (rest := [(4, 602)]) D rfl rfl rfl rfl rfl (by decide) (s0_602 H) (by decide +kernel) (fun v27 h26 e1 D =>
                                        have T := fj_run_ok _ _ _ _ _ _ H.1 e1
                                        have H := shp_st H T
                                        j_iv (pc := 124) (m := 653) (dd := 455) (a := [(0, v27)]) (rest := []) D rfl rfl rfl rfl rfl (by decide) (s0_602 H) (by decide +kernel) (fun v30 h29 e1 D =>
                                          have T := fj_run_ok _ _ _ _ _ _ H.1 e1
                                          have H := shp_st H T
                                          j_ist (pc := 127) (L' := [(5, (0, v30)), (0, (4, 602)), (1, (0, x1)), (2, (0, x2)), (3, (0, x3)), (4, (0, x4))]) D rfl nl_651 rfl rfl fun D =>
                                          j_ic (pc := 129) D rfl fun D =>
                                          j_ist (pc := 130) (L' := [(6, (0, 0)), (5, (0, v30)), (0, (4, 602)), (1, (0, x1)), (2, (0, x2)), (3, (0, x3)), (4, (0, x4))]) D rfl nl_651 rfl rfl fun D =>
                                          fk_jump cut_651_132 rfl rfl) (fun q31 h29 e1 =>
                                          j_tc_ (n := 130) (fk_at (cu := none) (by decide +kernel) rfl) (s := 113) (e := 209) (hp := 212) (ct := 9) (by decide +kernel) rfl (by decide +kernel) <|
                                          fk_jump cut_651_212 rfl rfl)) (fun q28 h26 e1 =>
                                        j_tc_ (n := 130) (fk_at (cu := none) (by decide +kernel) rfl) (s := 113) (e := 209) (hp := 212) (ct := 9) (by decide +kernel) rfl (by decide +kernel) <|
                                        fk_jump cut_651_212 rfl rfl)) (fun q25 h23 e1 =>
                                      j_tx (by decide +kernel)))))) (fun q22 h20 e1 =>
                              j_tx (by decide +kernel))) (fun q19 h17 e1 =>
                            j_tx (by decide +kernel))) (fun q =>
                          have D : fk_D 651 [(81, none, .bipush (-2), 2, 0, (-2), 0), (83, none, .ireturn, 1, 0, 0, 0)] := fq_of2 cd_651 ow_651 cl_651 rfl (pc := 81) (by decide +kernel)
                          j_bp (pc := 81) D rfl fun D =>
                          j_iret D rt_651)) (fun q16 h14 e1 =>
                        j_tx (by decide +kernel)))) (fun q13 h11 e1 =>
                    j_tx (by decide +kernel)))) (fun q10 h8 e1 =>
                j_tx (by decide +kernel))) (fun q D =>
              j_ic (pc := 26) D rfl fun D =>
              j_iret D rt_651))) (fun q6 h4 e1 =>
          j_tx (by decide +kernel)))) (fun q3 h1 e1 =>
      j_tx (by decide +kernel))
/-! 652 StatuteHouseModel.quietly()V -/
theorem cd_652 : fi_code 652 = prog_69_method_170_code := rfl
theorem hx_652 : ∀ pc, fi_hat 652 pc = none := fun pc => by unfold fi_hat; rw [show fi_hh 652 = [] from rfl]; rfl
theorem rt_652 : fi_ret 652 = none := rfl
theorem nl_652 : fi_nl 652 = 1 := rfl
theorem ow_652 : fi_ow 652 = 29 := rfl
theorem cl_652 : fj_cutT.getD 652 [] = [] := rfl
theorem m_652 (d : Nat) {h : fi_H} (H : Shp h) : fj_run (d + 1) 652 h [(4, 602)] =
  lt_ (fi_upd h 494 602 0 0) fun h1 =>
  lt_ (fi_upd h1 474 602 0 0) fun h2 =>
  lt_ (fi_upd h2 481 602 0 0) fun h3 =>
  cv_ (fj_run d 574 h3 [(4, 602), (0, 0), (0, 0), (0, 0), (0, h3 449 602 0)])
    (fun h4 =>
    some (.inl none, h4))
    (fun q6 h4 => tx_ q6 h4) := by
  rw [fj_run_eq d (by decide) h [(4, 602)] (Nat.le_of_ble_eq_true (by rw [nl_652]; rfl))]
  show gG (fj_run d) 652 0 [(0, (4, 602))] [] h = _
  exact
    have D : fk_D 652 [(0, none, .aload_n 0, 1, 0, 0, 0), (1, none, .iconst 0, 1, 0, 0, 0), (2, none, .putfield 857, 3, 494, 129, 4), (5, none, .aload_n 0, 1, 0, 0, 0), (6, none, .iconst 0, 1, 0, 0, 0), (7, none, .putfield 208, 3, 474, 129, 4), (10, none, .aload_n 0, 1, 0, 0, 0), (11, none, .iconst 0, 1, 0, 0, 0), (12, none, .putfield 851, 3, 481, 129, 10), (15, none, .aload_n 0, 1, 0, 0, 0), (16, none, .iconst 0, 1, 0, 0, 0), (17, none, .iconst 0, 1, 0, 0, 0), (18, none, .iconst 0, 1, 0, 0, 0), (19, none, .aload_n 0, 1, 0, 0, 0), (20, none, .getfield 141, 3, 449, 129, 10), (23, none, .invokevirtual 1086, 3, 4, 442, 0), (26, none, .return_, 1, 0, 0, 0)] := fq_of2 cd_652 ow_652 cl_652 rfl (pc := 0) (by decide +kernel)
    j_aldn (pc := 0) D rfl rfl rfl fun D =>
    j_ic (pc := 1) D rfl fun D =>
    j_pf (pc := 2) (a := 602) D rfl rfl rfl (s0_602 H) rfl rfl (gy (by decide)) (gy (by decide)) fun h1 eh1 S D =>
    have T := fj_hs_ok H.1 S
    have H := shp_st H T
    j_aldn (pc := 5) D rfl rfl rfl fun D =>
    j_ic (pc := 6) D rfl fun D =>
    j_pf (pc := 7) (a := 602) D rfl rfl rfl (s0_602 H) rfl rfl (gy (by decide)) (gy (by decide)) fun h2 eh2 S D =>
    have T := fj_hs_ok H.1 S
    have H := shp_st H T
    j_aldn (pc := 10) D rfl rfl rfl fun D =>
    j_ic (pc := 11) D rfl fun D =>
    j_pf (pc := 12) (a := 602) D rfl rfl rfl (s0_602 H) rfl rfl (gy (by decide)) (gy rfl) fun h3 eh3 S D =>
    have T := fj_hs_ok H.1 S
    have H := shp_st H T
    j_aldn (pc := 15) D rfl rfl rfl fun D =>
    j_ic (pc := 16) D rfl fun D =>
    j_ic (pc := 17) D rfl fun D =>
    j_ic (pc := 18) D rfl fun D =>
    j_aldn (pc := 19) D rfl rfl rfl fun D =>
    j_gf (pc := 20) (a := 602) D rfl rfl (by decide) rfl (s0_602 H) rfl fun D =>
    j_ivv (pc := 23) (m := 574) (dd := 442) (a := [(0, 0), (0, 0), (0, 0), (0, h3 449 602 0)]) (rest := []) D rfl rfl rfl rfl rfl (by decide) (s0_602 H) (by decide +kernel) (fun h4 e1 D =>
      have T := fj_run_ok _ _ _ _ _ _ H.1 e1
      have H := shp_st H T
      j_vret D rt_652) (fun q6 h4 e1 =>
      j_tx (hx_652 _))
/-! 653 StatuteHouseModel.needDue(I)I -/
theorem cd_653 : fi_code 653 = prog_69_method_169_code := rfl
theorem hx_653 : ∀ pc, fi_hat 653 pc = none := fun pc => by unfold fi_hat; rw [show fi_hh 653 = [] from rfl]; rfl
theorem rt_653 : fi_ret 653 = some .int := rfl
theorem nl_653 : fi_nl 653 = 3 := rfl
theorem ow_653 : fi_ow 653 = 29 := rfl
theorem cl_653 : fj_cutT.getD 653 [] = [(14, [0])] := rfl
theorem cut_653_14 : fj_cut 653 14 = some [0] := by decide +kernel
noncomputable def c_653_14 (d : Nat) (s0 : Int) (h : fi_H) : fk_R := gG (fj_run d) 653 14 [(0, (4, 602))] [(0, s0)] h
theorem e_653_14 (d : Nat) (s0 : Int) {h : fi_H} (H : Shp h) : c_653_14 d s0 h =
  if s0 = (-1) then
    cv_ (fj_run d 577 h [(4, 602), (0, 8)])
      (fun h1 =>
      some (.inl (some (0, s0)), h1))
      (fun q3 h1 => tx_ q3 h1)
  else
    some (.inl (some (0, s0)), h) := by
  unfold c_653_14
  exact
    have D : fk_D 653 [(14, some [0], .istore_n 2, 1, 0, 0, 0), (15, none, .iload_n 2, 1, 0, 0, 0), (16, none, .iconst (-1), 1, 0, (-1), 0), (17, none, .if_icmp .ne 9, 3, 26, 0, 0), (20, none, .aload_n 0, 1, 0, 0, 0), (21, none, .bipush 8, 2, 0, 8, 0), (23, none, .invokevirtual 854, 3, 1, 403, 0), (26, none, .iload_n 2, 1, 0, 0, 0), (27, none, .ireturn, 1, 0, 0, 0)] := fq_of2 cd_653 ow_653 cl_653 rfl (pc := 14) (by decide +kernel)
    j_istn (pc := 14) (L' := [(2, (0, s0)), (0, (4, 602))]) D rfl nl_653 rfl rfl fun D =>
    j_ildn (pc := 15) D rfl rfl rfl fun D =>
    j_ic (pc := 16) D rfl fun D =>
    j_ine (pc := 17) D rfl (fun q D =>
      j_aldn (pc := 20) D rfl rfl rfl fun D =>
      j_bp (pc := 21) D rfl fun D =>
      j_ivv (pc := 23) (m := 577) (dd := 403) (a := [(0, 8)]) (rest := []) D rfl rfl rfl rfl rfl (by decide) (s0_602 H) (by decide +kernel) (fun h1 e1 D =>
        have T := fj_run_ok _ _ _ _ _ _ H.1 e1
        have H := shp_st H T
        j_ildn (pc := 26) D rfl rfl rfl fun D =>
        j_iret D rt_653) (fun q3 h1 e1 =>
        j_tx (hx_653 _))) (fun q =>
      have D : fk_D 653 [(26, none, .iload_n 2, 1, 0, 0, 0), (27, none, .ireturn, 1, 0, 0, 0)] := fq_of2 cd_653 ow_653 cl_653 rfl (pc := 26) (by decide +kernel)
      j_ildn (pc := 26) D rfl rfl rfl fun D =>
      j_iret D rt_653)
theorem m_653 (d : Nat) (x1 : Int) {h : fi_H} (H : Shp h) : fj_run (d + 1) 653 h [(4, 602), (0, x1)] =
  if x1 = (-1) then
    c_653_14 d (-1) h
  else
    ca_ (fj_run d 597 h [(4, 602), (0, x1)]) 0
      (fun v2 h1 =>
      c_653_14 d v2 h1)
      (fun q3 h1 => tx_ q3 h1) := by
  rw [fj_run_eq d (by decide) h [(4, 602), (0, x1)] (Nat.le_of_ble_eq_true (by rw [nl_653]; rfl))]
  show gG (fj_run d) 653 0 [(0, (4, 602)), (1, (0, x1))] [] h = _
  exact
    have D : fk_D 653 [(0, none, .iload_n 1, 1, 0, 0, 0), (1, none, .iconst (-1), 1, 0, (-1), 0), (2, none, .if_icmp .ne 7, 3, 9, 0, 0), (5, none, .iconst (-1), 1, 0, (-1), 0), (6, none, .goto 8, 3, 14, 0, 0)] := fq_of2 cd_653 ow_653 cl_653 rfl (pc := 0) (by decide +kernel)
    j_ildn (pc := 0) D rfl rfl rfl fun D =>
    j_ic (pc := 1) D rfl fun D =>
    j_ine (pc := 2) D rfl (fun q D =>
      j_ic (pc := 5) D rfl fun D =>
      j_goto (pc := 6) D rfl <|
      fk_jump cut_653_14 rfl rfl) (fun q =>
      have D : fk_D 653 [(9, none, .aload_n 0, 1, 0, 0, 0), (10, none, .iload_n 1, 1, 0, 0, 0), (11, none, .invokevirtual 1042, 3, 1, 435, 1)] := fq_of2 cd_653 ow_653 cl_653 rfl (pc := 9) (by decide +kernel)
      j_aldn (pc := 9) D rfl rfl rfl fun D =>
      j_ildn (pc := 10) D rfl rfl rfl fun D =>
      j_iv (pc := 11) (m := 597) (dd := 435) (a := [(0, x1)]) (rest := []) D rfl rfl rfl rfl rfl (by decide) (s0_602 H) (by decide +kernel) (fun v2 h1 e1 D =>
        have T := fj_run_ok _ _ _ _ _ _ H.1 e1
        have H := shp_st H T
        fk_jump cut_653_14 rfl rfl) (fun q3 h1 e1 =>
        j_tx (hx_653 _)))
/-! 654 StatuteHouseModel.amountOf(III)J -/
theorem cd_654 : fi_code 654 = prog_69_method_171_code := rfl
theorem hx_654 : ∀ pc, fi_hat 654 pc = none := fun pc => by unfold fi_hat; rw [show fi_hh 654 = [] from rfl]; rfl
theorem rt_654 : fi_ret 654 = some .long := rfl
theorem nl_654 : fi_nl 654 = 4 := rfl
theorem ow_654 : fi_ow 654 = 29 := rfl
theorem cl_654 : fj_cutT.getD 654 [] = [] := rfl
theorem m_654 (d : Nat) (x1 x2 x3 : Int) {h : fi_H} (H : Shp h) : fj_run (d + 1) 654 h [(4, 602), (0, x1), (0, x2), (0, x3)] =
  cv_ (fj_run d 574 h [(4, 602), (0, 0), (0, x2), (0, x3), (0, h 449 602 0)])
    (fun h1 =>
    cv_ (fj_run d 605 h1 [(4, 602), (0, x1)])
      (fun h4 =>
      some (.inl (some (1, h4 492 602 0)), h4))
      (fun q6 h4 => tx_ q6 h4))
    (fun q3 h1 => tx_ q3 h1) := by
  rw [fj_run_eq d (by decide) h [(4, 602), (0, x1), (0, x2), (0, x3)] (Nat.le_of_ble_eq_true (by rw [nl_654]; rfl))]
  show gG (fj_run d) 654 0 [(0, (4, 602)), (1, (0, x1)), (2, (0, x2)), (3, (0, x3))] [] h = _
  exact
    have D : fk_D 654 [(0, none, .aload_n 0, 1, 0, 0, 0), (1, none, .iconst 0, 1, 0, 0, 0), (2, none, .iload_n 2, 1, 0, 0, 0), (3, none, .iload_n 3, 1, 0, 0, 0), (4, none, .aload_n 0, 1, 0, 0, 0), (5, none, .getfield 141, 3, 449, 129, 10), (8, none, .invokevirtual 1086, 3, 4, 442, 0), (11, none, .aload_n 0, 1, 0, 0, 0), (12, none, .iload_n 1, 1, 0, 0, 0), (13, none, .invokevirtual 979, 3, 1, 420, 0), (16, none, .aload_n 0, 1, 0, 0, 0), (17, none, .getfield 869, 3, 492, 129, 11), (20, none, .lreturn, 1, 0, 0, 0)] := fq_of2 cd_654 ow_654 cl_654 rfl (pc := 0) (by decide +kernel)
    j_aldn (pc := 0) D rfl rfl rfl fun D =>
    j_ic (pc := 1) D rfl fun D =>
    j_ildn (pc := 2) D rfl rfl rfl fun D =>
    j_ildn (pc := 3) D rfl rfl rfl fun D =>
    j_aldn (pc := 4) D rfl rfl rfl fun D =>
    j_gf (pc := 5) (a := 602) D rfl rfl (by decide) rfl (s0_602 H) rfl fun D =>
    j_ivv (pc := 8) (m := 574) (dd := 442) (a := [(0, 0), (0, x2), (0, x3), (0, h 449 602 0)]) (rest := []) D rfl rfl rfl rfl rfl (by decide) (s0_602 H) (by decide +kernel) (fun h1 e1 D =>
      have T := fj_run_ok _ _ _ _ _ _ H.1 e1
      have H := shp_st H T
      j_aldn (pc := 11) D rfl rfl rfl fun D =>
      j_ildn (pc := 12) D rfl rfl rfl fun D =>
      j_ivv (pc := 13) (m := 605) (dd := 420) (a := [(0, x1)]) (rest := []) D rfl rfl rfl rfl rfl (by decide) (s0_602 H) (by decide +kernel) (fun h4 e1 D =>
        have T := fj_run_ok _ _ _ _ _ _ H.1 e1
        have H := shp_st H T
        j_aldn (pc := 16) D rfl rfl rfl fun D =>
        j_gf (pc := 17) (a := 602) D rfl rfl (by decide) rfl (s0_602 H) rfl fun D =>
        j_lret D rt_654) (fun q6 h4 e1 =>
        j_tx (hx_654 _))) (fun q3 h1 e1 =>
      j_tx (hx_654 _))
/-! 655 StatuteHouseModel.book(IIJII)V -/
theorem cd_655 : fi_code 655 = prog_69_method_173_code := rfl
theorem hx_655 : ∀ pc, fi_hat 655 pc = none := fun pc => by unfold fi_hat; rw [show fi_hh 655 = [] from rfl]; rfl
theorem rt_655 : fi_ret 655 = none := rfl
theorem nl_655 : fi_nl 655 = 8 := rfl
theorem ow_655 : fi_ow 655 = 29 := rfl
theorem cl_655 : fj_cutT.getD 655 [] = [(61, [0, 3, 7]), (78, [0, 3, 7]), (125, [0])] := rfl
theorem cut_655_61 : fj_cut 655 61 = some [0, 3, 7] := by decide +kernel
noncomputable def c_655_61 (d : Nat) (x3 x7 : Int) (h : fi_H) : fk_R := gG (fj_run d) 655 61 [(0, (4, 602)), (3, (1, x3)), (7, (0, x7))] [] h
theorem cut_655_78 : fj_cut 655 78 = some [0, 3, 7] := by decide +kernel
noncomputable def c_655_78 (d : Nat) (x3 x7 s0 s1 s2 : Int) (h : fi_H) : fk_R := gG (fj_run d) 655 78 [(0, (4, 602)), (3, (1, x3)), (7, (0, x7))] [(1, s2), (0, s1), (4, s0)] h
theorem cut_655_125 : fj_cut 655 125 = some [0] := by decide +kernel
noncomputable def c_655_125 (d : Nat) (h : fi_H) : fk_R := gG (fj_run d) 655 125 [(0, (4, 602))] [] h
theorem e_655_61 (d : Nat) (x3 x7 : Int) {h : fi_H} (H : Shp h) : c_655_61 d x3 x7 h =
  if 0 < lc_ x3 0 then
    c_655_78 d x3 x7 695 x7 x3 h
  else
    c_655_78 d x3 x7 695 x7 0 h := by
  unfold c_655_61
  exact
    have D : fk_D 655 [(61, some [0, 3, 7], .aload_n 0, 1, 0, 0, 0), (62, none, .getfield 335, 3, 535, 129, 12), (65, none, .iload 7, 2, 0, 0, 0), (67, none, .lload_n 3, 1, 0, 0, 0), (68, none, .lconst 0, 1, 0, 0, 0), (69, none, .lcmp, 1, 0, 0, 0), (70, none, .ifCond .le 7, 3, 77, 0, 0), (73, none, .lload_n 3, 1, 0, 0, 0), (74, none, .goto 4, 3, 78, 0, 0)] := fq_of2 cd_655 ow_655 cl_655 rfl (pc := 61) (by decide +kernel)
    j_aldn (pc := 61) D rfl rfl rfl fun D =>
    j_gfc (pc := 62) (a := 602) D rfl rfl (by decide) rfl (s0_602 H) rfl (sf_535_602 H) fun D =>
    j_ild (pc := 65) D rfl rfl rfl fun D =>
    j_lldn (pc := 67) D rfl rfl rfl fun D =>
    j_c0 (pc := 68) (v := (1, 0)) D rfl rfl (by decide +kernel) fun D =>
    j_lcmp (pc := 69) D rfl fun D =>
    j_ifle (pc := 70) D rfl (fun q D =>
      j_lldn (pc := 73) D rfl rfl rfl fun D =>
      j_goto (pc := 74) D rfl <|
      fk_jump cut_655_78 rfl rfl) (fun q =>
      have D : fk_D 655 [(77, none, .lconst 0, 1, 0, 0, 0)] := fq_of2 cd_655 ow_655 cl_655 rfl (pc := 77) (by decide +kernel)
      j_c0 (pc := 77) (v := (1, 0)) D rfl rfl (by decide +kernel) fun D =>
      fk_jump cut_655_78 rfl rfl)
theorem e_655_78 (d : Nat) (x3 x7 s0 s1 s2 : Int) {h : fi_H} (H : Shp h) : c_655_78 d x3 x7 s0 s1 s2 h =
  if 302 < s0 ∧ h 0 s0.toNat 0 = 11 then
  if 0 ≤ s1 ∧ s1 < h 1 s0.toNat 0 then
  lt_ (fi_upd h 11 s0.toNat s1.toNat s2) fun h1 =>
  if 0 ≤ x7 ∧ x7 < 440 then
  lt_ (fi_upd h1 10 696 x7.toNat 0) fun h2 =>
  lt_ (fi_upd h2 10 697 x7.toNat (-1)) fun h4 =>
  lt_ (fi_upd h4 4 698 x7.toNat 0) fun h5 =>
  if lc_ x3 0 < 0 then
    if 0 ≤ h5 10 689 x7.toNat ∧ h5 10 689 x7.toNat < 30 then
    lt_ (fi_upd h5 11 699 (h5 10 689 x7.toNat).toNat (wJ ((h5 11 699 (h5 10 689 x7.toNat).toNat) - x3))) fun h7 =>
    c_655_125 d h7
    else none
  else
    c_655_125 d h5
  else none
  else none
  else none := by
  unfold c_655_78
  exact
    have D : fk_D 655 [(78, some [0, 3, 7], .lastore, 1, 0, 0, 0), (79, none, .aload_n 0, 1, 0, 0, 0), (80, none, .getfield 338, 3, 536, 129, 12), (83, none, .iload 7, 2, 0, 0, 0), (85, none, .iconst 0, 1, 0, 0, 0), (86, none, .iastore, 1, 0, 0, 0), (87, none, .aload_n 0, 1, 0, 0, 0), (88, none, .getfield 341, 3, 537, 129, 12), (91, none, .iload 7, 2, 0, 0, 0), (93, none, .iconst (-1), 1, 0, (-1), 0), (94, none, .iastore, 1, 0, 0, 0), (95, none, .aload_n 0, 1, 0, 0, 0), (96, none, .getfield 344, 3, 538, 129, 12), (99, none, .iload 7, 2, 0, 0, 0), (101, none, .iconst 0, 1, 0, 0, 0), (102, none, .bastore, 1, 0, 0, 0), (103, none, .lload_n 3, 1, 0, 0, 0), (104, none, .lconst 0, 1, 0, 0, 0), (105, none, .lcmp, 1, 0, 0, 0), (106, none, .ifCond .ge 19, 3, 125, 0, 0)] := fq_of2 cd_655 ow_655 cl_655 rfl (pc := 78) (by decide +kernel)
    j_asu (pc := 78) (e := 11) D rfl rfl ⟨rfl, rfl, rfl⟩ rfl gn gn (gy rfl) fun h1 eh1 S q q2 D =>
    have T := fj_hs_ok H.1 S
    have H := shp_st H T
    j_aldn (pc := 79) D rfl rfl rfl fun D =>
    j_gfc (pc := 80) (a := 602) D rfl rfl (by decide) rfl (s0_602 H) rfl (sf_536_602 H) fun D =>
    j_ild (pc := 83) D rfl rfl rfl fun D =>
    j_ic (pc := 85) D rfl fun D =>
    j_as (pc := 86) (a := 696) (e := 10) D rfl ⟨rfl, rfl⟩ rfl (by decide) (s0_696 H) (s1_696 H) ⟨rfl, rfl, rfl⟩ rfl gn (gy rfl) fun h2 eh2 S qb3 D =>
    have T := fj_hs_ok H.1 S
    have H := shp_st H T
    j_aldn (pc := 87) D rfl rfl rfl fun D =>
    j_gfc (pc := 88) (a := 602) D rfl rfl (by decide) rfl (s0_602 H) rfl (sf_537_602 H) fun D =>
    j_ild (pc := 91) D rfl rfl rfl fun D =>
    j_ic (pc := 93) D rfl fun D =>
    j_as (pc := 94) (a := 697) (e := 10) D rfl ⟨rfl, rfl⟩ rfl (by decide) (s0_697 H) (s1_697 H) ⟨rfl, rfl, rfl⟩ rfl (gy qb3) (gy rfl) fun h4 eh4 S q D =>
    have T := fj_hs_ok H.1 S
    have H := shp_st H T
    j_aldn (pc := 95) D rfl rfl rfl fun D =>
    j_gfc (pc := 96) (a := 602) D rfl rfl (by decide) rfl (s0_602 H) rfl (sf_538_602 H) fun D =>
    j_ild (pc := 99) D rfl rfl rfl fun D =>
    j_ic (pc := 101) D rfl fun D =>
    j_as (pc := 102) (a := 698) (e := 4) D rfl ⟨rfl, rfl⟩ rfl (by decide) (s0_698 H) (s1_698 H) ⟨rfl, rfl, rfl⟩ rfl (gy qb3) (gy (by decide)) fun h5 eh5 S q D =>
    have T := fj_hs_ok H.1 S
    have H := shp_st H T
    j_lldn (pc := 103) D rfl rfl rfl fun D =>
    j_c0 (pc := 104) (v := (1, 0)) D rfl rfl (by decide +kernel) fun D =>
    j_lcmp (pc := 105) D rfl fun D =>
    j_ifge (pc := 106) D rfl (fun q D =>
      have D : fk_D 655 [(109, none, .aload_n 0, 1, 0, 0, 0), (110, none, .getfield 347, 3, 539, 129, 12), (113, none, .aload_n 0, 1, 0, 0, 0), (114, none, .getfield 317, 3, 529, 129, 12), (117, none, .iload 7, 2, 0, 0, 0), (119, none, .iaload, 1, 0, 0, 0), (120, none, .dup2, 1, 0, 0, 0), (121, none, .laload, 1, 0, 0, 0), (122, none, .lload_n 3, 1, 0, 0, 0), (123, none, .lsub, 1, 0, 0, 0), (124, none, .lastore, 1, 0, 0, 0)] := fq_of2 cd_655 ow_655 cl_655 rfl (pc := 109) (by decide +kernel)
      j_aldn (pc := 109) D rfl rfl rfl fun D =>
      j_gfc (pc := 110) (a := 602) D rfl rfl (by decide) rfl (s0_602 H) rfl (sf_539_602 H) fun D =>
      j_aldn (pc := 113) D rfl rfl rfl fun D =>
      j_gfc (pc := 114) (a := 602) D rfl rfl (by decide) rfl (s0_602 H) rfl (sf_529_602 H) fun D =>
      j_ild (pc := 117) D rfl rfl rfl fun D =>
      j_al (pc := 119) (a := 689) (e := 10) D rfl rfl rfl (by decide) (s0_689 H) (s1_689 H) ⟨rfl, rfl, rfl⟩ rfl (gy qb3) fun q D =>
      j_sh (pc := 120) D rfl rfl rfl fun D =>
      j_al (pc := 121) (a := 699) (e := 11) D rfl rfl rfl (by decide) (s0_699 H) (s1_699 H) ⟨rfl, rfl, rfl⟩ rfl gn fun qb6 D =>
      j_lldn (pc := 122) D rfl rfl rfl fun D =>
      j_lsub (pc := 123) D rfl fun D =>
      j_as (pc := 124) (a := 699) (e := 11) D rfl ⟨rfl, rfl⟩ rfl (by decide) (s0_699 H) (s1_699 H) ⟨rfl, rfl, rfl⟩ rfl (gy qb6) (gy rfl) fun h7 eh7 S q D =>
      have T := fj_hs_ok H.1 S
      have H := shp_st H T
      fk_jump cut_655_125 rfl rfl) (fun q =>
      fk_jump cut_655_125 rfl rfl)
theorem e_655_125 (d : Nat) {h : fi_H} (H : Shp h) : c_655_125 d h =
  lt_ (fi_upd h 542 602 0 (wI ((h 542 602 0) + 1))) fun h1 =>
  some (.inl none, h1) := by
  unfold c_655_125
  exact
    have D : fk_D 655 [(125, some [0], .aload_n 0, 1, 0, 0, 0), (126, none, .dup, 1, 0, 0, 0), (127, none, .getfield 1098, 3, 542, 129, 10), (130, none, .iconst 1, 1, 0, 1, 0), (131, none, .iadd, 1, 0, 0, 0), (132, none, .putfield 1098, 3, 542, 129, 10), (135, none, .return_, 1, 0, 0, 0)] := fq_of2 cd_655 ow_655 cl_655 rfl (pc := 125) (by decide +kernel)
    j_aldn (pc := 125) D rfl rfl rfl fun D =>
    j_sh (pc := 126) D rfl rfl rfl fun D =>
    j_gf (pc := 127) (a := 602) D rfl rfl (by decide) rfl (s0_602 H) rfl fun D =>
    j_ic (pc := 130) D rfl fun D =>
    j_iadd (pc := 131) D rfl fun D =>
    j_pf (pc := 132) (a := 602) D rfl rfl rfl (s0_602 H) rfl rfl (gy (by decide)) (gy rfl) fun h1 eh1 S D =>
    have T := fj_hs_ok H.1 S
    have H := shp_st H T
    j_vret D rt_655
theorem m_655 (d : Nat) (x1 x2 x3 x5 x6 : Int) {h : fi_H} (H : Shp h) : fj_run (d + 1) 655 h [(4, 602), (0, x1), (0, x2), (1, x3), (0, x5), (0, x6)] =
  if 0 ≤ x1 ∧ x1 < 30 then
  if 0 ≤ h 542 602 0 ∧ h 542 602 0 < 440 then
  lt_ (fi_upd h 10 689 (h 542 602 0).toNat (h 10 681 x1.toNat)) fun h2 =>
  lt_ (fi_upd h2 10 690 (h 542 602 0).toNat x1) fun h4 =>
  lt_ (fi_upd h4 10 691 (h 542 602 0).toNat x2) fun h5 =>
  lt_ (fi_upd h5 11 692 (h 542 602 0).toNat x3) fun h6 =>
  lt_ (fi_upd h6 10 693 (h 542 602 0).toNat x5) fun h7 =>
  lt_ (fi_upd h7 10 694 (h 542 602 0).toNat x6) fun h8 =>
  c_655_61 d x3 (h 542 602 0) h8
  else none
  else none := by
  rw [fj_run_eq d (by decide) h [(4, 602), (0, x1), (0, x2), (1, x3), (0, x5), (0, x6)] (Nat.le_of_ble_eq_true (by rw [nl_655]; rfl))]
  show gG (fj_run d) 655 0 [(0, (4, 602)), (1, (0, x1)), (2, (0, x2)), (3, (1, x3)), (5, (0, x5)), (6, (0, x6))] [] h = _
  exact
    have D : fk_D 655 [(0, none, .aload_n 0, 1, 0, 0, 0), (1, none, .getfield 1098, 3, 542, 129, 10), (4, none, .istore 7, 2, 0, 0, 0), (6, none, .aload_n 0, 1, 0, 0, 0), (7, none, .getfield 317, 3, 529, 129, 12), (10, none, .iload 7, 2, 0, 0, 0), (12, none, .aload_n 0, 1, 0, 0, 0), (13, none, .getfield 293, 3, 520, 129, 12), (16, none, .iload_n 1, 1, 0, 0, 0), (17, none, .iaload, 1, 0, 0, 0), (18, none, .iastore, 1, 0, 0, 0), (19, none, .aload_n 0, 1, 0, 0, 0), (20, none, .getfield 320, 3, 530, 129, 12), (23, none, .iload 7, 2, 0, 0, 0), (25, none, .iload_n 1, 1, 0, 0, 0), (26, none, .iastore, 1, 0, 0, 0), (27, none, .aload_n 0, 1, 0, 0, 0), (28, none, .getfield 323, 3, 531, 129, 12), (31, none, .iload 7, 2, 0, 0, 0), (33, none, .iload_n 2, 1, 0, 0, 0)] := fq_of2 cd_655 ow_655 cl_655 rfl (pc := 0) (by decide +kernel)
    j_aldn (pc := 0) D rfl rfl rfl fun D =>
    j_gf (pc := 1) (a := 602) D rfl rfl (by decide) rfl (s0_602 H) rfl fun D =>
    j_ist (pc := 4) (L' := [(7, (0, h 542 602 0)), (0, (4, 602)), (1, (0, x1)), (2, (0, x2)), (3, (1, x3)), (5, (0, x5)), (6, (0, x6))]) D rfl nl_655 rfl rfl fun D =>
    j_aldn (pc := 6) D rfl rfl rfl fun D =>
    j_gfc (pc := 7) (a := 602) D rfl rfl (by decide) rfl (s0_602 H) rfl (sf_529_602 H) fun D =>
    j_ild (pc := 10) D rfl rfl rfl fun D =>
    j_aldn (pc := 12) D rfl rfl rfl fun D =>
    j_gfc (pc := 13) (a := 602) D rfl rfl (by decide) rfl (s0_602 H) rfl (sf_520_602 H) fun D =>
    j_ildn (pc := 16) D rfl rfl rfl fun D =>
    j_al (pc := 17) (a := 681) (e := 10) D rfl rfl rfl (by decide) (s0_681 H) (s1_681 H) ⟨rfl, rfl, rfl⟩ rfl gn fun qb1 D =>
    j_as (pc := 18) (a := 689) (e := 10) D rfl ⟨rfl, rfl⟩ rfl (by decide) (s0_689 H) (s1_689 H) ⟨rfl, rfl, rfl⟩ rfl gn (gy rfl) fun h2 eh2 S qb3 D =>
    have T := fj_hs_ok H.1 S
    have H := shp_st H T
    j_aldn (pc := 19) D rfl rfl rfl fun D =>
    j_gfc (pc := 20) (a := 602) D rfl rfl (by decide) rfl (s0_602 H) rfl (sf_530_602 H) fun D =>
    j_ild (pc := 23) D rfl rfl rfl fun D =>
    j_ildn (pc := 25) D rfl rfl rfl fun D =>
    j_as (pc := 26) (a := 690) (e := 10) D rfl ⟨rfl, rfl⟩ rfl (by decide) (s0_690 H) (s1_690 H) ⟨rfl, rfl, rfl⟩ rfl (gy qb3) (gy rfl) fun h4 eh4 S q D =>
    have T := fj_hs_ok H.1 S
    have H := shp_st H T
    j_aldn (pc := 27) D rfl rfl rfl fun D =>
    j_gfc (pc := 28) (a := 602) D rfl rfl (by decide) rfl (s0_602 H) rfl (sf_531_602 H) fun D =>
    j_ild (pc := 31) D rfl rfl rfl fun D =>
    j_ildn (pc := 33) D rfl rfl rfl fun D =>
    have D : fk_D 655 [(34, none, .iastore, 1, 0, 0, 0), (35, none, .aload_n 0, 1, 0, 0, 0), (36, none, .getfield 326, 3, 532, 129, 12), (39, none, .iload 7, 2, 0, 0, 0), (41, none, .lload_n 3, 1, 0, 0, 0), (42, none, .lastore, 1, 0, 0, 0), (43, none, .aload_n 0, 1, 0, 0, 0), (44, none, .getfield 329, 3, 533, 129, 12), (47, none, .iload 7, 2, 0, 0, 0), (49, none, .iload 5, 2, 0, 0, 0), (51, none, .iastore, 1, 0, 0, 0), (52, none, .aload_n 0, 1, 0, 0, 0), (53, none, .getfield 332, 3, 534, 129, 12), (56, none, .iload 7, 2, 0, 0, 0), (58, none, .iload 6, 2, 0, 0, 0), (60, none, .iastore, 1, 0, 0, 0)] := fq_of2 cd_655 ow_655 cl_655 rfl (pc := 34) (by decide +kernel)
    j_as (pc := 34) (a := 691) (e := 10) D rfl ⟨rfl, rfl⟩ rfl (by decide) (s0_691 H) (s1_691 H) ⟨rfl, rfl, rfl⟩ rfl (gy qb3) (gy rfl) fun h5 eh5 S q D =>
    have T := fj_hs_ok H.1 S
    have H := shp_st H T
    j_aldn (pc := 35) D rfl rfl rfl fun D =>
    j_gfc (pc := 36) (a := 602) D rfl rfl (by decide) rfl (s0_602 H) rfl (sf_532_602 H) fun D =>
    j_ild (pc := 39) D rfl rfl rfl fun D =>
    j_lldn (pc := 41) D rfl rfl rfl fun D =>
    j_as (pc := 42) (a := 692) (e := 11) D rfl ⟨rfl, rfl⟩ rfl (by decide) (s0_692 H) (s1_692 H) ⟨rfl, rfl, rfl⟩ rfl (gy qb3) (gy rfl) fun h6 eh6 S q D =>
    have T := fj_hs_ok H.1 S
    have H := shp_st H T
    j_aldn (pc := 43) D rfl rfl rfl fun D =>
    j_gfc (pc := 44) (a := 602) D rfl rfl (by decide) rfl (s0_602 H) rfl (sf_533_602 H) fun D =>
    j_ild (pc := 47) D rfl rfl rfl fun D =>
    j_ild (pc := 49) D rfl rfl rfl fun D =>
    j_as (pc := 51) (a := 693) (e := 10) D rfl ⟨rfl, rfl⟩ rfl (by decide) (s0_693 H) (s1_693 H) ⟨rfl, rfl, rfl⟩ rfl (gy qb3) (gy rfl) fun h7 eh7 S q D =>
    have T := fj_hs_ok H.1 S
    have H := shp_st H T
    j_aldn (pc := 52) D rfl rfl rfl fun D =>
    j_gfc (pc := 53) (a := 602) D rfl rfl (by decide) rfl (s0_602 H) rfl (sf_534_602 H) fun D =>
    j_ild (pc := 56) D rfl rfl rfl fun D =>
    j_ild (pc := 58) D rfl rfl rfl fun D =>
    j_as (pc := 60) (a := 694) (e := 10) D rfl ⟨rfl, rfl⟩ rfl (by decide) (s0_694 H) (s1_694 H) ⟨rfl, rfl, rfl⟩ rfl (gy qb3) (gy rfl) fun h8 eh8 S q D =>
    have T := fj_hs_ok H.1 S
    have H := shp_st H T
    fk_jump cut_655_61 rfl rfl
/-! 656 StatuteHouseModel.settle(I)V -/
theorem cd_656 : fi_code 656 = prog_69_method_174_code := rfl
theorem hx_656 : ∀ pc, fi_hat 656 pc = none := fun pc => by unfold fi_hat; rw [show fi_hh 656 = [] from rfl]; rfl
theorem rt_656 : fi_ret 656 = none := rfl
theorem nl_656 : fi_nl 656 = 6 := rfl
theorem ow_656 : fi_ow 656 = 29 := rfl
theorem cl_656 : fj_cutT.getD 656 [] = [(2, [0, 1, 2]), (22, [0, 1, 3, 4]), (88, [0, 1, 4]), (91, [0, 1, 3, 4]), (107, [0, 1, 3]), (146, [0, 1, 2, 3])] := rfl
theorem cut_656_2 : fj_cut 656 2 = some [0, 1, 2] := by decide +kernel
noncomputable def c_656_2 (d : Nat) (x1 x2 : Int) (h : fi_H) : fk_R := gG (fj_run d) 656 2 [(0, (4, 602)), (1, (0, x1)), (2, (0, x2))] [] h
theorem cut_656_22 : fj_cut 656 22 = some [0, 1, 3, 4] := by decide +kernel
noncomputable def c_656_22 (d : Nat) (x1 x3 x4 : Int) (h : fi_H) : fk_R := gG (fj_run d) 656 22 [(0, (4, 602)), (1, (0, x1)), (3, (0, x3)), (4, (0, x4))] [] h
theorem cut_656_88 : fj_cut 656 88 = some [0, 1, 4] := by decide +kernel
noncomputable def c_656_88 (d : Nat) (x1 x4 : Int) (h : fi_H) : fk_R := gG (fj_run d) 656 88 [(0, (4, 602)), (1, (0, x1)), (4, (0, x4))] [] h
theorem cut_656_91 : fj_cut 656 91 = some [0, 1, 3, 4] := by decide +kernel
noncomputable def c_656_91 (d : Nat) (x1 x3 x4 : Int) (h : fi_H) : fk_R := gG (fj_run d) 656 91 [(0, (4, 602)), (1, (0, x1)), (3, (0, x3)), (4, (0, x4))] [] h
theorem cut_656_107 : fj_cut 656 107 = some [0, 1, 3] := by decide +kernel
noncomputable def c_656_107 (d : Nat) (x1 x3 s0 : Int) (h : fi_H) : fk_R := gG (fj_run d) 656 107 [(0, (4, 602)), (1, (0, x1)), (3, (0, x3))] [(0, s0)] h
theorem cut_656_146 : fj_cut 656 146 = some [0, 1, 2, 3] := by decide +kernel
noncomputable def c_656_146 (d : Nat) (x1 x2 x3 s0 : Int) (h : fi_H) : fk_R := gG (fj_run d) 656 146 [(0, (4, 602)), (1, (0, x1)), (2, (0, x2)), (3, (0, x3))] [(1, s0)] h
theorem e_656_2 (d : Nat) (x1 x2 : Int) {h : fi_H} (H : Shp h) : c_656_2 d x1 x2 h =
  if x2 = 0 then
    some (.inl none, h)
  else
    if 0 ≤ x1 ∧ x1 < 30 then
    if 0 < lc_ (h 11 699 x1.toNat) 0 then
      c_656_22 d x1 (-1) 0 h
    else
      some (.inl none, h)
    else none := by
  unfold c_656_2
  exact
    have D : fk_D 656 [(2, some [0, 1, 2], .iload_n 2, 1, 0, 0, 0), (3, none, .ifCond .eq 170, 3, 173, 0, 0), (6, none, .aload_n 0, 1, 0, 0, 0), (7, none, .getfield 347, 3, 539, 129, 12), (10, none, .iload_n 1, 1, 0, 0, 0), (11, none, .laload, 1, 0, 0, 0), (12, none, .lconst 0, 1, 0, 0, 0), (13, none, .lcmp, 1, 0, 0, 0), (14, none, .ifCond .le 159, 3, 173, 0, 0), (17, none, .iconst (-1), 1, 0, (-1), 0), (18, none, .istore_n 3, 1, 0, 0, 0), (19, none, .iconst 0, 1, 0, 0, 0), (20, none, .istore 4, 2, 0, 0, 0)] := fq_of2 cd_656 ow_656 cl_656 rfl (pc := 2) (by decide +kernel)
    j_ildn (pc := 2) D rfl rfl rfl fun D =>
    j_ifeq (pc := 3) D rfl (fun q =>
      have D : fk_D 656 [(173, none, .return_, 1, 0, 0, 0)] := fq_of2 cd_656 ow_656 cl_656 rfl (pc := 173) (by decide +kernel)
      j_vret D rt_656) (fun q D =>
      j_aldn (pc := 6) D rfl rfl rfl fun D =>
      j_gfc (pc := 7) (a := 602) D rfl rfl (by decide) rfl (s0_602 H) rfl (sf_539_602 H) fun D =>
      j_ildn (pc := 10) D rfl rfl rfl fun D =>
      j_al (pc := 11) (a := 699) (e := 11) D rfl rfl rfl (by decide) (s0_699 H) (s1_699 H) ⟨rfl, rfl, rfl⟩ rfl gn fun qb1 D =>
      j_c0 (pc := 12) (v := (1, 0)) D rfl rfl (by decide +kernel) fun D =>
      j_lcmp (pc := 13) D rfl fun D =>
      j_ifle (pc := 14) D rfl (fun q D =>
        j_ic (pc := 17) D rfl fun D =>
        j_istn (pc := 18) (L' := [(3, (0, (-1))), (0, (4, 602)), (1, (0, x1)), (2, (0, x2))]) D rfl nl_656 rfl rfl fun D =>
        j_ic (pc := 19) D rfl fun D =>
        j_ist (pc := 20) (L' := [(4, (0, 0)), (3, (0, (-1))), (0, (4, 602)), (1, (0, x1)), (2, (0, x2))]) D rfl nl_656 rfl rfl fun D =>
        fk_jump cut_656_22 rfl rfl) (fun q =>
        have D : fk_D 656 [(173, none, .return_, 1, 0, 0, 0)] := fq_of2 cd_656 ow_656 cl_656 rfl (pc := 173) (by decide +kernel)
        j_vret D rt_656))
theorem e_656_22 (d : Nat) (x1 x3 x4 : Int) {h : fi_H} (H : Shp h) : c_656_22 d x1 x3 x4 h =
  if x4 < h 542 602 0 then
    if 0 ≤ x4 ∧ x4 < 440 then
    if h 10 689 x4.toNat = x1 then
      if lc_ (h 11 695 x4.toNat) 0 = 0 then
        c_656_91 d x1 x3 x4 h
      else
        if h 4 698 x4.toNat = 0 then
          if x3 = (-1) then
            c_656_88 d x1 x4 h
          else
            if 0 ≤ x3 ∧ x3 < 440 then
            if h 10 693 x4.toNat < h 10 693 x3.toNat then
              c_656_88 d x1 x4 h
            else
              c_656_91 d x1 x3 x4 h
            else none
        else
          c_656_91 d x1 x3 x4 h
    else
      c_656_91 d x1 x3 x4 h
    else none
  else
    if x3 = (-1) then
      c_656_107 d x1 x3 0 h
    else
      c_656_107 d x1 x3 1 h := by
  unfold c_656_22
  exact
    have D : fk_D 656 [(22, some [0, 1, 3, 4], .iload 4, 2, 0, 0, 0), (24, none, .aload_n 0, 1, 0, 0, 0), (25, none, .getfield 1098, 3, 542, 129, 10), (28, none, .if_icmp .ge 69, 3, 97, 0, 0), (31, none, .aload_n 0, 1, 0, 0, 0), (32, none, .getfield 317, 3, 529, 129, 12), (35, none, .iload 4, 2, 0, 0, 0), (37, none, .iaload, 1, 0, 0, 0), (38, none, .iload_n 1, 1, 0, 0, 0), (39, none, .if_icmp .ne 52, 3, 91, 0, 0), (42, none, .aload_n 0, 1, 0, 0, 0), (43, none, .getfield 335, 3, 535, 129, 12), (46, none, .iload 4, 2, 0, 0, 0), (48, none, .laload, 1, 0, 0, 0), (49, none, .lconst 0, 1, 0, 0, 0), (50, none, .lcmp, 1, 0, 0, 0), (51, none, .ifCond .eq 40, 3, 91, 0, 0), (54, none, .aload_n 0, 1, 0, 0, 0), (55, none, .getfield 344, 3, 538, 129, 12), (58, none, .iload 4, 2, 0, 0, 0)] := fq_of2 cd_656 ow_656 cl_656 rfl (pc := 22) (by decide +kernel)
    j_ild (pc := 22) D rfl rfl rfl fun D =>
    j_aldn (pc := 24) D rfl rfl rfl fun D =>
    j_gf (pc := 25) (a := 602) D rfl rfl (by decide) rfl (s0_602 H) rfl fun D =>
    j_ige (pc := 28) D rfl (fun q D =>
      j_aldn (pc := 31) D rfl rfl rfl fun D =>
      j_gfc (pc := 32) (a := 602) D rfl rfl (by decide) rfl (s0_602 H) rfl (sf_529_602 H) fun D =>
      j_ild (pc := 35) D rfl rfl rfl fun D =>
      j_al (pc := 37) (a := 689) (e := 10) D rfl rfl rfl (by decide) (s0_689 H) (s1_689 H) ⟨rfl, rfl, rfl⟩ rfl gn fun qb1 D =>
      j_ildn (pc := 38) D rfl rfl rfl fun D =>
      j_ine (pc := 39) D rfl (fun q D =>
        j_aldn (pc := 42) D rfl rfl rfl fun D =>
        j_gfc (pc := 43) (a := 602) D rfl rfl (by decide) rfl (s0_602 H) rfl (sf_535_602 H) fun D =>
        j_ild (pc := 46) D rfl rfl rfl fun D =>
        j_al (pc := 48) (a := 695) (e := 11) D rfl rfl rfl (by decide) (s0_695 H) (s1_695 H) ⟨rfl, rfl, rfl⟩ rfl (gy qb1) fun q D =>
        j_c0 (pc := 49) (v := (1, 0)) D rfl rfl (by decide +kernel) fun D =>
        j_lcmp (pc := 50) D rfl fun D =>
        j_ifeq (pc := 51) D rfl (fun q =>
          fk_jump cut_656_91 rfl rfl) (fun q D =>
          j_aldn (pc := 54) D rfl rfl rfl fun D =>
          j_gfc (pc := 55) (a := 602) D rfl rfl (by decide) rfl (s0_602 H) rfl (sf_538_602 H) fun D =>
          j_ild (pc := 58) D rfl rfl rfl fun D =>
          have D : fk_D 656 [(60, none, .baload, 1, 0, 0, 0), (61, none, .ifCond .eq 6, 3, 67, 0, 0), (64, none, .goto 27, 3, 91, 0, 0)] := fq_of2 cd_656 ow_656 cl_656 rfl (pc := 60) (by decide +kernel)
          j_al (pc := 60) (a := 698) (e := 4) D rfl rfl rfl (by decide) (s0_698 H) (s1_698 H) ⟨rfl, rfl, rfl⟩ rfl (gy qb1) fun q D =>
          j_ifeq (pc := 61) D rfl (fun q =>
            have D : fk_D 656 [(67, none, .iload_n 3, 1, 0, 0, 0), (68, none, .iconst (-1), 1, 0, (-1), 0), (69, none, .if_icmp .eq 19, 3, 88, 0, 0), (72, none, .aload_n 0, 1, 0, 0, 0), (73, none, .getfield 329, 3, 533, 129, 12), (76, none, .iload 4, 2, 0, 0, 0), (78, none, .iaload, 1, 0, 0, 0), (79, none, .aload_n 0, 1, 0, 0, 0), (80, none, .getfield 329, 3, 533, 129, 12), (83, none, .iload_n 3, 1, 0, 0, 0), (84, none, .iaload, 1, 0, 0, 0), (85, none, .if_icmp .ge 6, 3, 91, 0, 0)] := fq_of2 cd_656 ow_656 cl_656 rfl (pc := 67) (by decide +kernel)
            j_ildn (pc := 67) D rfl rfl rfl fun D =>
            j_ic (pc := 68) D rfl fun D =>
            j_ieq (pc := 69) D rfl (fun q =>
              fk_jump cut_656_88 rfl rfl) (fun q D =>
              j_aldn (pc := 72) D rfl rfl rfl fun D =>
              j_gfc (pc := 73) (a := 602) D rfl rfl (by decide) rfl (s0_602 H) rfl (sf_533_602 H) fun D =>
              j_ild (pc := 76) D rfl rfl rfl fun D =>
              j_al (pc := 78) (a := 693) (e := 10) D rfl rfl rfl (by decide) (s0_693 H) (s1_693 H) ⟨rfl, rfl, rfl⟩ rfl (gy qb1) fun q D =>
              j_aldn (pc := 79) D rfl rfl rfl fun D =>
              j_gfc (pc := 80) (a := 602) D rfl rfl (by decide) rfl (s0_602 H) rfl (sf_533_602 H) fun D =>
              j_ildn (pc := 83) D rfl rfl rfl fun D =>
              j_al (pc := 84) (a := 693) (e := 10) D rfl rfl rfl (by decide) (s0_693 H) (s1_693 H) ⟨rfl, rfl, rfl⟩ rfl gn fun qb2 D =>
              j_ige (pc := 85) D rfl (fun q D =>
                fk_jump cut_656_88 rfl rfl) (fun q =>
                fk_jump cut_656_91 rfl rfl))) (fun q D =>
            j_goto (pc := 64) D rfl <|
            fk_jump cut_656_91 rfl rfl))) (fun q =>
        fk_jump cut_656_91 rfl rfl)) (fun q =>
      have D : fk_D 656 [(97, none, .iload_n 3, 1, 0, 0, 0), (98, none, .iconst (-1), 1, 0, (-1), 0), (99, none, .if_icmp .eq 7, 3, 106, 0, 0), (102, none, .iconst 1, 1, 0, 1, 0), (103, none, .goto 4, 3, 107, 0, 0)] := fq_of2 cd_656 ow_656 cl_656 rfl (pc := 97) (by decide +kernel)
      j_ildn (pc := 97) D rfl rfl rfl fun D =>
      j_ic (pc := 98) D rfl fun D =>
      j_ieq (pc := 99) D rfl (fun q =>
        have D : fk_D 656 [(106, none, .iconst 0, 1, 0, 0, 0)] := fq_of2 cd_656 ow_656 cl_656 rfl (pc := 106) (by decide +kernel)
        j_ic (pc := 106) D rfl fun D =>
        fk_jump cut_656_107 rfl rfl) (fun q D =>
        j_ic (pc := 102) D rfl fun D =>
        j_goto (pc := 103) D rfl <|
        fk_jump cut_656_107 rfl rfl))
theorem e_656_88 (d : Nat) (x1 x4 : Int) {h : fi_H} (H : Shp h) : c_656_88 d x1 x4 h =
  c_656_91 d x1 x4 x4 h := by
  unfold c_656_88
  exact
    have D : fk_D 656 [(88, some [0, 1, 4], .iload 4, 2, 0, 0, 0), (90, none, .istore_n 3, 1, 0, 0, 0)] := fq_of2 cd_656 ow_656 cl_656 rfl (pc := 88) (by decide +kernel)
    j_ild (pc := 88) D rfl rfl rfl fun D =>
    j_istn (pc := 90) (L' := [(3, (0, x4)), (0, (4, 602)), (1, (0, x1)), (4, (0, x4))]) D rfl nl_656 rfl rfl fun D =>
    fk_jump cut_656_91 rfl rfl
theorem e_656_91 (d : Nat) (x1 x3 x4 : Int) {h : fi_H} (H : Shp h) : c_656_91 d x1 x3 x4 h =
  c_656_22 d x1 x3 (wI (x4 + 1)) h := by
  unfold c_656_91
  exact
    have D : fk_D 656 [(91, some [0, 1, 3, 4], .iinc 4 1, 3, 0, 1, 0), (94, none, .goto (-72), 3, 22, 0, 0)] := fq_of2 cd_656 ow_656 cl_656 rfl (pc := 91) (by decide +kernel)
    j_inc (pc := 91) (L' := [(4, (0, wI (x4 + 1))), (0, (4, 602)), (1, (0, x1)), (3, (0, x3))]) D rfl rfl rfl (by decide +kernel) rfl fun D =>
    j_goto (pc := 94) D rfl <|
    fk_jump cut_656_22 rfl rfl
theorem e_656_107 (d : Nat) (x1 x3 s0 : Int) {h : fi_H} (H : Shp h) : c_656_107 d x1 x3 s0 h =
  if s0 = 0 then
    c_656_2 d x1 s0 h
  else
    if 0 ≤ x1 ∧ x1 < 30 then
    if 0 ≤ x3 ∧ x3 < 440 then
    if lc_ (h 11 699 x1.toNat) (h 11 695 x3.toNat) < 0 then
      c_656_146 d x1 s0 x3 (h 11 699 x1.toNat) h
    else
      c_656_146 d x1 s0 x3 (h 11 695 x3.toNat) h
    else none
    else none := by
  unfold c_656_107
  exact
    have D : fk_D 656 [(107, some [0, 1, 3], .istore_n 2, 1, 0, 0, 0), (108, none, .iload_n 2, 1, 0, 0, 0), (109, none, .ifCond .ne 6, 3, 115, 0, 0), (112, none, .goto (-110), 3, 2, 0, 0)] := fq_of2 cd_656 ow_656 cl_656 rfl (pc := 107) (by decide +kernel)
    j_istn (pc := 107) (L' := [(2, (0, s0)), (0, (4, 602)), (1, (0, x1)), (3, (0, x3))]) D rfl nl_656 rfl rfl fun D =>
    j_ildn (pc := 108) D rfl rfl rfl fun D =>
    j_ifne (pc := 109) D rfl (fun q D =>
      j_goto (pc := 112) D rfl <|
      fk_jump cut_656_2 rfl rfl) (fun q =>
      have D : fk_D 656 [(115, none, .aload_n 0, 1, 0, 0, 0), (116, none, .getfield 347, 3, 539, 129, 12), (119, none, .iload_n 1, 1, 0, 0, 0), (120, none, .laload, 1, 0, 0, 0), (121, none, .aload_n 0, 1, 0, 0, 0), (122, none, .getfield 335, 3, 535, 129, 12), (125, none, .iload_n 3, 1, 0, 0, 0), (126, none, .laload, 1, 0, 0, 0), (127, none, .lcmp, 1, 0, 0, 0), (128, none, .ifCond .ge 12, 3, 140, 0, 0), (131, none, .aload_n 0, 1, 0, 0, 0), (132, none, .getfield 347, 3, 539, 129, 12), (135, none, .iload_n 1, 1, 0, 0, 0), (136, none, .laload, 1, 0, 0, 0), (137, none, .goto 9, 3, 146, 0, 0)] := fq_of2 cd_656 ow_656 cl_656 rfl (pc := 115) (by decide +kernel)
      j_aldn (pc := 115) D rfl rfl rfl fun D =>
      j_gfc (pc := 116) (a := 602) D rfl rfl (by decide) rfl (s0_602 H) rfl (sf_539_602 H) fun D =>
      j_ildn (pc := 119) D rfl rfl rfl fun D =>
      j_al (pc := 120) (a := 699) (e := 11) D rfl rfl rfl (by decide) (s0_699 H) (s1_699 H) ⟨rfl, rfl, rfl⟩ rfl gn fun qb1 D =>
      j_aldn (pc := 121) D rfl rfl rfl fun D =>
      j_gfc (pc := 122) (a := 602) D rfl rfl (by decide) rfl (s0_602 H) rfl (sf_535_602 H) fun D =>
      j_ildn (pc := 125) D rfl rfl rfl fun D =>
      j_al (pc := 126) (a := 695) (e := 11) D rfl rfl rfl (by decide) (s0_695 H) (s1_695 H) ⟨rfl, rfl, rfl⟩ rfl gn fun qb2 D =>
      j_lcmp (pc := 127) D rfl fun D =>
      j_ifge (pc := 128) D rfl (fun q D =>
        j_aldn (pc := 131) D rfl rfl rfl fun D =>
        j_gfc (pc := 132) (a := 602) D rfl rfl (by decide) rfl (s0_602 H) rfl (sf_539_602 H) fun D =>
        j_ildn (pc := 135) D rfl rfl rfl fun D =>
        j_al (pc := 136) (a := 699) (e := 11) D rfl rfl rfl (by decide) (s0_699 H) (s1_699 H) ⟨rfl, rfl, rfl⟩ rfl (gy qb1) fun q D =>
        j_goto (pc := 137) D rfl <|
        fk_jump cut_656_146 rfl rfl) (fun q =>
        have D : fk_D 656 [(140, none, .aload_n 0, 1, 0, 0, 0), (141, none, .getfield 335, 3, 535, 129, 12), (144, none, .iload_n 3, 1, 0, 0, 0), (145, none, .laload, 1, 0, 0, 0)] := fq_of2 cd_656 ow_656 cl_656 rfl (pc := 140) (by decide +kernel)
        j_aldn (pc := 140) D rfl rfl rfl fun D =>
        j_gfc (pc := 141) (a := 602) D rfl rfl (by decide) rfl (s0_602 H) rfl (sf_535_602 H) fun D =>
        j_ildn (pc := 144) D rfl rfl rfl fun D =>
        j_al (pc := 145) (a := 695) (e := 11) D rfl rfl rfl (by decide) (s0_695 H) (s1_695 H) ⟨rfl, rfl, rfl⟩ rfl (gy qb2) fun q D =>
        fk_jump cut_656_146 rfl rfl))
theorem e_656_146 (d : Nat) (x1 x2 x3 s0 : Int) {h : fi_H} (H : Shp h) : c_656_146 d x1 x2 x3 s0 h =
  if 0 ≤ x1 ∧ x1 < 30 then
  lt_ (fi_upd h 11 699 x1.toNat (wJ ((h 11 699 x1.toNat) - s0))) fun h2 =>
  if 0 ≤ x3 ∧ x3 < 440 then
  lt_ (fi_upd h2 11 695 x3.toNat (wJ ((h2 11 695 x3.toNat) - s0))) fun h4 =>
  c_656_2 d x1 x2 h4
  else none
  else none := by
  unfold c_656_146
  exact
    have D : fk_D 656 [(146, some [0, 1, 2, 3], .lstore 4, 2, 0, 0, 0), (148, none, .aload_n 0, 1, 0, 0, 0), (149, none, .getfield 347, 3, 539, 129, 12), (152, none, .iload_n 1, 1, 0, 0, 0), (153, none, .dup2, 1, 0, 0, 0), (154, none, .laload, 1, 0, 0, 0), (155, none, .lload 4, 2, 0, 0, 0), (157, none, .lsub, 1, 0, 0, 0), (158, none, .lastore, 1, 0, 0, 0), (159, none, .aload_n 0, 1, 0, 0, 0), (160, none, .getfield 335, 3, 535, 129, 12), (163, none, .iload_n 3, 1, 0, 0, 0), (164, none, .dup2, 1, 0, 0, 0), (165, none, .laload, 1, 0, 0, 0), (166, none, .lload 4, 2, 0, 0, 0), (168, none, .lsub, 1, 0, 0, 0), (169, none, .lastore, 1, 0, 0, 0), (170, none, .goto (-168), 3, 2, 0, 0)] := fq_of2 cd_656 ow_656 cl_656 rfl (pc := 146) (by decide +kernel)
    j_lst (pc := 146) (L' := [(4, (1, s0)), (0, (4, 602)), (1, (0, x1)), (2, (0, x2)), (3, (0, x3))]) D rfl nl_656 rfl rfl fun D =>
    j_aldn (pc := 148) D rfl rfl rfl fun D =>
    j_gfc (pc := 149) (a := 602) D rfl rfl (by decide) rfl (s0_602 H) rfl (sf_539_602 H) fun D =>
    j_ildn (pc := 152) D rfl rfl rfl fun D =>
    j_sh (pc := 153) D rfl rfl rfl fun D =>
    j_al (pc := 154) (a := 699) (e := 11) D rfl rfl rfl (by decide) (s0_699 H) (s1_699 H) ⟨rfl, rfl, rfl⟩ rfl gn fun qb1 D =>
    j_lld (pc := 155) D rfl rfl rfl fun D =>
    j_lsub (pc := 157) D rfl fun D =>
    j_as (pc := 158) (a := 699) (e := 11) D rfl ⟨rfl, rfl⟩ rfl (by decide) (s0_699 H) (s1_699 H) ⟨rfl, rfl, rfl⟩ rfl (gy qb1) (gy rfl) fun h2 eh2 S q D =>
    have T := fj_hs_ok H.1 S
    have H := shp_st H T
    j_aldn (pc := 159) D rfl rfl rfl fun D =>
    j_gfc (pc := 160) (a := 602) D rfl rfl (by decide) rfl (s0_602 H) rfl (sf_535_602 H) fun D =>
    j_ildn (pc := 163) D rfl rfl rfl fun D =>
    j_sh (pc := 164) D rfl rfl rfl fun D =>
    j_al (pc := 165) (a := 695) (e := 11) D rfl rfl rfl (by decide) (s0_695 H) (s1_695 H) ⟨rfl, rfl, rfl⟩ rfl gn fun qb3 D =>
    j_lld (pc := 166) D rfl rfl rfl fun D =>
    j_lsub (pc := 168) D rfl fun D =>
    j_as (pc := 169) (a := 695) (e := 11) D rfl ⟨rfl, rfl⟩ rfl (by decide) (s0_695 H) (s1_695 H) ⟨rfl, rfl, rfl⟩ rfl (gy qb3) (gy rfl) fun h4 eh4 S q D =>
    have T := fj_hs_ok H.1 S
    have H := shp_st H T
    j_goto (pc := 170) D rfl <|
    fk_jump cut_656_2 rfl rfl
theorem m_656 (d : Nat) (x1 : Int) {h : fi_H} (H : Shp h) : fj_run (d + 1) 656 h [(4, 602), (0, x1)] =
  c_656_2 d x1 1 h := by
  rw [fj_run_eq d (by decide) h [(4, 602), (0, x1)] (Nat.le_of_ble_eq_true (by rw [nl_656]; rfl))]
  show gG (fj_run d) 656 0 [(0, (4, 602)), (1, (0, x1))] [] h = _
  exact
    have D : fk_D 656 [(0, none, .iconst 1, 1, 0, 1, 0), (1, none, .istore_n 2, 1, 0, 0, 0)] := fq_of2 cd_656 ow_656 cl_656 rfl (pc := 0) (by decide +kernel)
    j_ic (pc := 0) D rfl fun D =>
    j_istn (pc := 1) (L' := [(2, (0, 1)), (0, (4, 602)), (1, (0, x1))]) D rfl nl_656 rfl rfl fun D =>
    fk_jump cut_656_2 rfl rfl
/-! 657 StatuteHouseModel.dues(II)I -/
theorem cd_657 : fi_code 657 = prog_69_method_175_code := rfl
theorem hx_657 : ∀ pc, fi_hat 657 pc = none := fun pc => by unfold fi_hat; rw [show fi_hh 657 = [] from rfl]; rfl
theorem rt_657 : fi_ret 657 = some .int := rfl
theorem nl_657 : fi_nl 657 = 3 := rfl
theorem ow_657 : fi_ow 657 = 29 := rfl
theorem cl_657 : fj_cutT.getD 657 [] = [] := rfl
theorem m_657 (d : Nat) (x1 x2 : Int) {h : fi_H} (H : Shp h) : fj_run (d + 1) 657 h [(4, 602), (0, x1), (0, x2)] =
  ca_ (fj_run d 508 h [(1, wI x1), (1, 0), (1, 100000)]) 0
    (fun v2 h1 =>
    if v2 = 0 then
      some (.inl (some (0, (-2))), h1)
    else
      ca_ (fj_run d 508 h1 [(1, wI x2), (1, 1), (1, 600)]) 0
        (fun v5 h4 =>
        if v5 = 0 then
          some (.inl (some (0, (-2))), h4)
        else
          lt_ (fi_upd h4 540 602 0 x1) fun h7 =>
          lt_ (fi_upd h7 541 602 0 x2) fun h8 =>
          some (.inl (some (0, 1)), h8))
        (fun q6 h4 => tx_ q6 h4))
    (fun q3 h1 => tx_ q3 h1) := by
  rw [fj_run_eq d (by decide) h [(4, 602), (0, x1), (0, x2)] (Nat.le_of_ble_eq_true (by rw [nl_657]; rfl))]
  show gG (fj_run d) 657 0 [(0, (4, 602)), (1, (0, x1)), (2, (0, x2))] [] h = _
  exact
    have D : fk_D 657 [(0, none, .iload_n 1, 1, 0, 0, 0), (1, none, .i2l, 1, 0, 0, 0), (2, none, .lconst 0, 1, 0, 0, 0), (3, none, .ldc2_w 1182, 3, 1, 100000, 0), (6, none, .invokestatic 434, 3, 3, 508, 1), (9, none, .ifCond .eq 15, 3, 24, 0, 0), (12, none, .iload_n 2, 1, 0, 0, 0), (13, none, .i2l, 1, 0, 0, 0), (14, none, .lconst 1, 1, 0, 0, 0), (15, none, .ldc2_w 1161, 3, 1, 600, 0), (18, none, .invokestatic 434, 3, 3, 508, 1), (21, none, .ifCond .ne 6, 3, 27, 0, 0), (24, none, .bipush (-2), 2, 0, (-2), 0), (26, none, .ireturn, 1, 0, 0, 0)] := fq_of2 cd_657 ow_657 cl_657 rfl (pc := 0) (by decide +kernel)
    j_ildn (pc := 0) D rfl rfl rfl fun D =>
    j_i2l (pc := 1) D rfl fun D =>
    j_c0 (pc := 2) (v := (1, 0)) D rfl rfl (by decide +kernel) fun D =>
    j_ldc2 (pc := 3) D rfl fun D =>
    j_is (pc := 6) (m := 508) (a := [(1, wI x1), (1, 0), (1, 100000)]) (rest := []) D rfl rfl rfl rfl (fun v2 h1 e1 D =>
      have T := fj_run_ok _ _ _ _ _ _ H.1 e1
      have H := shp_st H T
      j_ifeq (pc := 9) D rfl (fun q =>
        have D : fk_D 657 [(24, none, .bipush (-2), 2, 0, (-2), 0), (26, none, .ireturn, 1, 0, 0, 0)] := fq_of2 cd_657 ow_657 cl_657 rfl (pc := 24) (by decide +kernel)
        j_bp (pc := 24) D rfl fun D =>
        j_iret D rt_657) (fun q D =>
        j_ildn (pc := 12) D rfl rfl rfl fun D =>
        j_i2l (pc := 13) D rfl fun D =>
        j_c0 (pc := 14) (v := (1, 1)) D rfl rfl (by decide +kernel) fun D =>
        j_ldc2 (pc := 15) D rfl fun D =>
        j_is (pc := 18) (m := 508) (a := [(1, wI x2), (1, 1), (1, 600)]) (rest := []) D rfl rfl rfl rfl (fun v5 h4 e1 D =>
          have T := fj_run_ok _ _ _ _ _ _ H.1 e1
          have H := shp_st H T
          j_ifne (pc := 21) D rfl (fun q D =>
            j_bp (pc := 24) D rfl fun D =>
            j_iret D rt_657) (fun q =>
            have D : fk_D 657 [(27, none, .aload_n 0, 1, 0, 0, 0), (28, none, .iload_n 1, 1, 0, 0, 0), (29, none, .putfield 350, 3, 540, 129, 10), (32, none, .aload_n 0, 1, 0, 0, 0), (33, none, .iload_n 2, 1, 0, 0, 0), (34, none, .putfield 353, 3, 541, 129, 10), (37, none, .iconst 1, 1, 0, 1, 0), (38, none, .ireturn, 1, 0, 0, 0)] := fq_of2 cd_657 ow_657 cl_657 rfl (pc := 27) (by decide +kernel)
            j_aldn (pc := 27) D rfl rfl rfl fun D =>
            j_ildn (pc := 28) D rfl rfl rfl fun D =>
            j_pf (pc := 29) (a := 602) D rfl rfl rfl (s0_602 H) rfl rfl (gy (by decide)) (gy rfl) fun h7 eh7 S D =>
            have T := fj_hs_ok H.1 S
            have H := shp_st H T
            j_aldn (pc := 32) D rfl rfl rfl fun D =>
            j_ildn (pc := 33) D rfl rfl rfl fun D =>
            j_pf (pc := 34) (a := 602) D rfl rfl rfl (s0_602 H) rfl rfl (gy (by decide)) (gy rfl) fun h8 eh8 S D =>
            have T := fj_hs_ok H.1 S
            have H := shp_st H T
            j_ic (pc := 37) D rfl fun D =>
            j_iret D rt_657)) (fun q6 h4 e1 =>
          j_tx (hx_657 _)))) (fun q3 h1 e1 =>
      j_tx (hx_657 _))
/-! 658 StatuteHouseModel.pay(IJ)J -/
theorem cd_658 : fi_code 658 = prog_69_method_176_code := rfl
theorem hx_658 : ∀ pc, fi_hat 658 pc = none := fun pc => by unfold fi_hat; rw [show fi_hh 658 = [] from rfl]; rfl
theorem rt_658 : fi_ret 658 = some .long := rfl
theorem nl_658 : fi_nl 658 = 4 := rfl
theorem ow_658 : fi_ow 658 = 29 := rfl
theorem cl_658 : fj_cutT.getD 658 [] = [] := rfl
theorem m_658 (d : Nat) (x1 x2 : Int) {h : fi_H} (H : Shp h) : fj_run (d + 1) 658 h [(4, 602), (0, x1), (1, x2)] =
  ca_ (fj_run d 572 h [(4, 602), (0, x1)]) 0
    (fun v2 h1 =>
    if v2 = 0 then
      some (.inl (some (1, (-1))), h1)
    else
      ca_ (fj_run d 508 h1 [(1, x2), (1, 1), (1, 1000000000000)]) 0
        (fun v5 h4 =>
        if v5 = 0 then
          some (.inl (some (1, (-2))), h4)
        else
          if 0 ≤ x1 ∧ x1 < 30 then
          if 0 < lc_ (wJ ((h4 11 699 x1.toNat) + x2)) 1000000000000000 then
            some (.inl (some (1, (-4))), h4)
          else
            lt_ (fi_upd h4 11 699 x1.toNat (wJ ((h4 11 699 x1.toNat) + x2))) fun h8 =>
            cv_ (fj_run d 656 h8 [(4, 602), (0, x1)])
              (fun h9 =>
              some (.inl (some (1, h9 11 699 x1.toNat)), h9))
              (fun q11 h9 => tx_ q11 h9)
          else none)
        (fun q6 h4 => tx_ q6 h4))
    (fun q3 h1 => tx_ q3 h1) := by
  rw [fj_run_eq d (by decide) h [(4, 602), (0, x1), (1, x2)] (Nat.le_of_ble_eq_true (by rw [nl_658]; rfl))]
  show gG (fj_run d) 658 0 [(0, (4, 602)), (1, (0, x1)), (2, (1, x2))] [] h = _
  exact
    have D : fk_D 658 [(0, none, .aload_n 0, 1, 0, 0, 0), (1, none, .iload_n 1, 1, 0, 0, 0), (2, none, .invokevirtual 1076, 3, 1, 439, 1), (5, none, .ifCond .ne 7, 3, 12, 0, 0), (8, none, .ldc2_w 1024, 3, 1, (-1), 0), (11, none, .lreturn, 1, 0, 0, 0)] := fq_of2 cd_658 ow_658 cl_658 rfl (pc := 0) (by decide +kernel)
    j_aldn (pc := 0) D rfl rfl rfl fun D =>
    j_ildn (pc := 1) D rfl rfl rfl fun D =>
    j_iv (pc := 2) (m := 572) (dd := 439) (a := [(0, x1)]) (rest := []) D rfl rfl rfl rfl rfl (by decide) (s0_602 H) (by decide +kernel) (fun v2 h1 e1 D =>
      have T := fj_run_ok _ _ _ _ _ _ H.1 e1
      have H := shp_st H T
      j_ifne (pc := 5) D rfl (fun q D =>
        j_ldc2 (pc := 8) D rfl fun D =>
        j_lret D rt_658) (fun q =>
        have D : fk_D 658 [(12, none, .lload_n 2, 1, 0, 0, 0), (13, none, .lconst 1, 1, 0, 0, 0), (14, none, .ldc2_w 930, 3, 1, 1000000000000, 0), (17, none, .invokestatic 434, 3, 3, 508, 1), (20, none, .ifCond .ne 7, 3, 27, 0, 0), (23, none, .ldc2_w 1184, 3, 1, (-2), 0), (26, none, .lreturn, 1, 0, 0, 0)] := fq_of2 cd_658 ow_658 cl_658 rfl (pc := 12) (by decide +kernel)
        j_lldn (pc := 12) D rfl rfl rfl fun D =>
        j_c0 (pc := 13) (v := (1, 1)) D rfl rfl (by decide +kernel) fun D =>
        j_ldc2 (pc := 14) D rfl fun D =>
        j_is (pc := 17) (m := 508) (a := [(1, x2), (1, 1), (1, 1000000000000)]) (rest := []) D rfl rfl rfl rfl (fun v5 h4 e1 D =>
          have T := fj_run_ok _ _ _ _ _ _ H.1 e1
          have H := shp_st H T
          j_ifne (pc := 20) D rfl (fun q D =>
            j_ldc2 (pc := 23) D rfl fun D =>
            j_lret D rt_658) (fun q =>
            have D : fk_D 658 [(27, none, .aload_n 0, 1, 0, 0, 0), (28, none, .getfield 347, 3, 539, 129, 12), (31, none, .iload_n 1, 1, 0, 0, 0), (32, none, .laload, 1, 0, 0, 0), (33, none, .lload_n 2, 1, 0, 0, 0), (34, none, .ladd, 1, 0, 0, 0), (35, none, .ldc2_w 1186, 3, 1, 1000000000000000, 0), (38, none, .lcmp, 1, 0, 0, 0), (39, none, .ifCond .le 7, 3, 46, 0, 0), (42, none, .ldc2_w 1188, 3, 1, (-4), 0), (45, none, .lreturn, 1, 0, 0, 0)] := fq_of2 cd_658 ow_658 cl_658 rfl (pc := 27) (by decide +kernel)
            j_aldn (pc := 27) D rfl rfl rfl fun D =>
            j_gfc (pc := 28) (a := 602) D rfl rfl (by decide) rfl (s0_602 H) rfl (sf_539_602 H) fun D =>
            j_ildn (pc := 31) D rfl rfl rfl fun D =>
            j_al (pc := 32) (a := 699) (e := 11) D rfl rfl rfl (by decide) (s0_699 H) (s1_699 H) ⟨rfl, rfl, rfl⟩ rfl gn fun qb7 D =>
            j_lldn (pc := 33) D rfl rfl rfl fun D =>
            j_ladd (pc := 34) D rfl fun D =>
            j_ldc2 (pc := 35) D rfl fun D =>
            j_lcmp (pc := 38) D rfl fun D =>
            j_ifle (pc := 39) D rfl (fun q D =>
              j_ldc2 (pc := 42) D rfl fun D =>
              j_lret D rt_658) (fun q =>
              have D : fk_D 658 [(46, none, .aload_n 0, 1, 0, 0, 0), (47, none, .getfield 347, 3, 539, 129, 12), (50, none, .iload_n 1, 1, 0, 0, 0), (51, none, .dup2, 1, 0, 0, 0), (52, none, .laload, 1, 0, 0, 0), (53, none, .lload_n 2, 1, 0, 0, 0), (54, none, .ladd, 1, 0, 0, 0), (55, none, .lastore, 1, 0, 0, 0), (56, none, .aload_n 0, 1, 0, 0, 0), (57, none, .iload_n 1, 1, 0, 0, 0), (58, none, .invokevirtual 1179, 3, 1, 458, 0), (61, none, .aload_n 0, 1, 0, 0, 0), (62, none, .getfield 347, 3, 539, 129, 12), (65, none, .iload_n 1, 1, 0, 0, 0), (66, none, .laload, 1, 0, 0, 0), (67, none, .lreturn, 1, 0, 0, 0)] := fq_of2 cd_658 ow_658 cl_658 rfl (pc := 46) (by decide +kernel)
              j_aldn (pc := 46) D rfl rfl rfl fun D =>
              j_gfc (pc := 47) (a := 602) D rfl rfl (by decide) rfl (s0_602 H) rfl (sf_539_602 H) fun D =>
              j_ildn (pc := 50) D rfl rfl rfl fun D =>
              j_sh (pc := 51) D rfl rfl rfl fun D =>
              j_al (pc := 52) (a := 699) (e := 11) D rfl rfl rfl (by decide) (s0_699 H) (s1_699 H) ⟨rfl, rfl, rfl⟩ rfl (gy qb7) fun q D =>
              j_lldn (pc := 53) D rfl rfl rfl fun D =>
              j_ladd (pc := 54) D rfl fun D =>
              j_as (pc := 55) (a := 699) (e := 11) D rfl ⟨rfl, rfl⟩ rfl (by decide) (s0_699 H) (s1_699 H) ⟨rfl, rfl, rfl⟩ rfl (gy qb7) (gy rfl) fun h8 eh8 S q D =>
              have T := fj_hs_ok H.1 S
              have H := shp_st H T
              j_aldn (pc := 56) D rfl rfl rfl fun D =>
              j_ildn (pc := 57) D rfl rfl rfl fun D =>
              j_ivv (pc := 58) (m := 656) (dd := 458) (a := [(0, x1)]) (rest := []) D rfl rfl rfl rfl rfl (by decide) (s0_602 H) (by decide +kernel) (fun h9 e1 D =>
                have T := fj_run_ok _ _ _ _ _ _ H.1 e1
                have H := shp_st H T
                j_aldn (pc := 61) D rfl rfl rfl fun D =>
                j_gfc (pc := 62) (a := 602) D rfl rfl (by decide) rfl (s0_602 H) rfl (sf_539_602 H) fun D =>
                j_ildn (pc := 65) D rfl rfl rfl fun D =>
                j_al (pc := 66) (a := 699) (e := 11) D rfl rfl rfl (by decide) (s0_699 H) (s1_699 H) ⟨rfl, rfl, rfl⟩ rfl (gy qb7) fun q D =>
                j_lret D rt_658) (fun q11 h9 e1 =>
                j_tx (hx_658 _))))) (fun q6 h4 e1 =>
          j_tx (hx_658 _)))) (fun q3 h1 e1 =>
      j_tx (hx_658 _))
