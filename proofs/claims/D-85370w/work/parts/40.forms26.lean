/-! forms of methods 659..678, printed by gen/forms.py -/
set_option maxRecDepth 100000
/-! 659 StatuteHouseModel.credit(I)J -/
theorem cd_659 : fi_code 659 = prog_69_method_177_code := rfl
theorem hx_659 : ∀ pc, fi_hat 659 pc = none := fun pc => by unfold fi_hat; rw [show fi_hh 659 = [] from rfl]; rfl
theorem rt_659 : fi_ret 659 = some .long := rfl
theorem nl_659 : fi_nl 659 = 2 := rfl
theorem ow_659 : fi_ow 659 = 29 := rfl
theorem cl_659 : fj_cutT.getD 659 [] = [] := rfl
theorem m_659 (d : Nat) (x1 : Int) {h : fi_H} (H : Shp h) : fj_run (d + 1) 659 h [(4, 602), (0, x1)] =
  ca_ (fj_run d 572 h [(4, 602), (0, x1)]) 0
    (fun v2 h1 =>
    if v2 = 0 then
      some (.inl (some (1, (-1))), h1)
    else
      if 0 ≤ x1 ∧ x1 < 30 then
      some (.inl (some (1, h1 11 699 x1.toNat)), h1)
      else none)
    (fun q3 h1 => tx_ q3 h1) := by
  rw [fj_run_eq d (by decide) h [(4, 602), (0, x1)] (Nat.le_of_ble_eq_true (by rw [nl_659]; rfl))]
  show gG (fj_run d) 659 0 [(0, (4, 602)), (1, (0, x1))] [] h = _
  exact
    have D : fk_D 659 [(0, none, .aload_n 0, 1, 0, 0, 0), (1, none, .iload_n 1, 1, 0, 0, 0), (2, none, .invokevirtual 1076, 3, 1, 439, 1), (5, none, .ifCond .eq 12, 3, 17, 0, 0), (8, none, .aload_n 0, 1, 0, 0, 0), (9, none, .getfield 347, 3, 539, 129, 12), (12, none, .iload_n 1, 1, 0, 0, 0), (13, none, .laload, 1, 0, 0, 0), (14, none, .goto 6, 3, 20, 0, 0)] := fq_of2 cd_659 ow_659 cl_659 rfl (pc := 0) (by decide +kernel)
    j_aldn (pc := 0) D rfl rfl rfl fun D =>
    j_ildn (pc := 1) D rfl rfl rfl fun D =>
    j_iv (pc := 2) (m := 572) (dd := 439) (a := [(0, x1)]) (rest := []) D rfl rfl rfl rfl rfl (by decide) (s0_602 H) (by decide +kernel) (fun v2 h1 e1 D =>
      have T := fj_run_ok _ _ _ _ _ _ H.1 e1
      have H := shp_st H T
      j_ifeq (pc := 5) D rfl (fun q =>
        have D : fk_D 659 [(17, none, .ldc2_w 1024, 3, 1, (-1), 0), (20, none, .lreturn, 1, 0, 0, 0)] := fq_of2 cd_659 ow_659 cl_659 rfl (pc := 17) (by decide +kernel)
        j_ldc2 (pc := 17) D rfl fun D =>
        j_lret D rt_659) (fun q D =>
        j_aldn (pc := 8) D rfl rfl rfl fun D =>
        j_gfc (pc := 9) (a := 602) D rfl rfl (by decide) rfl (s0_602 H) rfl (sf_539_602 H) fun D =>
        j_ildn (pc := 12) D rfl rfl rfl fun D =>
        j_al (pc := 13) (a := 699) (e := 11) D rfl rfl rfl (by decide) (s0_699 H) (s1_699 H) ⟨rfl, rfl, rfl⟩ rfl gn fun qb4 D =>
        j_goto (pc := 14) D rfl <|
        have D : fk_D 659 [(20, none, .lreturn, 1, 0, 0, 0)] := fq_of2 cd_659 ow_659 cl_659 rfl (pc := 20) (by decide +kernel)
        j_lret D rt_659)) (fun q3 h1 e1 =>
      j_tx (hx_659 _))
/-! 660 StatuteHouseModel.remind(I)I -/
theorem cd_660 : fi_code 660 = prog_69_method_179_code := rfl
theorem rt_660 : fi_ret 660 = some .int := rfl
theorem nl_660 : fi_nl 660 = 6 := rfl
theorem ow_660 : fi_ow 660 = 29 := rfl
theorem cl_660 : fj_cutT.getD 660 [] = [(14, [0, 1, 2, 3]), (37, [0, 1, 3]), (81, [0]), (115, [0, 1, 2, 3, 4, 5]), (191, [0, 1, 2, 3, 4, 5])] := rfl
theorem cut_660_14 : fj_cut 660 14 = some [0, 1, 2, 3] := by decide +kernel
noncomputable def c_660_14 (d : Nat) (x1 x2 x3 : Int) (h : fi_H) : fk_R := gG (fj_run d) 660 14 [(0, (4, 602)), (1, (0, x1)), (2, (0, x2)), (3, (0, x3))] [] h
theorem cut_660_37 : fj_cut 660 37 = some [0, 1, 3] := by decide +kernel
noncomputable def c_660_37 (d : Nat) (x1 x3 s0 s1 : Int) (h : fi_H) : fk_R := gG (fj_run d) 660 37 [(0, (4, 602)), (1, (0, x1)), (3, (0, x3))] [(0, s1), (0, s0)] h
theorem cut_660_81 : fj_cut 660 81 = some [0] := by decide +kernel
noncomputable def c_660_81 (d : Nat) (s0 : Int) (h : fi_H) : fk_R := gG (fj_run d) 660 81 [(0, (4, 602))] [(4, s0)] h
theorem cut_660_115 : fj_cut 660 115 = some [0, 1, 2, 3, 4, 5] := by decide +kernel
noncomputable def c_660_115 (d : Nat) (x1 x2 x3 x4 x5 : Int) (h : fi_H) : fk_R := gG (fj_run d) 660 115 [(0, (4, 602)), (1, (0, x1)), (2, (0, x2)), (3, (0, x3)), (4, (0, x4)), (5, (0, x5))] [] h
theorem cut_660_191 : fj_cut 660 191 = some [0, 1, 2, 3, 4, 5] := by decide +kernel
noncomputable def c_660_191 (d : Nat) (x1 x2 x3 x4 x5 : Int) (h : fi_H) : fk_R := gG (fj_run d) 660 191 [(0, (4, 602)), (1, (0, x1)), (2, (0, x2)), (3, (0, x3)), (4, (0, x4)), (5, (0, x5))] [] h
theorem e_660_14 (d : Nat) (x1 x2 x3 : Int) {h : fi_H} (H : Shp h) : c_660_14 d x1 x2 x3 h =
  if x3 < h 542 602 0 then
    ca_ (fj_run d 661 h [(4, 602), (0, x3), (0, x1)]) 0
      (fun v2 h1 =>
      if v2 = 0 then
        c_660_37 d x1 x3 x2 0 h1
      else
        c_660_37 d x1 x3 x2 1 h1)
      (fun q3 h1 => tx_ q3 h1)
  else
    if x2 = 0 then
      some (.inl (some (0, 0)), h)
    else
      cv_ (fj_run d 574 h [(4, 602), (0, 0), (0, 0), (0, 0), (0, h 449 602 0)])
        (fun h4 =>
        ca_ (fj_run d 618 h4 [(4, 602), (0, h4 449 602 0), (0, 0), (0, 14)]) 0
          (fun v8 h7 =>
          ca_ (fj_run d 653 h7 [(4, 602), (0, v8)]) 0
            (fun v11 h10 =>
            if 400 < wI ((h10 542 602 0) + x2) then
              some (.inl (some (0, (-4))), h10)
            else
              c_660_115 d x1 x2 v11 (h10 542 602 0) 0 h10)
            (fun q12 h10 => tc_ 130 q12 h10 (c_660_81 d (q12 : Int) h10)))
          (fun q9 h7 => tc_ 130 q9 h7 (c_660_81 d (q9 : Int) h7)))
        (fun q6 h4 => tc_ 130 q6 h4 (c_660_81 d (q6 : Int) h4)) := by
  unfold c_660_14
  exact
    have D : fk_D 660 [(14, some [0, 1, 2, 3], .iload_n 3, 1, 0, 0, 0), (15, none, .aload_n 0, 1, 0, 0, 0), (16, none, .getfield 1098, 3, 542, 129, 10), (19, none, .if_icmp .ge 26, 3, 45, 0, 0), (22, none, .iload_n 2, 1, 0, 0, 0), (23, none, .aload_n 0, 1, 0, 0, 0), (24, none, .iload_n 3, 1, 0, 0, 0), (25, none, .iload_n 1, 1, 0, 0, 0), (26, none, .invokevirtual 1190, 3, 2, 459, 1), (29, none, .ifCond .eq 7, 3, 36, 0, 0), (32, none, .iconst 1, 1, 0, 1, 0), (33, none, .goto 4, 3, 37, 0, 0)] := fq_of2 cd_660 ow_660 cl_660 rfl (pc := 14) (by decide +kernel)
    j_ildn (pc := 14) D rfl rfl rfl fun D =>
    j_aldn (pc := 15) D rfl rfl rfl fun D =>
    j_gf (pc := 16) (a := 602) D rfl rfl (by decide) rfl (s0_602 H) rfl fun D =>
    j_ige (pc := 19) D rfl (fun q D =>
      j_ildn (pc := 22) D rfl rfl rfl fun D =>
      j_aldn (pc := 23) D rfl rfl rfl fun D =>
      j_ildn (pc := 24) D rfl rfl rfl fun D =>
      j_ildn (pc := 25) D rfl rfl rfl fun D =>
      j_iv (pc := 26) (m := 661) (dd := 459) (a := [(0, x3), (0, x1)]) (rest := [(0, x2)]) D rfl rfl rfl rfl rfl (by decide) (s0_602 H) (by decide +kernel) (fun v2 h1 e1 D =>
        have T := fj_run_ok _ _ _ _ _ _ H.1 e1
        have H := shp_st H T
        j_ifeq (pc := 29) D rfl (fun q =>
          have D : fk_D 660 [(36, none, .iconst 0, 1, 0, 0, 0)] := fq_of2 cd_660 ow_660 cl_660 rfl (pc := 36) (by decide +kernel)
          j_ic (pc := 36) D rfl fun D =>
          fk_jump cut_660_37 rfl rfl) (fun q D =>
          j_ic (pc := 32) D rfl fun D =>
          j_goto (pc := 33) D rfl <|
          fk_jump cut_660_37 rfl rfl)) (fun q3 h1 e1 =>
        j_tx (by decide +kernel))) (fun q =>
      have D : fk_D 660 [(45, none, .iload_n 2, 1, 0, 0, 0), (46, none, .ifCond .ne 5, 3, 51, 0, 0), (49, none, .iconst 0, 1, 0, 0, 0), (50, none, .ireturn, 1, 0, 0, 0)] := fq_of2 cd_660 ow_660 cl_660 rfl (pc := 45) (by decide +kernel)
      j_ildn (pc := 45) D rfl rfl rfl fun D =>
      j_ifne (pc := 46) D rfl (fun q D =>
        j_ic (pc := 49) D rfl fun D =>
        j_iret D rt_660) (fun q =>
        have D : fk_D 660 [(51, none, .aload_n 0, 1, 0, 0, 0), (52, none, .iconst 0, 1, 0, 0, 0), (53, none, .iconst 0, 1, 0, 0, 0), (54, none, .iconst 0, 1, 0, 0, 0), (55, none, .aload_n 0, 1, 0, 0, 0), (56, none, .getfield 141, 3, 449, 129, 10), (59, none, .invokevirtual 1086, 3, 4, 442, 0), (62, none, .aload_n 0, 1, 0, 0, 0), (63, none, .aload_n 0, 1, 0, 0, 0), (64, none, .aload_n 0, 1, 0, 0, 0), (65, none, .getfield 141, 3, 449, 129, 10), (68, none, .iconst 0, 1, 0, 0, 0), (69, none, .bipush 14, 2, 0, 14, 0), (71, none, .invokevirtual 1017, 3, 3, 430, 1), (74, none, .invokevirtual 1168, 3, 1, 455, 1), (77, none, .istore_n 3, 1, 0, 0, 0), (78, none, .goto 13, 3, 91, 0, 0)] := fq_of2 cd_660 ow_660 cl_660 rfl (pc := 51) (by decide +kernel)
        j_aldn (pc := 51) D rfl rfl rfl fun D =>
        j_ic (pc := 52) D rfl fun D =>
        j_ic (pc := 53) D rfl fun D =>
        j_ic (pc := 54) D rfl fun D =>
        j_aldn (pc := 55) D rfl rfl rfl fun D =>
        j_gf (pc := 56) (a := 602) D rfl rfl (by decide) rfl (s0_602 H) rfl fun D =>
        j_ivv (pc := 59) (m := 574) (dd := 442) (a := [(0, 0), (0, 0), (0, 0), (0, h 449 602 0)]) (rest := []) D rfl rfl rfl rfl rfl (by decide) (s0_602 H) (by decide +kernel) (fun h4 e1 D =>
          have T := fj_run_ok _ _ _ _ _ _ H.1 e1
          have H := shp_st H T
          j_aldn (pc := 62) D rfl rfl rfl fun D =>
          j_aldn (pc := 63) D rfl rfl rfl fun D =>
          j_aldn (pc := 64) D rfl rfl rfl fun D =>
          j_gf (pc := 65) (a := 602) D rfl rfl (by decide) rfl (s0_602 H) rfl fun D =>
          j_ic (pc := 68) D rfl fun D =>
          j_bp (pc := 69) D rfl fun D =>
          j_iv (pc := 71) (m := 618) (dd := 430) (a := [(0, h4 449 602 0), (0, 0), (0, 14)]) (rest := [(4, 602)]) D rfl rfl rfl rfl rfl (by decide) (s0_602 H) (by decide +kernel) (fun v8 h7 e1 D =>
            have T := fj_run_ok _ _ _ _ _ _ H.1 e1
            have H := shp_st H T
            j_iv (pc := 74) (m := 653) (dd := 455) (a := [(0, v8)]) (rest := []) D rfl rfl rfl rfl rfl (by decide) (s0_602 H) (by decide +kernel) (fun v11 h10 e1 D =>
              have T := fj_run_ok _ _ _ _ _ _ H.1 e1
              have H := shp_st H T
              j_istn (pc := 77) (L' := [(3, (0, v11)), (0, (4, 602)), (1, (0, x1)), (2, (0, x2))]) D rfl nl_660 rfl rfl fun D =>
              j_goto (pc := 78) D rfl <|
              have D : fk_D 660 [(91, none, .aload_n 0, 1, 0, 0, 0), (92, none, .getfield 1098, 3, 542, 129, 10), (95, none, .iload_n 2, 1, 0, 0, 0), (96, none, .iadd, 1, 0, 0, 0), (97, none, .sipush 400, 3, 0, 400, 0), (100, none, .if_icmp .le 6, 3, 106, 0, 0), (103, none, .bipush (-4), 2, 0, (-4), 0), (105, none, .ireturn, 1, 0, 0, 0)] := fq_of2 cd_660 ow_660 cl_660 rfl (pc := 91) (by decide +kernel)
              j_aldn (pc := 91) D rfl rfl rfl fun D =>
              j_gf (pc := 92) (a := 602) D rfl rfl (by decide) rfl (s0_602 H) rfl fun D =>
              j_ildn (pc := 95) D rfl rfl rfl fun D =>
              j_iadd (pc := 96) D rfl fun D =>
              j_sp (pc := 97) D rfl fun D =>
              j_ile (pc := 100) D rfl (fun q D =>
                j_bp (pc := 103) D rfl fun D =>
                j_iret D rt_660) (fun q =>
                have D : fk_D 660 [(106, none, .aload_n 0, 1, 0, 0, 0), (107, none, .getfield 1098, 3, 542, 129, 10), (110, none, .istore 4, 2, 0, 0, 0), (112, none, .iconst 0, 1, 0, 0, 0), (113, none, .istore 5, 2, 0, 0, 0)] := fq_of2 cd_660 ow_660 cl_660 rfl (pc := 106) (by decide +kernel)
                j_aldn (pc := 106) D rfl rfl rfl fun D =>
                j_gf (pc := 107) (a := 602) D rfl rfl (by decide) rfl (s0_602 H) rfl fun D =>
                j_ist (pc := 110) (L' := [(4, (0, h10 542 602 0)), (3, (0, v11)), (0, (4, 602)), (1, (0, x1)), (2, (0, x2))]) D rfl nl_660 rfl rfl fun D =>
                j_ic (pc := 112) D rfl fun D =>
                j_ist (pc := 113) (L' := [(5, (0, 0)), (4, (0, h10 542 602 0)), (3, (0, v11)), (0, (4, 602)), (1, (0, x1)), (2, (0, x2))]) D rfl nl_660 rfl rfl fun D =>
                fk_jump cut_660_115 rfl rfl)) (fun q12 h10 e1 =>
              j_tc_ (n := 130) (fk_at (cu := none) (by decide +kernel) rfl) (s := 51) (e := 78) (hp := 81) (ct := 9) (by decide +kernel) rfl (by decide +kernel) <|
              fk_jump cut_660_81 rfl rfl)) (fun q9 h7 e1 =>
            j_tc_ (n := 130) (fk_at (cu := none) (by decide +kernel) rfl) (s := 51) (e := 78) (hp := 81) (ct := 9) (by decide +kernel) rfl (by decide +kernel) <|
            fk_jump cut_660_81 rfl rfl)) (fun q6 h4 e1 =>
          j_tc_ (n := 130) (fk_at (cu := none) (by decide +kernel) rfl) (s := 51) (e := 78) (hp := 81) (ct := 9) (by decide +kernel) rfl (by decide +kernel) <|
          fk_jump cut_660_81 rfl rfl)))
theorem e_660_37 (d : Nat) (x1 x3 s0 s1 : Int) {h : fi_H} (H : Shp h) : c_660_37 d x1 x3 s0 s1 h =
  c_660_14 d x1 (wI (s0 + s1)) (wI (x3 + 1)) h := by
  unfold c_660_37
  exact
    have D : fk_D 660 [(37, some [0, 1, 3], .iadd, 1, 0, 0, 0), (38, none, .istore_n 2, 1, 0, 0, 0), (39, none, .iinc 3 1, 3, 0, 1, 0), (42, none, .goto (-28), 3, 14, 0, 0)] := fq_of2 cd_660 ow_660 cl_660 rfl (pc := 37) (by decide +kernel)
    j_iadd (pc := 37) D rfl fun D =>
    j_istn (pc := 38) (L' := [(2, (0, wI (s0 + s1))), (0, (4, 602)), (1, (0, x1)), (3, (0, x3))]) D rfl nl_660 rfl rfl fun D =>
    j_inc (pc := 39) (L' := [(3, (0, wI (x3 + 1))), (2, (0, wI (s0 + s1))), (0, (4, 602)), (1, (0, x1))]) D rfl rfl rfl (by decide +kernel) rfl fun D =>
    j_goto (pc := 42) D rfl <|
    fk_jump cut_660_14 rfl rfl
theorem e_660_81 (d : Nat) (s0 : Int) {h : fi_H} (H : Shp h) : c_660_81 d s0 h =
  some (.inl (some (0, wI ((-10) - (h 475 602 0)))), h) := by
  unfold c_660_81
  exact
    have D : fk_D 660 [(81, some [0], .astore 4, 2, 0, 0, 0), (83, none, .bipush (-10), 2, 0, (-10), 0), (85, none, .aload_n 0, 1, 0, 0, 0), (86, none, .getfield 839, 3, 475, 129, 10), (89, none, .isub, 1, 0, 0, 0), (90, none, .ireturn, 1, 0, 0, 0)] := fq_of2 cd_660 ow_660 cl_660 rfl (pc := 81) (by decide +kernel)
    j_ast (pc := 81) (L' := [(4, (4, s0)), (0, (4, 602))]) D rfl nl_660 rfl rfl fun D =>
    j_bp (pc := 83) D rfl fun D =>
    j_aldn (pc := 85) D rfl rfl rfl fun D =>
    j_gf (pc := 86) (a := 602) D rfl rfl (by decide) rfl (s0_602 H) rfl fun D =>
    j_isub (pc := 89) D rfl fun D =>
    j_iret D rt_660
theorem e_660_115 (d : Nat) (x1 x2 x3 x4 x5 : Int) {h : fi_H} (H : Shp h) : c_660_115 d x1 x2 x3 x4 x5 h =
  if x5 < x4 then
    ca_ (fj_run d 661 h [(4, 602), (0, x5), (0, x1)]) 0
      (fun v2 h1 =>
      if v2 = 0 then
        c_660_191 d x1 x2 x3 x4 x5 h1
      else
        if 0 ≤ x5 ∧ x5 < 440 then
        lt_ (fi_upd h1 10 696 x5.toNat (wI ((h1 10 696 x5.toNat) + 1))) fun h5 =>
        lt_ (fi_upd h5 10 697 x5.toNat (h5 449 602 0)) fun h6 =>
        cv_ (fj_run d 655 h6 [(4, 602), (0, h6 10 690 x5.toNat), (0, h6 10 691 x5.toNat), (1, wJ ((wI (h6 540 602 0)) * (wI (h6 10 696 x5.toNat)))), (0, x3), (0, 3)])
          (fun h7 =>
          c_660_191 d x1 x2 x3 x4 x5 h7)
          (fun q9 h7 => tx_ q9 h7)
        else none)
      (fun q3 h1 => tx_ q3 h1)
  else
    cv_ (fj_run d 656 h [(4, 602), (0, x1)])
      (fun h10 =>
      some (.inl (some (0, x2)), h10))
      (fun q12 h10 => tx_ q12 h10) := by
  unfold c_660_115
  exact
    have D : fk_D 660 [(115, some [0, 1, 2, 3, 4, 5], .iload 5, 2, 0, 0, 0), (117, none, .iload 4, 2, 0, 0, 0), (119, none, .if_icmp .ge 78, 3, 197, 0, 0), (122, none, .aload_n 0, 1, 0, 0, 0), (123, none, .iload 5, 2, 0, 0, 0), (125, none, .iload_n 1, 1, 0, 0, 0), (126, none, .invokevirtual 1190, 3, 2, 459, 1), (129, none, .ifCond .ne 6, 3, 135, 0, 0), (132, none, .goto 59, 3, 191, 0, 0)] := fq_of2 cd_660 ow_660 cl_660 rfl (pc := 115) (by decide +kernel)
    j_ild (pc := 115) D rfl rfl rfl fun D =>
    j_ild (pc := 117) D rfl rfl rfl fun D =>
    j_ige (pc := 119) D rfl (fun q D =>
      j_aldn (pc := 122) D rfl rfl rfl fun D =>
      j_ild (pc := 123) D rfl rfl rfl fun D =>
      j_ildn (pc := 125) D rfl rfl rfl fun D =>
      j_iv (pc := 126) (m := 661) (dd := 459) (a := [(0, x5), (0, x1)]) (rest := []) D rfl rfl rfl rfl rfl (by decide) (s0_602 H) (by decide +kernel) (fun v2 h1 e1 D =>
        have T := fj_run_ok _ _ _ _ _ _ H.1 e1
        have H := shp_st H T
        j_ifne (pc := 129) D rfl (fun q D =>
          j_goto (pc := 132) D rfl <|
          fk_jump cut_660_191 rfl rfl) (fun q =>
          have D : fk_D 660 [(135, none, .aload_n 0, 1, 0, 0, 0), (136, none, .getfield 338, 3, 536, 129, 12), (139, none, .iload 5, 2, 0, 0, 0), (141, none, .dup2, 1, 0, 0, 0), (142, none, .iaload, 1, 0, 0, 0), (143, none, .iconst 1, 1, 0, 1, 0), (144, none, .iadd, 1, 0, 0, 0), (145, none, .iastore, 1, 0, 0, 0), (146, none, .aload_n 0, 1, 0, 0, 0), (147, none, .getfield 341, 3, 537, 129, 12), (150, none, .iload 5, 2, 0, 0, 0), (152, none, .aload_n 0, 1, 0, 0, 0), (153, none, .getfield 141, 3, 449, 129, 10), (156, none, .iastore, 1, 0, 0, 0), (157, none, .aload_n 0, 1, 0, 0, 0), (158, none, .aload_n 0, 1, 0, 0, 0), (159, none, .getfield 320, 3, 530, 129, 12), (162, none, .iload 5, 2, 0, 0, 0), (164, none, .iaload, 1, 0, 0, 0), (165, none, .aload_n 0, 1, 0, 0, 0)] := fq_of2 cd_660 ow_660 cl_660 rfl (pc := 135) (by decide +kernel)
          j_aldn (pc := 135) D rfl rfl rfl fun D =>
          j_gfc (pc := 136) (a := 602) D rfl rfl (by decide) rfl (s0_602 H) rfl (sf_536_602 H) fun D =>
          j_ild (pc := 139) D rfl rfl rfl fun D =>
          j_sh (pc := 141) D rfl rfl rfl fun D =>
          j_al (pc := 142) (a := 696) (e := 10) D rfl rfl rfl (by decide) (s0_696 H) (s1_696 H) ⟨rfl, rfl, rfl⟩ rfl gn fun qb4 D =>
          j_ic (pc := 143) D rfl fun D =>
          j_iadd (pc := 144) D rfl fun D =>
          j_as (pc := 145) (a := 696) (e := 10) D rfl ⟨rfl, rfl⟩ rfl (by decide) (s0_696 H) (s1_696 H) ⟨rfl, rfl, rfl⟩ rfl (gy qb4) (gy rfl) fun h5 eh5 S q D =>
          have T := fj_hs_ok H.1 S
          have H := shp_st H T
          j_aldn (pc := 146) D rfl rfl rfl fun D =>
          j_gfc (pc := 147) (a := 602) D rfl rfl (by decide) rfl (s0_602 H) rfl (sf_537_602 H) fun D =>
          j_ild (pc := 150) D rfl rfl rfl fun D =>
          j_aldn (pc := 152) D rfl rfl rfl fun D =>
          j_gf (pc := 153) (a := 602) D rfl rfl (by decide) rfl (s0_602 H) rfl fun D =>
          j_as (pc := 156) (a := 697) (e := 10) D rfl ⟨rfl, rfl⟩ rfl (by decide) (s0_697 H) (s1_697 H) ⟨rfl, rfl, rfl⟩ rfl (gy qb4) (gy rfl) fun h6 eh6 S q D =>
          have T := fj_hs_ok H.1 S
          have H := shp_st H T
          j_aldn (pc := 157) D rfl rfl rfl fun D =>
          j_aldn (pc := 158) D rfl rfl rfl fun D =>
          j_gfc (pc := 159) (a := 602) D rfl rfl (by decide) rfl (s0_602 H) rfl (sf_530_602 H) fun D =>
          j_ild (pc := 162) D rfl rfl rfl fun D =>
          j_al (pc := 164) (a := 690) (e := 10) D rfl rfl rfl (by decide) (s0_690 H) (s1_690 H) ⟨rfl, rfl, rfl⟩ rfl (gy qb4) fun q D =>
          j_aldn (pc := 165) D rfl rfl rfl fun D =>
          have D : fk_D 660 [(166, none, .getfield 323, 3, 531, 129, 12), (169, none, .iload 5, 2, 0, 0, 0), (171, none, .iaload, 1, 0, 0, 0), (172, none, .aload_n 0, 1, 0, 0, 0), (173, none, .getfield 350, 3, 540, 129, 10), (176, none, .i2l, 1, 0, 0, 0), (177, none, .aload_n 0, 1, 0, 0, 0), (178, none, .getfield 338, 3, 536, 129, 12), (181, none, .iload 5, 2, 0, 0, 0), (183, none, .iaload, 1, 0, 0, 0), (184, none, .i2l, 1, 0, 0, 0), (185, none, .lmul, 1, 0, 0, 0), (186, none, .iload_n 3, 1, 0, 0, 0), (187, none, .iconst 3, 1, 0, 3, 0), (188, none, .invokevirtual 1175, 3, 5, 457, 0)] := fq_of2 cd_660 ow_660 cl_660 rfl (pc := 166) (by decide +kernel)
          j_gfc (pc := 166) (a := 602) D rfl rfl (by decide) rfl (s0_602 H) rfl (sf_531_602 H) fun D =>
          j_ild (pc := 169) D rfl rfl rfl fun D =>
          j_al (pc := 171) (a := 691) (e := 10) D rfl rfl rfl (by decide) (s0_691 H) (s1_691 H) ⟨rfl, rfl, rfl⟩ rfl (gy qb4) fun q D =>
          j_aldn (pc := 172) D rfl rfl rfl fun D =>
          j_gf (pc := 173) (a := 602) D rfl rfl (by decide) rfl (s0_602 H) rfl fun D =>
          j_i2l (pc := 176) D rfl fun D =>
          j_aldn (pc := 177) D rfl rfl rfl fun D =>
          j_gfc (pc := 178) (a := 602) D rfl rfl (by decide) rfl (s0_602 H) rfl (sf_536_602 H) fun D =>
          j_ild (pc := 181) D rfl rfl rfl fun D =>
          j_al (pc := 183) (a := 696) (e := 10) D rfl rfl rfl (by decide) (s0_696 H) (s1_696 H) ⟨rfl, rfl, rfl⟩ rfl (gy qb4) fun q D =>
          j_i2l (pc := 184) D rfl fun D =>
          j_lmul (pc := 185) D rfl fun D =>
          j_ildn (pc := 186) D rfl rfl rfl fun D =>
          j_ic (pc := 187) D rfl fun D =>
          j_ivv (pc := 188) (m := 655) (dd := 457) (a := [(0, h6 10 690 x5.toNat), (0, h6 10 691 x5.toNat), (1, wJ ((wI (h6 540 602 0)) * (wI (h6 10 696 x5.toNat)))), (0, x3), (0, 3)]) (rest := []) D rfl rfl rfl rfl rfl (by decide) (s0_602 H) (by decide +kernel) (fun h7 e1 D =>
            have T := fj_run_ok _ _ _ _ _ _ H.1 e1
            have H := shp_st H T
            fk_jump cut_660_191 rfl rfl) (fun q9 h7 e1 =>
            j_tx (by decide +kernel)))) (fun q3 h1 e1 =>
        j_tx (by decide +kernel))) (fun q =>
      have D : fk_D 660 [(197, none, .aload_n 0, 1, 0, 0, 0), (198, none, .iload_n 1, 1, 0, 0, 0), (199, none, .invokevirtual 1179, 3, 1, 458, 0), (202, none, .iload_n 2, 1, 0, 0, 0), (203, none, .ireturn, 1, 0, 0, 0)] := fq_of2 cd_660 ow_660 cl_660 rfl (pc := 197) (by decide +kernel)
      j_aldn (pc := 197) D rfl rfl rfl fun D =>
      j_ildn (pc := 198) D rfl rfl rfl fun D =>
      j_ivv (pc := 199) (m := 656) (dd := 458) (a := [(0, x1)]) (rest := []) D rfl rfl rfl rfl rfl (by decide) (s0_602 H) (by decide +kernel) (fun h10 e1 D =>
        have T := fj_run_ok _ _ _ _ _ _ H.1 e1
        have H := shp_st H T
        j_ildn (pc := 202) D rfl rfl rfl fun D =>
        j_iret D rt_660) (fun q12 h10 e1 =>
        j_tx (by decide +kernel)))
theorem e_660_191 (d : Nat) (x1 x2 x3 x4 x5 : Int) {h : fi_H} (H : Shp h) : c_660_191 d x1 x2 x3 x4 x5 h =
  c_660_115 d x1 x2 x3 x4 (wI (x5 + 1)) h := by
  unfold c_660_191
  exact
    have D : fk_D 660 [(191, some [0, 1, 2, 3, 4, 5], .iinc 5 1, 3, 0, 1, 0), (194, none, .goto (-79), 3, 115, 0, 0)] := fq_of2 cd_660 ow_660 cl_660 rfl (pc := 191) (by decide +kernel)
    j_inc (pc := 191) (L' := [(5, (0, wI (x5 + 1))), (0, (4, 602)), (1, (0, x1)), (2, (0, x2)), (3, (0, x3)), (4, (0, x4))]) D rfl rfl rfl (by decide +kernel) rfl fun D =>
    j_goto (pc := 194) D rfl <|
    fk_jump cut_660_115 rfl rfl
theorem m_660 (d : Nat) (x1 : Int) {h : fi_H} (H : Shp h) : fj_run (d + 1) 660 h [(4, 602), (0, x1)] =
  ca_ (fj_run d 572 h [(4, 602), (0, x1)]) 0
    (fun v2 h1 =>
    if v2 = 0 then
      some (.inl (some (0, (-1))), h1)
    else
      c_660_14 d x1 0 0 h1)
    (fun q3 h1 => tx_ q3 h1) := by
  rw [fj_run_eq d (by decide) h [(4, 602), (0, x1)] (Nat.le_of_ble_eq_true (by rw [nl_660]; rfl))]
  show gG (fj_run d) 660 0 [(0, (4, 602)), (1, (0, x1))] [] h = _
  exact
    have D : fk_D 660 [(0, none, .aload_n 0, 1, 0, 0, 0), (1, none, .iload_n 1, 1, 0, 0, 0), (2, none, .invokevirtual 1076, 3, 1, 439, 1), (5, none, .ifCond .ne 5, 3, 10, 0, 0), (8, none, .iconst (-1), 1, 0, (-1), 0), (9, none, .ireturn, 1, 0, 0, 0)] := fq_of2 cd_660 ow_660 cl_660 rfl (pc := 0) (by decide +kernel)
    j_aldn (pc := 0) D rfl rfl rfl fun D =>
    j_ildn (pc := 1) D rfl rfl rfl fun D =>
    j_iv (pc := 2) (m := 572) (dd := 439) (a := [(0, x1)]) (rest := []) D rfl rfl rfl rfl rfl (by decide) (s0_602 H) (by decide +kernel) (fun v2 h1 e1 D =>
      have T := fj_run_ok _ _ _ _ _ _ H.1 e1
      have H := shp_st H T
      j_ifne (pc := 5) D rfl (fun q D =>
        j_ic (pc := 8) D rfl fun D =>
        j_iret D rt_660) (fun q =>
        have D : fk_D 660 [(10, none, .iconst 0, 1, 0, 0, 0), (11, none, .istore_n 2, 1, 0, 0, 0), (12, none, .iconst 0, 1, 0, 0, 0), (13, none, .istore_n 3, 1, 0, 0, 0)] := fq_of2 cd_660 ow_660 cl_660 rfl (pc := 10) (by decide +kernel)
        j_ic (pc := 10) D rfl fun D =>
        j_istn (pc := 11) (L' := [(2, (0, 0)), (0, (4, 602)), (1, (0, x1))]) D rfl nl_660 rfl rfl fun D =>
        j_ic (pc := 12) D rfl fun D =>
        j_istn (pc := 13) (L' := [(3, (0, 0)), (2, (0, 0)), (0, (4, 602)), (1, (0, x1))]) D rfl nl_660 rfl rfl fun D =>
        fk_jump cut_660_14 rfl rfl)) (fun q3 h1 e1 =>
      j_tx (by decide +kernel))
/-! 661 StatuteHouseModel.mayRemind(II)Z -/
theorem cd_661 : fi_code 661 = prog_69_method_178_code := rfl
theorem hx_661 : ∀ pc, fi_hat 661 pc = none := fun pc => by unfold fi_hat; rw [show fi_hh 661 = [] from rfl]; rfl
theorem rt_661 : fi_ret 661 = some .boolean := rfl
theorem nl_661 : fi_nl 661 = 4 := rfl
theorem ow_661 : fi_ow 661 = 29 := rfl
theorem cl_661 : fj_cutT.getD 661 [] = [(54, [0, 1]), (55, [0, 1])] := rfl
theorem cut_661_54 : fj_cut 661 54 = some [0, 1] := by decide +kernel
noncomputable def c_661_54 (d : Nat) (x1 : Int) (h : fi_H) : fk_R := gG (fj_run d) 661 54 [(0, (4, 602)), (1, (0, x1))] [] h
theorem cut_661_55 : fj_cut 661 55 = some [0, 1] := by decide +kernel
noncomputable def c_661_55 (d : Nat) (x1 s0 : Int) (h : fi_H) : fk_R := gG (fj_run d) 661 55 [(0, (4, 602)), (1, (0, x1))] [(0, s0)] h
theorem e_661_54 (d : Nat) (x1 : Int) {h : fi_H} (H : Shp h) : c_661_54 d x1 h =
  c_661_55 d x1 0 h := by
  unfold c_661_54
  exact
    have D : fk_D 661 [(54, some [0, 1], .iconst 0, 1, 0, 0, 0)] := fq_of2 cd_661 ow_661 cl_661 rfl (pc := 54) (by decide +kernel)
    j_ic (pc := 54) D rfl fun D =>
    fk_jump cut_661_55 rfl rfl
theorem e_661_55 (d : Nat) (x1 s0 : Int) {h : fi_H} (H : Shp h) : c_661_55 d x1 s0 h =
  if s0 = 0 then
    some (.inl (some (0, 0)), h)
  else
    if 0 ≤ x1 ∧ x1 < 440 then
    if wI ((h 10 693 x1.toNat) + 14) < h 449 602 0 then
      if h 10 697 x1.toNat = (-1) then
        some (.inl (some (0, 1)), h)
      else
        if wI ((h 10 697 x1.toNat) + 14) < h 449 602 0 then
          some (.inl (some (0, 1)), h)
        else
          some (.inl (some (0, 0)), h)
    else
      some (.inl (some (0, 0)), h)
    else none := by
  unfold c_661_55
  exact
    have D : fk_D 661 [(55, some [0, 1], .istore_n 3, 1, 0, 0, 0), (56, none, .iload_n 3, 1, 0, 0, 0), (57, none, .ifCond .eq 49, 3, 106, 0, 0), (60, none, .aload_n 0, 1, 0, 0, 0), (61, none, .getfield 329, 3, 533, 129, 12), (64, none, .iload_n 1, 1, 0, 0, 0), (65, none, .iaload, 1, 0, 0, 0), (66, none, .bipush 14, 2, 0, 14, 0), (68, none, .iadd, 1, 0, 0, 0), (69, none, .aload_n 0, 1, 0, 0, 0), (70, none, .getfield 141, 3, 449, 129, 10), (73, none, .if_icmp .ge 33, 3, 106, 0, 0), (76, none, .aload_n 0, 1, 0, 0, 0), (77, none, .getfield 341, 3, 537, 129, 12), (80, none, .iload_n 1, 1, 0, 0, 0), (81, none, .iaload, 1, 0, 0, 0), (82, none, .iconst (-1), 1, 0, (-1), 0), (83, none, .if_icmp .eq 19, 3, 102, 0, 0), (86, none, .aload_n 0, 1, 0, 0, 0), (87, none, .getfield 341, 3, 537, 129, 12)] := fq_of2 cd_661 ow_661 cl_661 rfl (pc := 55) (by decide +kernel)
    j_istn (pc := 55) (L' := [(3, (0, s0)), (0, (4, 602)), (1, (0, x1))]) D rfl nl_661 rfl rfl fun D =>
    j_ildn (pc := 56) D rfl rfl rfl fun D =>
    j_ifeq (pc := 57) D rfl (fun q =>
      have D : fk_D 661 [(106, none, .iconst 0, 1, 0, 0, 0), (107, none, .ireturn, 1, 0, 0, 0)] := fq_of2 cd_661 ow_661 cl_661 rfl (pc := 106) (by decide +kernel)
      j_ic (pc := 106) D rfl fun D =>
      j_zret D rt_661 (gy (by decide))) (fun q D =>
      j_aldn (pc := 60) D rfl rfl rfl fun D =>
      j_gfc (pc := 61) (a := 602) D rfl rfl (by decide) rfl (s0_602 H) rfl (sf_533_602 H) fun D =>
      j_ildn (pc := 64) D rfl rfl rfl fun D =>
      j_al (pc := 65) (a := 693) (e := 10) D rfl rfl rfl (by decide) (s0_693 H) (s1_693 H) ⟨rfl, rfl, rfl⟩ rfl gn fun qb1 D =>
      j_bp (pc := 66) D rfl fun D =>
      j_iadd (pc := 68) D rfl fun D =>
      j_aldn (pc := 69) D rfl rfl rfl fun D =>
      j_gf (pc := 70) (a := 602) D rfl rfl (by decide) rfl (s0_602 H) rfl fun D =>
      j_ige (pc := 73) D rfl (fun q D =>
        j_aldn (pc := 76) D rfl rfl rfl fun D =>
        j_gfc (pc := 77) (a := 602) D rfl rfl (by decide) rfl (s0_602 H) rfl (sf_537_602 H) fun D =>
        j_ildn (pc := 80) D rfl rfl rfl fun D =>
        j_al (pc := 81) (a := 697) (e := 10) D rfl rfl rfl (by decide) (s0_697 H) (s1_697 H) ⟨rfl, rfl, rfl⟩ rfl (gy qb1) fun q D =>
        j_ic (pc := 82) D rfl fun D =>
        j_ieq (pc := 83) D rfl (fun q =>
          have D : fk_D 661 [(102, none, .iconst 1, 1, 0, 1, 0), (103, none, .goto 4, 3, 107, 0, 0)] := fq_of2 cd_661 ow_661 cl_661 rfl (pc := 102) (by decide +kernel)
          j_ic (pc := 102) D rfl fun D =>
          j_goto (pc := 103) D rfl <|
          have D : fk_D 661 [(107, none, .ireturn, 1, 0, 0, 0)] := fq_of2 cd_661 ow_661 cl_661 rfl (pc := 107) (by decide +kernel)
          j_zret D rt_661 (gy (by decide))) (fun q D =>
          j_aldn (pc := 86) D rfl rfl rfl fun D =>
          j_gfc (pc := 87) (a := 602) D rfl rfl (by decide) rfl (s0_602 H) rfl (sf_537_602 H) fun D =>
          have D : fk_D 661 [(90, none, .iload_n 1, 1, 0, 0, 0), (91, none, .iaload, 1, 0, 0, 0), (92, none, .bipush 14, 2, 0, 14, 0), (94, none, .iadd, 1, 0, 0, 0), (95, none, .aload_n 0, 1, 0, 0, 0), (96, none, .getfield 141, 3, 449, 129, 10), (99, none, .if_icmp .ge 7, 3, 106, 0, 0), (102, none, .iconst 1, 1, 0, 1, 0), (103, none, .goto 4, 3, 107, 0, 0)] := fq_of2 cd_661 ow_661 cl_661 rfl (pc := 90) (by decide +kernel)
          j_ildn (pc := 90) D rfl rfl rfl fun D =>
          j_al (pc := 91) (a := 697) (e := 10) D rfl rfl rfl (by decide) (s0_697 H) (s1_697 H) ⟨rfl, rfl, rfl⟩ rfl (gy qb1) fun q D =>
          j_bp (pc := 92) D rfl fun D =>
          j_iadd (pc := 94) D rfl fun D =>
          j_aldn (pc := 95) D rfl rfl rfl fun D =>
          j_gf (pc := 96) (a := 602) D rfl rfl (by decide) rfl (s0_602 H) rfl fun D =>
          j_ige (pc := 99) D rfl (fun q D =>
            j_ic (pc := 102) D rfl fun D =>
            j_goto (pc := 103) D rfl <|
            have D : fk_D 661 [(107, none, .ireturn, 1, 0, 0, 0)] := fq_of2 cd_661 ow_661 cl_661 rfl (pc := 107) (by decide +kernel)
            j_zret D rt_661 (gy (by decide))) (fun q =>
            have D : fk_D 661 [(106, none, .iconst 0, 1, 0, 0, 0), (107, none, .ireturn, 1, 0, 0, 0)] := fq_of2 cd_661 ow_661 cl_661 rfl (pc := 106) (by decide +kernel)
            j_ic (pc := 106) D rfl fun D =>
            j_zret D rt_661 (gy (by decide))))) (fun q =>
        have D : fk_D 661 [(106, none, .iconst 0, 1, 0, 0, 0), (107, none, .ireturn, 1, 0, 0, 0)] := fq_of2 cd_661 ow_661 cl_661 rfl (pc := 106) (by decide +kernel)
        j_ic (pc := 106) D rfl fun D =>
        j_zret D rt_661 (gy (by decide))))
theorem m_661 (d : Nat) (x1 x2 : Int) {h : fi_H} (H : Shp h) : fj_run (d + 1) 661 h [(4, 602), (0, x1), (0, x2)] =
  if 0 ≤ x1 ∧ x1 < 440 then
  if h 10 689 x1.toNat = x2 then
    if 0 < lc_ (h 11 695 x1.toNat) 0 then
      if h 10 694 x1.toNat = 3 then
        c_661_54 d x1 h
      else
        if h 4 698 x1.toNat = 0 then
          if h 10 696 x1.toNat < 3 then
            c_661_55 d x1 1 h
          else
            c_661_54 d x1 h
        else
          c_661_54 d x1 h
    else
      c_661_54 d x1 h
  else
    c_661_54 d x1 h
  else none := by
  rw [fj_run_eq d (by decide) h [(4, 602), (0, x1), (0, x2)] (Nat.le_of_ble_eq_true (by rw [nl_661]; rfl))]
  show gG (fj_run d) 661 0 [(0, (4, 602)), (1, (0, x1)), (2, (0, x2))] [] h = _
  exact
    have D : fk_D 661 [(0, none, .aload_n 0, 1, 0, 0, 0), (1, none, .getfield 317, 3, 529, 129, 12), (4, none, .iload_n 1, 1, 0, 0, 0), (5, none, .iaload, 1, 0, 0, 0), (6, none, .iload_n 2, 1, 0, 0, 0), (7, none, .if_icmp .ne 47, 3, 54, 0, 0), (10, none, .aload_n 0, 1, 0, 0, 0), (11, none, .getfield 335, 3, 535, 129, 12), (14, none, .iload_n 1, 1, 0, 0, 0), (15, none, .laload, 1, 0, 0, 0), (16, none, .lconst 0, 1, 0, 0, 0), (17, none, .lcmp, 1, 0, 0, 0), (18, none, .ifCond .le 36, 3, 54, 0, 0), (21, none, .aload_n 0, 1, 0, 0, 0), (22, none, .getfield 332, 3, 534, 129, 12), (25, none, .iload_n 1, 1, 0, 0, 0), (26, none, .iaload, 1, 0, 0, 0), (27, none, .iconst 3, 1, 0, 3, 0), (28, none, .if_icmp .eq 26, 3, 54, 0, 0), (31, none, .aload_n 0, 1, 0, 0, 0)] := fq_of2 cd_661 ow_661 cl_661 rfl (pc := 0) (by decide +kernel)
    j_aldn (pc := 0) D rfl rfl rfl fun D =>
    j_gfc (pc := 1) (a := 602) D rfl rfl (by decide) rfl (s0_602 H) rfl (sf_529_602 H) fun D =>
    j_ildn (pc := 4) D rfl rfl rfl fun D =>
    j_al (pc := 5) (a := 689) (e := 10) D rfl rfl rfl (by decide) (s0_689 H) (s1_689 H) ⟨rfl, rfl, rfl⟩ rfl gn fun qb1 D =>
    j_ildn (pc := 6) D rfl rfl rfl fun D =>
    j_ine (pc := 7) D rfl (fun q D =>
      j_aldn (pc := 10) D rfl rfl rfl fun D =>
      j_gfc (pc := 11) (a := 602) D rfl rfl (by decide) rfl (s0_602 H) rfl (sf_535_602 H) fun D =>
      j_ildn (pc := 14) D rfl rfl rfl fun D =>
      j_al (pc := 15) (a := 695) (e := 11) D rfl rfl rfl (by decide) (s0_695 H) (s1_695 H) ⟨rfl, rfl, rfl⟩ rfl (gy qb1) fun q D =>
      j_c0 (pc := 16) (v := (1, 0)) D rfl rfl (by decide +kernel) fun D =>
      j_lcmp (pc := 17) D rfl fun D =>
      j_ifle (pc := 18) D rfl (fun q D =>
        j_aldn (pc := 21) D rfl rfl rfl fun D =>
        j_gfc (pc := 22) (a := 602) D rfl rfl (by decide) rfl (s0_602 H) rfl (sf_534_602 H) fun D =>
        j_ildn (pc := 25) D rfl rfl rfl fun D =>
        j_al (pc := 26) (a := 694) (e := 10) D rfl rfl rfl (by decide) (s0_694 H) (s1_694 H) ⟨rfl, rfl, rfl⟩ rfl (gy qb1) fun q D =>
        j_ic (pc := 27) D rfl fun D =>
        j_ieq (pc := 28) D rfl (fun q =>
          fk_jump cut_661_54 rfl rfl) (fun q D =>
          j_aldn (pc := 31) D rfl rfl rfl fun D =>
          have D : fk_D 661 [(32, none, .getfield 344, 3, 538, 129, 12), (35, none, .iload_n 1, 1, 0, 0, 0), (36, none, .baload, 1, 0, 0, 0), (37, none, .ifCond .ne 17, 3, 54, 0, 0), (40, none, .aload_n 0, 1, 0, 0, 0), (41, none, .getfield 338, 3, 536, 129, 12), (44, none, .iload_n 1, 1, 0, 0, 0), (45, none, .iaload, 1, 0, 0, 0), (46, none, .iconst 3, 1, 0, 3, 0), (47, none, .if_icmp .ge 7, 3, 54, 0, 0), (50, none, .iconst 1, 1, 0, 1, 0), (51, none, .goto 4, 3, 55, 0, 0)] := fq_of2 cd_661 ow_661 cl_661 rfl (pc := 32) (by decide +kernel)
          j_gfc (pc := 32) (a := 602) D rfl rfl (by decide) rfl (s0_602 H) rfl (sf_538_602 H) fun D =>
          j_ildn (pc := 35) D rfl rfl rfl fun D =>
          j_al (pc := 36) (a := 698) (e := 4) D rfl rfl rfl (by decide) (s0_698 H) (s1_698 H) ⟨rfl, rfl, rfl⟩ rfl (gy qb1) fun q D =>
          j_ifne (pc := 37) D rfl (fun q D =>
            j_aldn (pc := 40) D rfl rfl rfl fun D =>
            j_gfc (pc := 41) (a := 602) D rfl rfl (by decide) rfl (s0_602 H) rfl (sf_536_602 H) fun D =>
            j_ildn (pc := 44) D rfl rfl rfl fun D =>
            j_al (pc := 45) (a := 696) (e := 10) D rfl rfl rfl (by decide) (s0_696 H) (s1_696 H) ⟨rfl, rfl, rfl⟩ rfl (gy qb1) fun q D =>
            j_ic (pc := 46) D rfl fun D =>
            j_ige (pc := 47) D rfl (fun q D =>
              j_ic (pc := 50) D rfl fun D =>
              j_goto (pc := 51) D rfl <|
              fk_jump cut_661_55 rfl rfl) (fun q =>
              fk_jump cut_661_54 rfl rfl)) (fun q =>
            fk_jump cut_661_54 rfl rfl))) (fun q =>
        fk_jump cut_661_54 rfl rfl)) (fun q =>
      fk_jump cut_661_54 rfl rfl)
/-! 662 StatuteHouseModel.object(I)I -/
theorem cd_662 : fi_code 662 = prog_69_method_181_code := rfl
theorem hx_662 : ∀ pc, fi_hat 662 pc = none := fun pc => by unfold fi_hat; rw [show fi_hh 662 = [] from rfl]; rfl
theorem rt_662 : fi_ret 662 = some .int := rfl
theorem nl_662 : fi_nl 662 = 2 := rfl
theorem ow_662 : fi_ow 662 = 29 := rfl
theorem cl_662 : fj_cutT.getD 662 [] = [] := rfl
theorem m_662 (d : Nat) (x1 : Int) {h : fi_H} (H : Shp h) : fj_run (d + 1) 662 h [(4, 602), (0, x1)] =
  ca_ (fj_run d 663 h [(4, 602), (0, x1)]) 0
    (fun v2 h1 =>
    if v2 = 0 then
      some (.inl (some (0, (-1))), h1)
    else
      if 0 ≤ x1 ∧ x1 < 30 then
      if h1 10 685 x1.toNat = 0 then
        lt_ (fi_upd h1 10 685 x1.toNat 1) fun h5 =>
        some (.inl (some (0, 1)), h5)
      else
        some (.inl (some (0, (-3))), h1)
      else none)
    (fun q3 h1 => tx_ q3 h1) := by
  rw [fj_run_eq d (by decide) h [(4, 602), (0, x1)] (Nat.le_of_ble_eq_true (by rw [nl_662]; rfl))]
  show gG (fj_run d) 662 0 [(0, (4, 602)), (1, (0, x1))] [] h = _
  exact
    have D : fk_D 662 [(0, none, .aload_n 0, 1, 0, 0, 0), (1, none, .iload_n 1, 1, 0, 0, 0), (2, none, .invokevirtual 1193, 3, 1, 460, 1), (5, none, .ifCond .ne 5, 3, 10, 0, 0), (8, none, .iconst (-1), 1, 0, (-1), 0), (9, none, .ireturn, 1, 0, 0, 0)] := fq_of2 cd_662 ow_662 cl_662 rfl (pc := 0) (by decide +kernel)
    j_aldn (pc := 0) D rfl rfl rfl fun D =>
    j_ildn (pc := 1) D rfl rfl rfl fun D =>
    j_iv (pc := 2) (m := 663) (dd := 460) (a := [(0, x1)]) (rest := []) D rfl rfl rfl rfl rfl (by decide) (s0_602 H) (by decide +kernel) (fun v2 h1 e1 D =>
      have T := fj_run_ok _ _ _ _ _ _ H.1 e1
      have H := shp_st H T
      j_ifne (pc := 5) D rfl (fun q D =>
        j_ic (pc := 8) D rfl fun D =>
        j_iret D rt_662) (fun q =>
        have D : fk_D 662 [(10, none, .aload_n 0, 1, 0, 0, 0), (11, none, .getfield 305, 3, 524, 129, 12), (14, none, .iload_n 1, 1, 0, 0, 0), (15, none, .iaload, 1, 0, 0, 0), (16, none, .ifCond .eq 6, 3, 22, 0, 0), (19, none, .bipush (-3), 2, 0, (-3), 0), (21, none, .ireturn, 1, 0, 0, 0)] := fq_of2 cd_662 ow_662 cl_662 rfl (pc := 10) (by decide +kernel)
        j_aldn (pc := 10) D rfl rfl rfl fun D =>
        j_gfc (pc := 11) (a := 602) D rfl rfl (by decide) rfl (s0_602 H) rfl (sf_524_602 H) fun D =>
        j_ildn (pc := 14) D rfl rfl rfl fun D =>
        j_al (pc := 15) (a := 685) (e := 10) D rfl rfl rfl (by decide) (s0_685 H) (s1_685 H) ⟨rfl, rfl, rfl⟩ rfl gn fun qb4 D =>
        j_ifeq (pc := 16) D rfl (fun q =>
          have D : fk_D 662 [(22, none, .aload_n 0, 1, 0, 0, 0), (23, none, .getfield 305, 3, 524, 129, 12), (26, none, .iload_n 1, 1, 0, 0, 0), (27, none, .iconst 1, 1, 0, 1, 0), (28, none, .iastore, 1, 0, 0, 0), (29, none, .iconst 1, 1, 0, 1, 0), (30, none, .ireturn, 1, 0, 0, 0)] := fq_of2 cd_662 ow_662 cl_662 rfl (pc := 22) (by decide +kernel)
          j_aldn (pc := 22) D rfl rfl rfl fun D =>
          j_gfc (pc := 23) (a := 602) D rfl rfl (by decide) rfl (s0_602 H) rfl (sf_524_602 H) fun D =>
          j_ildn (pc := 26) D rfl rfl rfl fun D =>
          j_ic (pc := 27) D rfl fun D =>
          j_as (pc := 28) (a := 685) (e := 10) D rfl ⟨rfl, rfl⟩ rfl (by decide) (s0_685 H) (s1_685 H) ⟨rfl, rfl, rfl⟩ rfl (gy qb4) (gy rfl) fun h5 eh5 S q D =>
          have T := fj_hs_ok H.1 S
          have H := shp_st H T
          j_ic (pc := 29) D rfl fun D =>
          j_iret D rt_662) (fun q D =>
          j_bp (pc := 19) D rfl fun D =>
          j_iret D rt_662))) (fun q3 h1 e1 =>
      j_tx (hx_662 _))
/-! 663 StatuteHouseModel.isDecision(I)Z -/
theorem cd_663 : fi_code 663 = prog_69_method_180_code := rfl
theorem hx_663 : ∀ pc, fi_hat 663 pc = none := fun pc => by unfold fi_hat; rw [show fi_hh 663 = [] from rfl]; rfl
theorem rt_663 : fi_ret 663 = some .boolean := rfl
theorem nl_663 : fi_nl 663 = 2 := rfl
theorem ow_663 : fi_ow 663 = 29 := rfl
theorem cl_663 : fj_cutT.getD 663 [] = [] := rfl
theorem m_663 (d : Nat) (x1 : Int) {h : fi_H} (H : Shp h) : fj_run (d + 1) 663 h [(4, 602), (0, x1)] =
  ca_ (fj_run d 508 h [(1, wI x1), (1, 0), (1, wI (wI ((h 528 602 0) - 1)))]) 0
    (fun v2 h1 =>
    if v2 = 0 ∨ v2 = 1 then some (.inl (some (0, v2)), h1) else none)
    (fun q3 h1 => tx_ q3 h1) := by
  rw [fj_run_eq d (by decide) h [(4, 602), (0, x1)] (Nat.le_of_ble_eq_true (by rw [nl_663]; rfl))]
  show gG (fj_run d) 663 0 [(0, (4, 602)), (1, (0, x1))] [] h = _
  exact
    have D : fk_D 663 [(0, none, .iload_n 1, 1, 0, 0, 0), (1, none, .i2l, 1, 0, 0, 0), (2, none, .lconst 0, 1, 0, 0, 0), (3, none, .aload_n 0, 1, 0, 0, 0), (4, none, .getfield 1095, 3, 528, 129, 10), (7, none, .iconst 1, 1, 0, 1, 0), (8, none, .isub, 1, 0, 0, 0), (9, none, .i2l, 1, 0, 0, 0), (10, none, .invokestatic 434, 3, 3, 508, 1), (13, none, .ireturn, 1, 0, 0, 0)] := fq_of2 cd_663 ow_663 cl_663 rfl (pc := 0) (by decide +kernel)
    j_ildn (pc := 0) D rfl rfl rfl fun D =>
    j_i2l (pc := 1) D rfl fun D =>
    j_c0 (pc := 2) (v := (1, 0)) D rfl rfl (by decide +kernel) fun D =>
    j_aldn (pc := 3) D rfl rfl rfl fun D =>
    j_gf (pc := 4) (a := 602) D rfl rfl (by decide) rfl (s0_602 H) rfl fun D =>
    j_ic (pc := 7) D rfl fun D =>
    j_isub (pc := 8) D rfl fun D =>
    j_i2l (pc := 9) D rfl fun D =>
    j_is (pc := 10) (m := 508) (a := [(1, wI x1), (1, 0), (1, wI (wI ((h 528 602 0) - 1)))]) (rest := []) D rfl rfl rfl rfl (fun v2 h1 e1 D =>
      have T := fj_run_ok _ _ _ _ _ _ H.1 e1
      have H := shp_st H T
      j_zret D rt_663 gn) (fun q3 h1 e1 =>
      j_tx (hx_663 _))
/-! 664 StatuteHouseModel.answer(IZ)I -/
theorem cd_664 : fi_code 664 = prog_69_method_182_code := rfl
theorem hx_664 : ∀ pc, fi_hat 664 pc = none := fun pc => by unfold fi_hat; rw [show fi_hh 664 = [] from rfl]; rfl
theorem rt_664 : fi_ret 664 = some .int := rfl
theorem nl_664 : fi_nl 664 = 4 := rfl
theorem ow_664 : fi_ow 664 = 29 := rfl
theorem cl_664 : fj_cutT.getD 664 [] = [(37, [0, 1])] := rfl
theorem cut_664_37 : fj_cut 664 37 = some [0, 1] := by decide +kernel
noncomputable def c_664_37 (d : Nat) (x1 s0 : Int) (h : fi_H) : fk_R := gG (fj_run d) 664 37 [(0, (4, 602)), (1, (0, x1))] [(0, s0)] h
theorem e_664_37 (d : Nat) (x1 s0 : Int) {h : fi_H} (H : Shp h) : c_664_37 d x1 s0 h =
  if s0 < 0 then
    some (.inl (some (0, s0)), h)
  else
    if 0 ≤ x1 ∧ x1 < 30 then
    lt_ (fi_upd h 10 685 x1.toNat 2) fun h1 =>
    some (.inl (some (0, s0)), h1)
    else none := by
  unfold c_664_37
  exact
    have D : fk_D 664 [(37, some [0, 1], .istore_n 3, 1, 0, 0, 0), (38, none, .iload_n 3, 1, 0, 0, 0), (39, none, .ifCond .lt 10, 3, 49, 0, 0), (42, none, .aload_n 0, 1, 0, 0, 0), (43, none, .getfield 305, 3, 524, 129, 12), (46, none, .iload_n 1, 1, 0, 0, 0), (47, none, .iconst 2, 1, 0, 2, 0), (48, none, .iastore, 1, 0, 0, 0), (49, none, .iload_n 3, 1, 0, 0, 0), (50, none, .ireturn, 1, 0, 0, 0)] := fq_of2 cd_664 ow_664 cl_664 rfl (pc := 37) (by decide +kernel)
    j_istn (pc := 37) (L' := [(3, (0, s0)), (0, (4, 602)), (1, (0, x1))]) D rfl nl_664 rfl rfl fun D =>
    j_ildn (pc := 38) D rfl rfl rfl fun D =>
    j_iflt (pc := 39) D rfl (fun q =>
      have D : fk_D 664 [(49, none, .iload_n 3, 1, 0, 0, 0), (50, none, .ireturn, 1, 0, 0, 0)] := fq_of2 cd_664 ow_664 cl_664 rfl (pc := 49) (by decide +kernel)
      j_ildn (pc := 49) D rfl rfl rfl fun D =>
      j_iret D rt_664) (fun q D =>
      j_aldn (pc := 42) D rfl rfl rfl fun D =>
      j_gfc (pc := 43) (a := 602) D rfl rfl (by decide) rfl (s0_602 H) rfl (sf_524_602 H) fun D =>
      j_ildn (pc := 46) D rfl rfl rfl fun D =>
      j_ic (pc := 47) D rfl fun D =>
      j_as (pc := 48) (a := 685) (e := 10) D rfl ⟨rfl, rfl⟩ rfl (by decide) (s0_685 H) (s1_685 H) ⟨rfl, rfl, rfl⟩ rfl gn (gy rfl) fun h1 eh1 S qb2 D =>
      have T := fj_hs_ok H.1 S
      have H := shp_st H T
      j_ildn (pc := 49) D rfl rfl rfl fun D =>
      j_iret D rt_664)
theorem m_664 (d : Nat) (x1 x2 : Int) {h : fi_H} (H : Shp h) : fj_run (d + 1) 664 h [(4, 602), (0, x1), (0, x2)] =
  ca_ (fj_run d 663 h [(4, 602), (0, x1)]) 0
    (fun v2 h1 =>
    if v2 = 0 then
      some (.inl (some (0, (-1))), h1)
    else
      if 0 ≤ x1 ∧ x1 < 30 then
      if h1 10 685 x1.toNat = 1 then
        if x2 = 0 then
          c_664_37 d x1 0 h1
        else
          ca_ (fj_run d 665 h1 [(4, 602), (0, x1), (0, 1)]) 0
            (fun v6 h5 =>
            c_664_37 d x1 v6 h5)
            (fun q7 h5 => tx_ q7 h5)
      else
        some (.inl (some (0, (-3))), h1)
      else none)
    (fun q3 h1 => tx_ q3 h1) := by
  rw [fj_run_eq d (by decide) h [(4, 602), (0, x1), (0, x2)] (Nat.le_of_ble_eq_true (by rw [nl_664]; rfl))]
  show gG (fj_run d) 664 0 [(0, (4, 602)), (1, (0, x1)), (2, (0, x2))] [] h = _
  exact
    have D : fk_D 664 [(0, none, .aload_n 0, 1, 0, 0, 0), (1, none, .iload_n 1, 1, 0, 0, 0), (2, none, .invokevirtual 1193, 3, 1, 460, 1), (5, none, .ifCond .ne 5, 3, 10, 0, 0), (8, none, .iconst (-1), 1, 0, (-1), 0), (9, none, .ireturn, 1, 0, 0, 0)] := fq_of2 cd_664 ow_664 cl_664 rfl (pc := 0) (by decide +kernel)
    j_aldn (pc := 0) D rfl rfl rfl fun D =>
    j_ildn (pc := 1) D rfl rfl rfl fun D =>
    j_iv (pc := 2) (m := 663) (dd := 460) (a := [(0, x1)]) (rest := []) D rfl rfl rfl rfl rfl (by decide) (s0_602 H) (by decide +kernel) (fun v2 h1 e1 D =>
      have T := fj_run_ok _ _ _ _ _ _ H.1 e1
      have H := shp_st H T
      j_ifne (pc := 5) D rfl (fun q D =>
        j_ic (pc := 8) D rfl fun D =>
        j_iret D rt_664) (fun q =>
        have D : fk_D 664 [(10, none, .aload_n 0, 1, 0, 0, 0), (11, none, .getfield 305, 3, 524, 129, 12), (14, none, .iload_n 1, 1, 0, 0, 0), (15, none, .iaload, 1, 0, 0, 0), (16, none, .iconst 1, 1, 0, 1, 0), (17, none, .if_icmp .eq 6, 3, 23, 0, 0), (20, none, .bipush (-3), 2, 0, (-3), 0), (22, none, .ireturn, 1, 0, 0, 0)] := fq_of2 cd_664 ow_664 cl_664 rfl (pc := 10) (by decide +kernel)
        j_aldn (pc := 10) D rfl rfl rfl fun D =>
        j_gfc (pc := 11) (a := 602) D rfl rfl (by decide) rfl (s0_602 H) rfl (sf_524_602 H) fun D =>
        j_ildn (pc := 14) D rfl rfl rfl fun D =>
        j_al (pc := 15) (a := 685) (e := 10) D rfl rfl rfl (by decide) (s0_685 H) (s1_685 H) ⟨rfl, rfl, rfl⟩ rfl gn fun qb4 D =>
        j_ic (pc := 16) D rfl fun D =>
        j_ieq (pc := 17) D rfl (fun q =>
          have D : fk_D 664 [(23, none, .iload_n 2, 1, 0, 0, 0), (24, none, .ifCond .eq 12, 3, 36, 0, 0), (27, none, .aload_n 0, 1, 0, 0, 0), (28, none, .iload_n 1, 1, 0, 0, 0), (29, none, .iconst 1, 1, 0, 1, 0), (30, none, .invokevirtual 1196, 3, 2, 461, 1), (33, none, .goto 4, 3, 37, 0, 0)] := fq_of2 cd_664 ow_664 cl_664 rfl (pc := 23) (by decide +kernel)
          j_ildn (pc := 23) D rfl rfl rfl fun D =>
          j_ifeq (pc := 24) D rfl (fun q =>
            have D : fk_D 664 [(36, none, .iconst 0, 1, 0, 0, 0)] := fq_of2 cd_664 ow_664 cl_664 rfl (pc := 36) (by decide +kernel)
            j_ic (pc := 36) D rfl fun D =>
            fk_jump cut_664_37 rfl rfl) (fun q D =>
            j_aldn (pc := 27) D rfl rfl rfl fun D =>
            j_ildn (pc := 28) D rfl rfl rfl fun D =>
            j_ic (pc := 29) D rfl fun D =>
            j_iv (pc := 30) (m := 665) (dd := 461) (a := [(0, x1), (0, 1)]) (rest := []) D rfl rfl rfl rfl rfl (by decide) (s0_602 H) (by decide +kernel) (fun v6 h5 e1 D =>
              have T := fj_run_ok _ _ _ _ _ _ H.1 e1
              have H := shp_st H T
              j_goto (pc := 33) D rfl <|
              fk_jump cut_664_37 rfl rfl) (fun q7 h5 e1 =>
              j_tx (hx_664 _)))) (fun q D =>
          j_bp (pc := 20) D rfl fun D =>
          j_iret D rt_664))) (fun q3 h1 e1 =>
      j_tx (hx_664 _))
/-! 665 StatuteHouseModel.revised(IZ)I -/
theorem cd_665 : fi_code 665 = prog_69_method_186_code := rfl
theorem rt_665 : fi_ret 665 = some .int := rfl
theorem nl_665 : fi_nl 665 = 10 := rfl
theorem ow_665 : fi_ow 665 = 29 := rfl
theorem cl_665 : fj_cutT.getD 665 [] = [(22, [0, 1, 2, 3, 4, 5, 6]), (66, [0, 1, 2, 3, 4, 5, 6, 7]), (71, [0, 1, 2, 3, 4, 5, 6, 7]), (107, [0, 1, 2, 3, 4, 5, 6]), (127, [0, 1, 2, 3, 4, 5, 6]), (208, [0, 1, 2, 3, 4, 5, 6, 7]), (212, [0, 1, 2, 3, 4, 5, 6, 7]), (213, [0, 1, 2, 3, 4, 5, 6, 7]), (300, [0, 1, 2, 3, 4, 5, 6, 7, 9]), (301, [0, 1, 2, 3, 4, 5, 6, 7, 9]), (369, [0, 1, 2, 3, 4, 5, 6]), (378, [0]), (407, [0, 1, 3, 4, 6]), (486, [0, 1, 3, 4, 6]), (505, [0, 1, 3, 4, 6])] := rfl
theorem cut_665_22 : fj_cut 665 22 = some [0, 1, 2, 3, 4, 5, 6] := by decide +kernel
noncomputable def c_665_22 (d : Nat) (x1 x2 x3 x4 x5 x6 : Int) (h : fi_H) : fk_R := gG (fj_run d) 665 22 [(0, (4, 602)), (1, (0, x1)), (2, (0, x2)), (3, (0, x3)), (4, (0, x4)), (5, (0, x5)), (6, (0, x6))] [] h
theorem cut_665_66 : fj_cut 665 66 = some [0, 1, 2, 3, 4, 5, 6, 7] := by decide +kernel
noncomputable def c_665_66 (d : Nat) (x1 x2 x3 x4 x5 x6 x7 s0 s1 : Int) (h : fi_H) : fk_R := gG (fj_run d) 665 66 [(0, (4, 602)), (1, (0, x1)), (2, (0, x2)), (3, (0, x3)), (4, (0, x4)), (5, (0, x5)), (6, (0, x6)), (7, (0, x7))] [(0, s1), (4, s0)] h
theorem cut_665_71 : fj_cut 665 71 = some [0, 1, 2, 3, 4, 5, 6, 7] := by decide +kernel
noncomputable def c_665_71 (d : Nat) (x1 x2 x3 x4 x5 x6 x7 s0 s1 s2 : Int) (h : fi_H) : fk_R := gG (fj_run d) 665 71 [(0, (4, 602)), (1, (0, x1)), (2, (0, x2)), (3, (0, x3)), (4, (0, x4)), (5, (0, x5)), (6, (0, x6)), (7, (0, x7))] [(0, s2), (0, s1), (4, s0)] h
theorem cut_665_107 : fj_cut 665 107 = some [0, 1, 2, 3, 4, 5, 6] := by decide +kernel
noncomputable def c_665_107 (d : Nat) (x1 x2 x3 x4 x5 x6 : Int) (h : fi_H) : fk_R := gG (fj_run d) 665 107 [(0, (4, 602)), (1, (0, x1)), (2, (0, x2)), (3, (0, x3)), (4, (0, x4)), (5, (0, x5)), (6, (0, x6))] [] h
theorem cut_665_127 : fj_cut 665 127 = some [0, 1, 2, 3, 4, 5, 6] := by decide +kernel
noncomputable def c_665_127 (d : Nat) (x1 x2 x3 x4 x5 x6 : Int) (h : fi_H) : fk_R := gG (fj_run d) 665 127 [(0, (4, 602)), (1, (0, x1)), (2, (0, x2)), (3, (0, x3)), (4, (0, x4)), (5, (0, x5)), (6, (0, x6))] [] h
theorem cut_665_208 : fj_cut 665 208 = some [0, 1, 2, 3, 4, 5, 6, 7] := by decide +kernel
noncomputable def c_665_208 (d : Nat) (x1 x2 x3 x4 x5 x6 x7 s0 s1 : Int) (h : fi_H) : fk_R := gG (fj_run d) 665 208 [(0, (4, 602)), (1, (0, x1)), (2, (0, x2)), (3, (0, x3)), (4, (0, x4)), (5, (0, x5)), (6, (0, x6)), (7, (1, x7))] [(0, s1), (4, s0)] h
theorem cut_665_212 : fj_cut 665 212 = some [0, 1, 2, 3, 4, 5, 6, 7] := by decide +kernel
noncomputable def c_665_212 (d : Nat) (x1 x2 x3 x4 x5 x6 x7 s0 s1 : Int) (h : fi_H) : fk_R := gG (fj_run d) 665 212 [(0, (4, 602)), (1, (0, x1)), (2, (0, x2)), (3, (0, x3)), (4, (0, x4)), (5, (0, x5)), (6, (0, x6)), (7, (1, x7))] [(0, s1), (4, s0)] h
theorem cut_665_213 : fj_cut 665 213 = some [0, 1, 2, 3, 4, 5, 6, 7] := by decide +kernel
noncomputable def c_665_213 (d : Nat) (x1 x2 x3 x4 x5 x6 x7 s0 s1 s2 : Int) (h : fi_H) : fk_R := gG (fj_run d) 665 213 [(0, (4, 602)), (1, (0, x1)), (2, (0, x2)), (3, (0, x3)), (4, (0, x4)), (5, (0, x5)), (6, (0, x6)), (7, (1, x7))] [(0, s2), (0, s1), (4, s0)] h
theorem cut_665_300 : fj_cut 665 300 = some [0, 1, 2, 3, 4, 5, 6, 7, 9] := by decide +kernel
noncomputable def c_665_300 (d : Nat) (x1 x2 x3 x4 x5 x6 x7 x9 s0 s1 : Int) (h : fi_H) : fk_R := gG (fj_run d) 665 300 [(0, (4, 602)), (1, (0, x1)), (2, (0, x2)), (3, (0, x3)), (4, (0, x4)), (5, (0, x5)), (6, (0, x6)), (7, (1, x7)), (9, (0, x9))] [(0, s1), (4, s0)] h
theorem cut_665_301 : fj_cut 665 301 = some [0, 1, 2, 3, 4, 5, 6, 7, 9] := by decide +kernel
noncomputable def c_665_301 (d : Nat) (x1 x2 x3 x4 x5 x6 x7 x9 s0 s1 s2 : Int) (h : fi_H) : fk_R := gG (fj_run d) 665 301 [(0, (4, 602)), (1, (0, x1)), (2, (0, x2)), (3, (0, x3)), (4, (0, x4)), (5, (0, x5)), (6, (0, x6)), (7, (1, x7)), (9, (0, x9))] [(0, s2), (0, s1), (4, s0)] h
theorem cut_665_369 : fj_cut 665 369 = some [0, 1, 2, 3, 4, 5, 6] := by decide +kernel
noncomputable def c_665_369 (d : Nat) (x1 x2 x3 x4 x5 x6 : Int) (h : fi_H) : fk_R := gG (fj_run d) 665 369 [(0, (4, 602)), (1, (0, x1)), (2, (0, x2)), (3, (0, x3)), (4, (0, x4)), (5, (0, x5)), (6, (0, x6))] [] h
theorem cut_665_378 : fj_cut 665 378 = some [0] := by decide +kernel
noncomputable def c_665_378 (d : Nat) (s0 : Int) (h : fi_H) : fk_R := gG (fj_run d) 665 378 [(0, (4, 602))] [(4, s0)] h
theorem cut_665_407 : fj_cut 665 407 = some [0, 1, 3, 4, 6] := by decide +kernel
noncomputable def c_665_407 (d : Nat) (x1 x3 x4 x6 : Int) (h : fi_H) : fk_R := gG (fj_run d) 665 407 [(0, (4, 602)), (1, (0, x1)), (3, (0, x3)), (4, (0, x4)), (6, (0, x6))] [] h
theorem cut_665_486 : fj_cut 665 486 = some [0, 1, 3, 4, 6] := by decide +kernel
noncomputable def c_665_486 (d : Nat) (x1 x3 x4 x6 : Int) (h : fi_H) : fk_R := gG (fj_run d) 665 486 [(0, (4, 602)), (1, (0, x1)), (3, (0, x3)), (4, (0, x4)), (6, (0, x6))] [] h
theorem cut_665_505 : fj_cut 665 505 = some [0, 1, 3, 4, 6] := by decide +kernel
noncomputable def c_665_505 (d : Nat) (x1 x3 x4 x6 : Int) (h : fi_H) : fk_R := gG (fj_run d) 665 505 [(0, (4, 602)), (1, (0, x1)), (3, (0, x3)), (4, (0, x4)), (6, (0, x6))] [] h
theorem e_665_22 (d : Nat) (x1 x2 x3 x4 x5 x6 : Int) {h : fi_H} (H : Shp h) : c_665_22 d x1 x2 x3 x4 x5 x6 h =
  if 0 ≤ x1 ∧ x1 < 30 then
  if x6 < h 10 684 x1.toNat then
    ca_ (fj_run d 601 h [(4, 602), (0, h 10 683 x1.toNat), (0, x6)]) 0
      (fun v3 h2 =>
      if x2 = 0 then
        ca_ (fj_run d 666 h2 [(4, 602), (0, v3)]) 0
          (fun v6 h5 =>
          if v6 = 0 then
            c_665_71 d x1 x2 x3 x4 x5 x6 v3 703 x6 0 h5
          else
            c_665_66 d x1 x2 x3 x4 x5 x6 v3 703 x6 h5)
          (fun q7 h5 => tc_ 130 q7 h5 (c_665_378 d (q7 : Int) h5))
      else
        c_665_66 d x1 x2 x3 x4 x5 x6 v3 703 x6 h2)
      (fun q4 h2 => tc_ 130 q4 h2 (c_665_378 d (q4 : Int) h2))
  else
    cv_ (fj_run d 574 h [(4, 602), (0, 0), (0, 0), (0, 0), (0, h 449 602 0)])
      (fun h8 =>
      c_665_127 d x1 x2 x3 x4 x5 0 h8)
      (fun q10 h8 => tc_ 130 q10 h8 (c_665_378 d (q10 : Int) h8))
  else none := by
  unfold c_665_22
  exact
    have D : fk_D 665 [(22, some [0, 1, 2, 3, 4, 5, 6], .iload 6, 2, 0, 0, 0), (24, none, .aload_n 0, 1, 0, 0, 0), (25, none, .getfield 302, 3, 523, 129, 12), (28, none, .iload_n 1, 1, 0, 0, 0), (29, none, .iaload, 1, 0, 0, 0), (30, none, .if_icmp .ge 83, 3, 113, 0, 0), (33, none, .aload_n 0, 1, 0, 0, 0), (34, none, .aload_n 0, 1, 0, 0, 0), (35, none, .getfield 299, 3, 522, 129, 12), (38, none, .iload_n 1, 1, 0, 0, 0), (39, none, .iaload, 1, 0, 0, 0), (40, none, .iload 6, 2, 0, 0, 0), (42, none, .invokevirtual 453, 3, 2, 336, 1), (45, none, .istore 7, 2, 0, 0, 0), (47, none, .aload_n 0, 1, 0, 0, 0), (48, none, .getfield 365, 3, 546, 129, 12), (51, none, .iload 6, 2, 0, 0, 0), (53, none, .iload_n 2, 1, 0, 0, 0), (54, none, .ifCond .ne 12, 3, 66, 0, 0), (57, none, .aload_n 0, 1, 0, 0, 0)] := fq_of2 cd_665 ow_665 cl_665 rfl (pc := 22) (by decide +kernel)
    j_ild (pc := 22) D rfl rfl rfl fun D =>
    j_aldn (pc := 24) D rfl rfl rfl fun D =>
    j_gfc (pc := 25) (a := 602) D rfl rfl (by decide) rfl (s0_602 H) rfl (sf_523_602 H) fun D =>
    j_ildn (pc := 28) D rfl rfl rfl fun D =>
    j_al (pc := 29) (a := 684) (e := 10) D rfl rfl rfl (by decide) (s0_684 H) (s1_684 H) ⟨rfl, rfl, rfl⟩ rfl gn fun qb1 D =>
    j_ige (pc := 30) D rfl (fun q D =>
      j_aldn (pc := 33) D rfl rfl rfl fun D =>
      j_aldn (pc := 34) D rfl rfl rfl fun D =>
      j_gfc (pc := 35) (a := 602) D rfl rfl (by decide) rfl (s0_602 H) rfl (sf_522_602 H) fun D =>
      j_ildn (pc := 38) D rfl rfl rfl fun D =>
      j_al (pc := 39) (a := 683) (e := 10) D rfl rfl rfl (by decide) (s0_683 H) (s1_683 H) ⟨rfl, rfl, rfl⟩ rfl (gy qb1) fun q D =>
      j_ild (pc := 40) D rfl rfl rfl fun D =>
      j_iv (pc := 42) (m := 601) (dd := 336) (a := [(0, h 10 683 x1.toNat), (0, x6)]) (rest := []) D rfl rfl rfl rfl rfl (by decide) (s0_602 H) (by decide +kernel) (fun v3 h2 e1 D =>
        have T := fj_run_ok _ _ _ _ _ _ H.1 e1
        have H := shp_st H T
        j_ist (pc := 45) (L' := [(7, (0, v3)), (0, (4, 602)), (1, (0, x1)), (2, (0, x2)), (3, (0, x3)), (4, (0, x4)), (5, (0, x5)), (6, (0, x6))]) D rfl nl_665 rfl rfl fun D =>
        j_aldn (pc := 47) D rfl rfl rfl fun D =>
        j_gfc (pc := 48) (a := 602) D rfl rfl (by decide) rfl (s0_602 H) rfl (sf_546_602 H) fun D =>
        j_ild (pc := 51) D rfl rfl rfl fun D =>
        j_ildn (pc := 53) D rfl rfl rfl fun D =>
        j_ifne (pc := 54) D rfl (fun q D =>
          j_aldn (pc := 57) D rfl rfl rfl fun D =>
          have D : fk_D 665 [(58, none, .iload 7, 2, 0, 0, 0), (60, none, .invokevirtual 1200, 3, 1, 462, 1), (63, none, .ifCond .eq 7, 3, 70, 0, 0)] := fq_of2 cd_665 ow_665 cl_665 rfl (pc := 58) (by decide +kernel)
          j_ild (pc := 58) D rfl rfl rfl fun D =>
          j_iv (pc := 60) (m := 666) (dd := 462) (a := [(0, v3)]) (rest := [(0, x6), (4, 703)]) D rfl rfl rfl rfl rfl (by decide) (s0_602 H) (by decide +kernel) (fun v6 h5 e1 D =>
            have T := fj_run_ok _ _ _ _ _ _ H.1 e1
            have H := shp_st H T
            j_ifeq (pc := 63) D rfl (fun q =>
              have D : fk_D 665 [(70, none, .iconst 0, 1, 0, 0, 0)] := fq_of2 cd_665 ow_665 cl_665 rfl (pc := 70) (by decide +kernel)
              j_ic (pc := 70) D rfl fun D =>
              fk_jump cut_665_71 rfl rfl) (fun q D =>
              fk_jump cut_665_66 rfl rfl)) (fun q7 h5 e1 =>
            j_tc_ (n := 130) (fk_at (cu := none) (by decide +kernel) rfl) (s := 10) (e := 375) (hp := 378) (ct := 9) (by decide +kernel) rfl (by decide +kernel) <|
            fk_jump cut_665_378 rfl rfl)) (fun q =>
          fk_jump cut_665_66 rfl rfl)) (fun q4 h2 e1 =>
        j_tc_ (n := 130) (fk_at (cu := none) (by decide +kernel) rfl) (s := 10) (e := 375) (hp := 378) (ct := 9) (by decide +kernel) rfl (by decide +kernel) <|
        fk_jump cut_665_378 rfl rfl)) (fun q =>
      have D : fk_D 665 [(113, none, .aload_n 0, 1, 0, 0, 0), (114, none, .iconst 0, 1, 0, 0, 0), (115, none, .iconst 0, 1, 0, 0, 0), (116, none, .iconst 0, 1, 0, 0, 0), (117, none, .aload_n 0, 1, 0, 0, 0), (118, none, .getfield 141, 3, 449, 129, 10), (121, none, .invokevirtual 1086, 3, 4, 442, 0), (124, none, .iconst 0, 1, 0, 0, 0), (125, none, .istore 6, 2, 0, 0, 0)] := fq_of2 cd_665 ow_665 cl_665 rfl (pc := 113) (by decide +kernel)
      j_aldn (pc := 113) D rfl rfl rfl fun D =>
      j_ic (pc := 114) D rfl fun D =>
      j_ic (pc := 115) D rfl fun D =>
      j_ic (pc := 116) D rfl fun D =>
      j_aldn (pc := 117) D rfl rfl rfl fun D =>
      j_gf (pc := 118) (a := 602) D rfl rfl (by decide) rfl (s0_602 H) rfl fun D =>
      j_ivv (pc := 121) (m := 574) (dd := 442) (a := [(0, 0), (0, 0), (0, 0), (0, h 449 602 0)]) (rest := []) D rfl rfl rfl rfl rfl (by decide) (s0_602 H) (by decide +kernel) (fun h8 e1 D =>
        have T := fj_run_ok _ _ _ _ _ _ H.1 e1
        have H := shp_st H T
        j_ic (pc := 124) D rfl fun D =>
        j_ist (pc := 125) (L' := [(6, (0, 0)), (0, (4, 602)), (1, (0, x1)), (2, (0, x2)), (3, (0, x3)), (4, (0, x4)), (5, (0, x5))]) D rfl nl_665 rfl rfl fun D =>
        fk_jump cut_665_127 rfl rfl) (fun q10 h8 e1 =>
        j_tc_ (n := 130) (fk_at (cu := none) (by decide +kernel) rfl) (s := 10) (e := 375) (hp := 378) (ct := 9) (by decide +kernel) rfl (by decide +kernel) <|
        fk_jump cut_665_378 rfl rfl))
theorem e_665_66 (d : Nat) (x1 x2 x3 x4 x5 x6 x7 s0 s1 : Int) {h : fi_H} (H : Shp h) : c_665_66 d x1 x2 x3 x4 x5 x6 x7 s0 s1 h =
  c_665_71 d x1 x2 x3 x4 x5 x6 x7 s0 s1 1 h := by
  unfold c_665_66
  exact
    have D : fk_D 665 [(66, some [0, 1, 2, 3, 4, 5, 6, 7], .iconst 1, 1, 0, 1, 0), (67, none, .goto 4, 3, 71, 0, 0)] := fq_of2 cd_665 ow_665 cl_665 rfl (pc := 66) (by decide +kernel)
    j_ic (pc := 66) D rfl fun D =>
    j_goto (pc := 67) D rfl <|
    fk_jump cut_665_71 rfl rfl
theorem e_665_71 (d : Nat) (x1 x2 x3 x4 x5 x6 x7 s0 s1 s2 : Int) {h : fi_H} (H : Shp h) : c_665_71 d x1 x2 x3 x4 x5 x6 x7 s0 s1 s2 h =
  if 302 < s0 ∧ fi_et 1 (h 0 s0.toNat 0) ≠ 0 then
  if 0 ≤ s1 ∧ s1 < h 1 s0.toNat 0 then
  if fi_rg (fi_et 1 (h 0 s0.toNat 0)) s2 = true then
  lt_ (fi_upd h (fi_et 1 (h 0 s0.toNat 0)) s0.toNat s1.toNat s2) fun h1 =>
  if 0 ≤ x6 ∧ x6 < 24 then
  if h1 4 703 x6.toNat = 0 then
    c_665_107 d x1 x2 x3 x4 x5 x6 h1
  else
    if 0 ≤ x1 ∧ x1 < 30 then
    ca_ (fj_run d 654 h1 [(4, 602), (0, h1 10 682 x1.toNat), (0, h1 10 681 x1.toNat), (0, x7)]) 1
      (fun v5 h4 =>
      lt_ (fi_upd h4 11 700 x6.toNat v5) fun h7 =>
      c_665_107 d x1 x2 x3 x4 x5 x6 h7)
      (fun q6 h4 => tc_ 130 q6 h4 (c_665_378 d (q6 : Int) h4))
    else none
  else none
  else none
  else none
  else none := by
  unfold c_665_71
  exact
    have D : fk_D 665 [(71, some [0, 1, 2, 3, 4, 5, 6, 7], .bastore, 1, 0, 0, 0), (72, none, .aload_n 0, 1, 0, 0, 0), (73, none, .getfield 365, 3, 546, 129, 12), (76, none, .iload 6, 2, 0, 0, 0), (78, none, .baload, 1, 0, 0, 0), (79, none, .ifCond .eq 28, 3, 107, 0, 0), (82, none, .aload_n 0, 1, 0, 0, 0), (83, none, .getfield 356, 3, 543, 129, 12), (86, none, .iload 6, 2, 0, 0, 0), (88, none, .aload_n 0, 1, 0, 0, 0), (89, none, .aload_n 0, 1, 0, 0, 0), (90, none, .getfield 296, 3, 521, 129, 12), (93, none, .iload_n 1, 1, 0, 0, 0), (94, none, .iaload, 1, 0, 0, 0), (95, none, .aload_n 0, 1, 0, 0, 0), (96, none, .getfield 293, 3, 520, 129, 12), (99, none, .iload_n 1, 1, 0, 0, 0), (100, none, .iaload, 1, 0, 0, 0), (101, none, .iload 7, 2, 0, 0, 0), (103, none, .invokevirtual 1171, 3, 3, 456, 2)] := fq_of2 cd_665 ow_665 cl_665 rfl (pc := 71) (by decide +kernel)
    j_asub (pc := 71) D rfl rfl gn gn gn fun h1 eh1 S q q2 D =>
    have T := fj_hs_ok H.1 S
    have H := shp_st H T
    j_aldn (pc := 72) D rfl rfl rfl fun D =>
    j_gfc (pc := 73) (a := 602) D rfl rfl (by decide) rfl (s0_602 H) rfl (sf_546_602 H) fun D =>
    j_ild (pc := 76) D rfl rfl rfl fun D =>
    j_al (pc := 78) (a := 703) (e := 4) D rfl rfl rfl (by decide) (s0_703 H) (s1_703 H) ⟨rfl, rfl, rfl⟩ rfl gn fun qb2 D =>
    j_ifeq (pc := 79) D rfl (fun q =>
      fk_jump cut_665_107 rfl rfl) (fun q D =>
      j_aldn (pc := 82) D rfl rfl rfl fun D =>
      j_gfc (pc := 83) (a := 602) D rfl rfl (by decide) rfl (s0_602 H) rfl (sf_543_602 H) fun D =>
      j_ild (pc := 86) D rfl rfl rfl fun D =>
      j_aldn (pc := 88) D rfl rfl rfl fun D =>
      j_aldn (pc := 89) D rfl rfl rfl fun D =>
      j_gfc (pc := 90) (a := 602) D rfl rfl (by decide) rfl (s0_602 H) rfl (sf_521_602 H) fun D =>
      j_ildn (pc := 93) D rfl rfl rfl fun D =>
      j_al (pc := 94) (a := 682) (e := 10) D rfl rfl rfl (by decide) (s0_682 H) (s1_682 H) ⟨rfl, rfl, rfl⟩ rfl gn fun qb3 D =>
      j_aldn (pc := 95) D rfl rfl rfl fun D =>
      j_gfc (pc := 96) (a := 602) D rfl rfl (by decide) rfl (s0_602 H) rfl (sf_520_602 H) fun D =>
      j_ildn (pc := 99) D rfl rfl rfl fun D =>
      j_al (pc := 100) (a := 681) (e := 10) D rfl rfl rfl (by decide) (s0_681 H) (s1_681 H) ⟨rfl, rfl, rfl⟩ rfl (gy qb3) fun q D =>
      j_ild (pc := 101) D rfl rfl rfl fun D =>
      j_iv (pc := 103) (m := 654) (dd := 456) (a := [(0, h1 10 682 x1.toNat), (0, h1 10 681 x1.toNat), (0, x7)]) (rest := [(0, x6), (4, 700)]) D rfl rfl rfl rfl rfl (by decide) (s0_602 H) (by decide +kernel) (fun v5 h4 e1 D =>
        have T := fj_run_ok _ _ _ _ _ _ H.1 e1
        have H := shp_st H T
        have D : fk_D 665 [(106, none, .lastore, 1, 0, 0, 0)] := fq_of2 cd_665 ow_665 cl_665 rfl (pc := 106) (by decide +kernel)
        j_as (pc := 106) (a := 700) (e := 11) D rfl ⟨rfl, rfl⟩ rfl (by decide) (s0_700 H) (s1_700 H) ⟨rfl, rfl, rfl⟩ rfl (gy qb2) (gy rfl) fun h7 eh7 S q D =>
        have T := fj_hs_ok H.1 S
        have H := shp_st H T
        fk_jump cut_665_107 rfl rfl) (fun q6 h4 e1 =>
        j_tc_ (n := 130) (fk_at (cu := none) (by decide +kernel) rfl) (s := 10) (e := 375) (hp := 378) (ct := 9) (by decide +kernel) rfl (by decide +kernel) <|
        fk_jump cut_665_378 rfl rfl))
theorem e_665_107 (d : Nat) (x1 x2 x3 x4 x5 x6 : Int) {h : fi_H} (H : Shp h) : c_665_107 d x1 x2 x3 x4 x5 x6 h =
  c_665_22 d x1 x2 x3 x4 x5 (wI (x6 + 1)) h := by
  unfold c_665_107
  exact
    have D : fk_D 665 [(107, some [0, 1, 2, 3, 4, 5, 6], .iinc 6 1, 3, 0, 1, 0), (110, none, .goto (-88), 3, 22, 0, 0)] := fq_of2 cd_665 ow_665 cl_665 rfl (pc := 107) (by decide +kernel)
    j_inc (pc := 107) (L' := [(6, (0, wI (x6 + 1))), (0, (4, 602)), (1, (0, x1)), (2, (0, x2)), (3, (0, x3)), (4, (0, x4)), (5, (0, x5))]) D rfl rfl rfl (by decide +kernel) rfl fun D =>
    j_goto (pc := 110) D rfl <|
    fk_jump cut_665_22 rfl rfl
theorem e_665_127 (d : Nat) (x1 x2 x3 x4 x5 x6 : Int) {h : fi_H} (H : Shp h) : c_665_127 d x1 x2 x3 x4 x5 x6 h =
  if 0 ≤ x1 ∧ x1 < 30 then
  if x6 < h 10 684 x1.toNat then
    if 0 ≤ wI ((wI (24 * x1)) + x6) ∧ wI ((wI (24 * x1)) + x6) < 720 then
    if 0 ≤ x6 ∧ x6 < 24 then
    if h 4 703 x6.toNat = 0 then
      c_665_212 d x1 x2 x3 x4 x5 x6 (h 11 688 (wI ((wI (24 * x1)) + x6)).toNat) 703 x6 h
    else
      if lc_ (h 11 700 x6.toNat) (h 11 688 (wI ((wI (24 * x1)) + x6)).toNat) = 0 then
        c_665_212 d x1 x2 x3 x4 x5 x6 (h 11 688 (wI ((wI (24 * x1)) + x6)).toNat) 703 x6 h
      else
        if x2 = 0 then
          if h 10 685 x1.toNat = 2 then
            if 0 < lc_ (h 11 700 x6.toNat) (h 11 688 (wI ((wI (24 * x1)) + x6)).toNat) then
              c_665_208 d x1 x2 x3 x4 x5 x6 (h 11 688 (wI ((wI (24 * x1)) + x6)).toNat) 703 x6 h
            else
              c_665_212 d x1 x2 x3 x4 x5 x6 (h 11 688 (wI ((wI (24 * x1)) + x6)).toNat) 703 x6 h
          else
            c_665_208 d x1 x2 x3 x4 x5 x6 (h 11 688 (wI ((wI (24 * x1)) + x6)).toNat) 703 x6 h
        else
          c_665_208 d x1 x2 x3 x4 x5 x6 (h 11 688 (wI ((wI (24 * x1)) + x6)).toNat) 703 x6 h
    else none
    else none
  else
    if 400 < wI ((h 542 602 0) + x5) then
      some (.inl (some (0, (-4))), h)
    else
      c_665_407 d x1 x3 x4 0 h
  else none := by
  unfold c_665_127
  exact
    have D : fk_D 665 [(127, some [0, 1, 2, 3, 4, 5, 6], .iload 6, 2, 0, 0, 0), (129, none, .aload_n 0, 1, 0, 0, 0), (130, none, .getfield 302, 3, 523, 129, 12), (133, none, .iload_n 1, 1, 0, 0, 0), (134, none, .iaload, 1, 0, 0, 0), (135, none, .if_icmp .ge 240, 3, 375, 0, 0), (138, none, .aload_n 0, 1, 0, 0, 0), (139, none, .getfield 314, 3, 527, 129, 12), (142, none, .bipush 24, 2, 0, 24, 0), (144, none, .iload_n 1, 1, 0, 0, 0), (145, none, .imul, 1, 0, 0, 0), (146, none, .iload 6, 2, 0, 0, 0), (148, none, .iadd, 1, 0, 0, 0), (149, none, .laload, 1, 0, 0, 0), (150, none, .lstore 7, 2, 0, 0, 0), (152, none, .aload_n 0, 1, 0, 0, 0), (153, none, .getfield 365, 3, 546, 129, 12), (156, none, .iload 6, 2, 0, 0, 0), (158, none, .aload_n 0, 1, 0, 0, 0), (159, none, .getfield 365, 3, 546, 129, 12)] := fq_of2 cd_665 ow_665 cl_665 rfl (pc := 127) (by decide +kernel)
    j_ild (pc := 127) D rfl rfl rfl fun D =>
    j_aldn (pc := 129) D rfl rfl rfl fun D =>
    j_gfc (pc := 130) (a := 602) D rfl rfl (by decide) rfl (s0_602 H) rfl (sf_523_602 H) fun D =>
    j_ildn (pc := 133) D rfl rfl rfl fun D =>
    j_al (pc := 134) (a := 684) (e := 10) D rfl rfl rfl (by decide) (s0_684 H) (s1_684 H) ⟨rfl, rfl, rfl⟩ rfl gn fun qb1 D =>
    j_ige (pc := 135) D rfl (fun q D =>
      j_aldn (pc := 138) D rfl rfl rfl fun D =>
      j_gfc (pc := 139) (a := 602) D rfl rfl (by decide) rfl (s0_602 H) rfl (sf_527_602 H) fun D =>
      j_bp (pc := 142) D rfl fun D =>
      j_ildn (pc := 144) D rfl rfl rfl fun D =>
      j_imul (pc := 145) D rfl fun D =>
      j_ild (pc := 146) D rfl rfl rfl fun D =>
      j_iadd (pc := 148) D rfl fun D =>
      j_al (pc := 149) (a := 688) (e := 11) D rfl rfl rfl (by decide) (s0_688 H) (s1_688 H) ⟨rfl, rfl, rfl⟩ rfl gn fun qb2 D =>
      j_lst (pc := 150) (L' := [(7, (1, h 11 688 (wI ((wI (24 * x1)) + x6)).toNat)), (0, (4, 602)), (1, (0, x1)), (2, (0, x2)), (3, (0, x3)), (4, (0, x4)), (5, (0, x5)), (6, (0, x6))]) D rfl nl_665 rfl rfl fun D =>
      j_aldn (pc := 152) D rfl rfl rfl fun D =>
      j_gfc (pc := 153) (a := 602) D rfl rfl (by decide) rfl (s0_602 H) rfl (sf_546_602 H) fun D =>
      j_ild (pc := 156) D rfl rfl rfl fun D =>
      j_aldn (pc := 158) D rfl rfl rfl fun D =>
      j_gfc (pc := 159) (a := 602) D rfl rfl (by decide) rfl (s0_602 H) rfl (sf_546_602 H) fun D =>
      have D : fk_D 665 [(162, none, .iload 6, 2, 0, 0, 0), (164, none, .baload, 1, 0, 0, 0), (165, none, .ifCond .eq 47, 3, 212, 0, 0), (168, none, .aload_n 0, 1, 0, 0, 0), (169, none, .getfield 356, 3, 543, 129, 12), (172, none, .iload 6, 2, 0, 0, 0), (174, none, .laload, 1, 0, 0, 0), (175, none, .lload 7, 2, 0, 0, 0), (177, none, .lcmp, 1, 0, 0, 0), (178, none, .ifCond .eq 34, 3, 212, 0, 0), (181, none, .iload_n 2, 1, 0, 0, 0), (182, none, .ifCond .ne 26, 3, 208, 0, 0), (185, none, .aload_n 0, 1, 0, 0, 0), (186, none, .getfield 305, 3, 524, 129, 12), (189, none, .iload_n 1, 1, 0, 0, 0), (190, none, .iaload, 1, 0, 0, 0), (191, none, .iconst 2, 1, 0, 2, 0), (192, none, .if_icmp .ne 16, 3, 208, 0, 0), (195, none, .aload_n 0, 1, 0, 0, 0), (196, none, .getfield 356, 3, 543, 129, 12)] := fq_of2 cd_665 ow_665 cl_665 rfl (pc := 162) (by decide +kernel)
      j_ild (pc := 162) D rfl rfl rfl fun D =>
      j_al (pc := 164) (a := 703) (e := 4) D rfl rfl rfl (by decide) (s0_703 H) (s1_703 H) ⟨rfl, rfl, rfl⟩ rfl gn fun qb3 D =>
      j_ifeq (pc := 165) D rfl (fun q =>
        fk_jump cut_665_212 rfl rfl) (fun q D =>
        j_aldn (pc := 168) D rfl rfl rfl fun D =>
        j_gfc (pc := 169) (a := 602) D rfl rfl (by decide) rfl (s0_602 H) rfl (sf_543_602 H) fun D =>
        j_ild (pc := 172) D rfl rfl rfl fun D =>
        j_al (pc := 174) (a := 700) (e := 11) D rfl rfl rfl (by decide) (s0_700 H) (s1_700 H) ⟨rfl, rfl, rfl⟩ rfl (gy qb3) fun q D =>
        j_lld (pc := 175) D rfl rfl rfl fun D =>
        j_lcmp (pc := 177) D rfl fun D =>
        j_ifeq (pc := 178) D rfl (fun q =>
          fk_jump cut_665_212 rfl rfl) (fun q D =>
          j_ildn (pc := 181) D rfl rfl rfl fun D =>
          j_ifne (pc := 182) D rfl (fun q D =>
            j_aldn (pc := 185) D rfl rfl rfl fun D =>
            j_gfc (pc := 186) (a := 602) D rfl rfl (by decide) rfl (s0_602 H) rfl (sf_524_602 H) fun D =>
            j_ildn (pc := 189) D rfl rfl rfl fun D =>
            j_al (pc := 190) (a := 685) (e := 10) D rfl rfl rfl (by decide) (s0_685 H) (s1_685 H) ⟨rfl, rfl, rfl⟩ rfl (gy qb1) fun q D =>
            j_ic (pc := 191) D rfl fun D =>
            j_ine (pc := 192) D rfl (fun q D =>
              j_aldn (pc := 195) D rfl rfl rfl fun D =>
              j_gfc (pc := 196) (a := 602) D rfl rfl (by decide) rfl (s0_602 H) rfl (sf_543_602 H) fun D =>
              have D : fk_D 665 [(199, none, .iload 6, 2, 0, 0, 0), (201, none, .laload, 1, 0, 0, 0), (202, none, .lload 7, 2, 0, 0, 0), (204, none, .lcmp, 1, 0, 0, 0), (205, none, .ifCond .le 7, 3, 212, 0, 0)] := fq_of2 cd_665 ow_665 cl_665 rfl (pc := 199) (by decide +kernel)
              j_ild (pc := 199) D rfl rfl rfl fun D =>
              j_al (pc := 201) (a := 700) (e := 11) D rfl rfl rfl (by decide) (s0_700 H) (s1_700 H) ⟨rfl, rfl, rfl⟩ rfl (gy qb3) fun q D =>
              j_lld (pc := 202) D rfl rfl rfl fun D =>
              j_lcmp (pc := 204) D rfl fun D =>
              j_ifle (pc := 205) D rfl (fun q D =>
                fk_jump cut_665_208 rfl rfl) (fun q =>
                fk_jump cut_665_212 rfl rfl)) (fun q =>
              fk_jump cut_665_208 rfl rfl)) (fun q =>
            fk_jump cut_665_208 rfl rfl)))) (fun q =>
      have D : fk_D 665 [(375, none, .goto 13, 3, 388, 0, 0)] := fq_of2 cd_665 ow_665 cl_665 rfl (pc := 375) (by decide +kernel)
      j_goto (pc := 375) D rfl <|
      have D : fk_D 665 [(388, none, .aload_n 0, 1, 0, 0, 0), (389, none, .getfield 1098, 3, 542, 129, 10), (392, none, .iload 5, 2, 0, 0, 0), (394, none, .iadd, 1, 0, 0, 0), (395, none, .sipush 400, 3, 0, 400, 0), (398, none, .if_icmp .le 6, 3, 404, 0, 0), (401, none, .bipush (-4), 2, 0, (-4), 0), (403, none, .ireturn, 1, 0, 0, 0)] := fq_of2 cd_665 ow_665 cl_665 rfl (pc := 388) (by decide +kernel)
      j_aldn (pc := 388) D rfl rfl rfl fun D =>
      j_gf (pc := 389) (a := 602) D rfl rfl (by decide) rfl (s0_602 H) rfl fun D =>
      j_ild (pc := 392) D rfl rfl rfl fun D =>
      j_iadd (pc := 394) D rfl fun D =>
      j_sp (pc := 395) D rfl fun D =>
      j_ile (pc := 398) D rfl (fun q D =>
        j_bp (pc := 401) D rfl fun D =>
        j_iret D rt_665) (fun q =>
        have D : fk_D 665 [(404, none, .iconst 0, 1, 0, 0, 0), (405, none, .istore 6, 2, 0, 0, 0)] := fq_of2 cd_665 ow_665 cl_665 rfl (pc := 404) (by decide +kernel)
        j_ic (pc := 404) D rfl fun D =>
        j_ist (pc := 405) (L' := [(6, (0, 0)), (0, (4, 602)), (1, (0, x1)), (2, (0, x2)), (3, (0, x3)), (4, (0, x4)), (5, (0, x5))]) D rfl nl_665 rfl rfl fun D =>
        fk_jump cut_665_407 rfl rfl))
theorem e_665_208 (d : Nat) (x1 x2 x3 x4 x5 x6 x7 s0 s1 : Int) {h : fi_H} (H : Shp h) : c_665_208 d x1 x2 x3 x4 x5 x6 x7 s0 s1 h =
  c_665_213 d x1 x2 x3 x4 x5 x6 x7 s0 s1 1 h := by
  unfold c_665_208
  exact
    have D : fk_D 665 [(208, some [0, 1, 2, 3, 4, 5, 6, 7], .iconst 1, 1, 0, 1, 0), (209, none, .goto 4, 3, 213, 0, 0)] := fq_of2 cd_665 ow_665 cl_665 rfl (pc := 208) (by decide +kernel)
    j_ic (pc := 208) D rfl fun D =>
    j_goto (pc := 209) D rfl <|
    fk_jump cut_665_213 rfl rfl
theorem e_665_212 (d : Nat) (x1 x2 x3 x4 x5 x6 x7 s0 s1 : Int) {h : fi_H} (H : Shp h) : c_665_212 d x1 x2 x3 x4 x5 x6 x7 s0 s1 h =
  c_665_213 d x1 x2 x3 x4 x5 x6 x7 s0 s1 0 h := by
  unfold c_665_212
  exact
    have D : fk_D 665 [(212, some [0, 1, 2, 3, 4, 5, 6, 7], .iconst 0, 1, 0, 0, 0)] := fq_of2 cd_665 ow_665 cl_665 rfl (pc := 212) (by decide +kernel)
    j_ic (pc := 212) D rfl fun D =>
    fk_jump cut_665_213 rfl rfl
theorem e_665_213 (d : Nat) (x1 x2 x3 x4 x5 x6 x7 s0 s1 s2 : Int) {h : fi_H} (H : Shp h) : c_665_213 d x1 x2 x3 x4 x5 x6 x7 s0 s1 s2 h =
  if 302 < s0 ∧ fi_et 1 (h 0 s0.toNat 0) ≠ 0 then
  if 0 ≤ s1 ∧ s1 < h 1 s0.toNat 0 then
  if fi_rg (fi_et 1 (h 0 s0.toNat 0)) s2 = true then
  lt_ (fi_upd h (fi_et 1 (h 0 s0.toNat 0)) s0.toNat s1.toNat s2) fun h1 =>
  if 0 ≤ x6 ∧ x6 < 24 then
  lt_ (fi_upd h1 4 704 x6.toNat 0) fun h2 =>
  if h2 4 703 x6.toNat = 0 then
    c_665_369 d x1 x2 x3 x4 x5 x6 h2
  else
    cv_ (fj_run d 586 h2 [(4, 602), (1, wJ ((h2 11 700 x6.toNat) - x7))])
      (fun h4 =>
      ca_ (fj_run d 667 h4 [(4, 602), (0, x1), (0, x6)]) 0
        (fun v8 h7 =>
        ca_ (fj_run d 600 h7 [(4, 602), (0, v8), (0, h7 449 602 0)]) 0
          (fun v11 h10 =>
          if 0 < lc_ (h10 11 700 x6.toNat) x7 then
            if 0 < v11 then
              c_665_301 d x1 x2 x3 (wI (x4 + 1)) (wI (x5 + 1)) x6 x7 v11 704 x6 1 h10
            else
              c_665_300 d x1 x2 x3 (wI (x4 + 1)) (wI (x5 + 1)) x6 x7 v11 704 x6 h10
          else
            c_665_300 d x1 x2 x3 (wI (x4 + 1)) (wI (x5 + 1)) x6 x7 v11 704 x6 h10)
          (fun q12 h10 => tc_ 130 q12 h10 (c_665_378 d (q12 : Int) h10)))
        (fun q9 h7 => tc_ 130 q9 h7 (c_665_378 d (q9 : Int) h7)))
      (fun q6 h4 => tc_ 130 q6 h4 (c_665_378 d (q6 : Int) h4))
  else none
  else none
  else none
  else none := by
  unfold c_665_213
  exact
    have D : fk_D 665 [(213, some [0, 1, 2, 3, 4, 5, 6, 7], .bastore, 1, 0, 0, 0), (214, none, .aload_n 0, 1, 0, 0, 0), (215, none, .getfield 368, 3, 547, 129, 12), (218, none, .iload 6, 2, 0, 0, 0), (220, none, .iconst 0, 1, 0, 0, 0), (221, none, .bastore, 1, 0, 0, 0), (222, none, .aload_n 0, 1, 0, 0, 0), (223, none, .getfield 365, 3, 546, 129, 12), (226, none, .iload 6, 2, 0, 0, 0), (228, none, .baload, 1, 0, 0, 0), (229, none, .ifCond .ne 6, 3, 235, 0, 0), (232, none, .goto 137, 3, 369, 0, 0)] := fq_of2 cd_665 ow_665 cl_665 rfl (pc := 213) (by decide +kernel)
    j_asub (pc := 213) D rfl rfl gn gn gn fun h1 eh1 S q q2 D =>
    have T := fj_hs_ok H.1 S
    have H := shp_st H T
    j_aldn (pc := 214) D rfl rfl rfl fun D =>
    j_gfc (pc := 215) (a := 602) D rfl rfl (by decide) rfl (s0_602 H) rfl (sf_547_602 H) fun D =>
    j_ild (pc := 218) D rfl rfl rfl fun D =>
    j_ic (pc := 220) D rfl fun D =>
    j_as (pc := 221) (a := 704) (e := 4) D rfl ⟨rfl, rfl⟩ rfl (by decide) (s0_704 H) (s1_704 H) ⟨rfl, rfl, rfl⟩ rfl gn (gy (by decide)) fun h2 eh2 S qb3 D =>
    have T := fj_hs_ok H.1 S
    have H := shp_st H T
    j_aldn (pc := 222) D rfl rfl rfl fun D =>
    j_gfc (pc := 223) (a := 602) D rfl rfl (by decide) rfl (s0_602 H) rfl (sf_546_602 H) fun D =>
    j_ild (pc := 226) D rfl rfl rfl fun D =>
    j_al (pc := 228) (a := 703) (e := 4) D rfl rfl rfl (by decide) (s0_703 H) (s1_703 H) ⟨rfl, rfl, rfl⟩ rfl (gy qb3) fun q D =>
    j_ifne (pc := 229) D rfl (fun q D =>
      j_goto (pc := 232) D rfl <|
      fk_jump cut_665_369 rfl rfl) (fun q =>
      have D : fk_D 665 [(235, none, .iinc 4 1, 3, 0, 1, 0), (238, none, .iinc 5 1, 3, 0, 1, 0), (241, none, .aload_n 0, 1, 0, 0, 0), (242, none, .aload_n 0, 1, 0, 0, 0), (243, none, .getfield 356, 3, 543, 129, 12), (246, none, .iload 6, 2, 0, 0, 0), (248, none, .laload, 1, 0, 0, 0), (249, none, .lload 7, 2, 0, 0, 0), (251, none, .lsub, 1, 0, 0, 0), (252, none, .invokevirtual 920, 3, 1, 414, 0), (255, none, .aload_n 0, 1, 0, 0, 0), (256, none, .aload_n 0, 1, 0, 0, 0), (257, none, .iload_n 1, 1, 0, 0, 0), (258, none, .iload 6, 2, 0, 0, 0), (260, none, .invokevirtual 1203, 3, 2, 463, 1), (263, none, .aload_n 0, 1, 0, 0, 0), (264, none, .getfield 141, 3, 449, 129, 10), (267, none, .invokevirtual 460, 3, 2, 337, 1), (270, none, .istore 9, 2, 0, 0, 0), (272, none, .aload_n 0, 1, 0, 0, 0)] := fq_of2 cd_665 ow_665 cl_665 rfl (pc := 235) (by decide +kernel)
      j_inc (pc := 235) (L' := [(4, (0, wI (x4 + 1))), (0, (4, 602)), (1, (0, x1)), (2, (0, x2)), (3, (0, x3)), (5, (0, x5)), (6, (0, x6)), (7, (1, x7))]) D rfl rfl rfl (by decide +kernel) rfl fun D =>
      j_inc (pc := 238) (L' := [(5, (0, wI (x5 + 1))), (4, (0, wI (x4 + 1))), (0, (4, 602)), (1, (0, x1)), (2, (0, x2)), (3, (0, x3)), (6, (0, x6)), (7, (1, x7))]) D rfl rfl rfl (by decide +kernel) rfl fun D =>
      j_aldn (pc := 241) D rfl rfl rfl fun D =>
      j_aldn (pc := 242) D rfl rfl rfl fun D =>
      j_gfc (pc := 243) (a := 602) D rfl rfl (by decide) rfl (s0_602 H) rfl (sf_543_602 H) fun D =>
      j_ild (pc := 246) D rfl rfl rfl fun D =>
      j_al (pc := 248) (a := 700) (e := 11) D rfl rfl rfl (by decide) (s0_700 H) (s1_700 H) ⟨rfl, rfl, rfl⟩ rfl (gy qb3) fun q D =>
      j_lld (pc := 249) D rfl rfl rfl fun D =>
      j_lsub (pc := 251) D rfl fun D =>
      j_ivv (pc := 252) (m := 586) (dd := 414) (a := [(1, wJ ((h2 11 700 x6.toNat) - x7))]) (rest := []) D rfl rfl rfl rfl rfl (by decide) (s0_602 H) (by decide +kernel) (fun h4 e1 D =>
        have T := fj_run_ok _ _ _ _ _ _ H.1 e1
        have H := shp_st H T
        j_aldn (pc := 255) D rfl rfl rfl fun D =>
        j_aldn (pc := 256) D rfl rfl rfl fun D =>
        j_ildn (pc := 257) D rfl rfl rfl fun D =>
        j_ild (pc := 258) D rfl rfl rfl fun D =>
        j_iv (pc := 260) (m := 667) (dd := 463) (a := [(0, x1), (0, x6)]) (rest := [(4, 602)]) D rfl rfl rfl rfl rfl (by decide) (s0_602 H) (by decide +kernel) (fun v8 h7 e1 D =>
          have T := fj_run_ok _ _ _ _ _ _ H.1 e1
          have H := shp_st H T
          j_aldn (pc := 263) D rfl rfl rfl fun D =>
          j_gf (pc := 264) (a := 602) D rfl rfl (by decide) rfl (s0_602 H) rfl fun D =>
          j_iv (pc := 267) (m := 600) (dd := 337) (a := [(0, v8), (0, h7 449 602 0)]) (rest := []) D rfl rfl rfl rfl rfl (by decide) (s0_602 H) (by decide +kernel) (fun v11 h10 e1 D =>
            have T := fj_run_ok _ _ _ _ _ _ H.1 e1
            have H := shp_st H T
            j_ist (pc := 270) (L' := [(9, (0, v11)), (5, (0, wI (x5 + 1))), (4, (0, wI (x4 + 1))), (0, (4, 602)), (1, (0, x1)), (2, (0, x2)), (3, (0, x3)), (6, (0, x6)), (7, (1, x7))]) D rfl nl_665 rfl rfl fun D =>
            j_aldn (pc := 272) D rfl rfl rfl fun D =>
            have D : fk_D 665 [(273, none, .getfield 368, 3, 547, 129, 12), (276, none, .iload 6, 2, 0, 0, 0), (278, none, .aload_n 0, 1, 0, 0, 0), (279, none, .getfield 356, 3, 543, 129, 12), (282, none, .iload 6, 2, 0, 0, 0), (284, none, .laload, 1, 0, 0, 0), (285, none, .lload 7, 2, 0, 0, 0), (287, none, .lcmp, 1, 0, 0, 0), (288, none, .ifCond .le 12, 3, 300, 0, 0), (291, none, .iload 9, 2, 0, 0, 0), (293, none, .ifCond .le 7, 3, 300, 0, 0), (296, none, .iconst 1, 1, 0, 1, 0), (297, none, .goto 4, 3, 301, 0, 0)] := fq_of2 cd_665 ow_665 cl_665 rfl (pc := 273) (by decide +kernel)
            j_gfc (pc := 273) (a := 602) D rfl rfl (by decide) rfl (s0_602 H) rfl (sf_547_602 H) fun D =>
            j_ild (pc := 276) D rfl rfl rfl fun D =>
            j_aldn (pc := 278) D rfl rfl rfl fun D =>
            j_gfc (pc := 279) (a := 602) D rfl rfl (by decide) rfl (s0_602 H) rfl (sf_543_602 H) fun D =>
            j_ild (pc := 282) D rfl rfl rfl fun D =>
            j_al (pc := 284) (a := 700) (e := 11) D rfl rfl rfl (by decide) (s0_700 H) (s1_700 H) ⟨rfl, rfl, rfl⟩ rfl (gy qb3) fun q D =>
            j_lld (pc := 285) D rfl rfl rfl fun D =>
            j_lcmp (pc := 287) D rfl fun D =>
            j_ifle (pc := 288) D rfl (fun q D =>
              j_ild (pc := 291) D rfl rfl rfl fun D =>
              j_ifle (pc := 293) D rfl (fun q D =>
                j_ic (pc := 296) D rfl fun D =>
                j_goto (pc := 297) D rfl <|
                fk_jump cut_665_301 rfl rfl) (fun q =>
                fk_jump cut_665_300 rfl rfl)) (fun q =>
              fk_jump cut_665_300 rfl rfl)) (fun q12 h10 e1 =>
            j_tc_ (n := 130) (fk_at (cu := none) (by decide +kernel) rfl) (s := 10) (e := 375) (hp := 378) (ct := 9) (by decide +kernel) rfl (by decide +kernel) <|
            fk_jump cut_665_378 rfl rfl)) (fun q9 h7 e1 =>
          j_tc_ (n := 130) (fk_at (cu := none) (by decide +kernel) rfl) (s := 10) (e := 375) (hp := 378) (ct := 9) (by decide +kernel) rfl (by decide +kernel) <|
          fk_jump cut_665_378 rfl rfl)) (fun q6 h4 e1 =>
        j_tc_ (n := 130) (fk_at (cu := none) (by decide +kernel) rfl) (s := 10) (e := 375) (hp := 378) (ct := 9) (by decide +kernel) rfl (by decide +kernel) <|
        fk_jump cut_665_378 rfl rfl))
theorem e_665_300 (d : Nat) (x1 x2 x3 x4 x5 x6 x7 x9 s0 s1 : Int) {h : fi_H} (H : Shp h) : c_665_300 d x1 x2 x3 x4 x5 x6 x7 x9 s0 s1 h =
  c_665_301 d x1 x2 x3 x4 x5 x6 x7 x9 s0 s1 0 h := by
  unfold c_665_300
  exact
    have D : fk_D 665 [(300, some [0, 1, 2, 3, 4, 5, 6, 7, 9], .iconst 0, 1, 0, 0, 0)] := fq_of2 cd_665 ow_665 cl_665 rfl (pc := 300) (by decide +kernel)
    j_ic (pc := 300) D rfl fun D =>
    fk_jump cut_665_301 rfl rfl
theorem e_665_301 (d : Nat) (x1 x2 x3 x4 x5 x6 x7 x9 s0 s1 s2 : Int) {h : fi_H} (H : Shp h) : c_665_301 d x1 x2 x3 x4 x5 x6 x7 x9 s0 s1 s2 h =
  if 302 < s0 ∧ fi_et 1 (h 0 s0.toNat 0) ≠ 0 then
  if 0 ≤ s1 ∧ s1 < h 1 s0.toNat 0 then
  if fi_rg (fi_et 1 (h 0 s0.toNat 0)) s2 = true then
  lt_ (fi_upd h (fi_et 1 (h 0 s0.toNat 0)) s0.toNat s1.toNat s2) fun h1 =>
  if 0 ≤ x6 ∧ x6 < 24 then
  if h1 4 704 x6.toNat = 0 then
    c_665_369 d x1 x2 x3 x4 x5 x6 h1
  else
    cv_ (fj_run d 621 h1 [(4, 602), (0, 2), (1, wJ ((h1 11 700 x6.toNat) - x7)), (1, 0), (0, 1), (1, wI x9), (1, 0)])
      (fun h3 =>
      cv_ (fj_run d 621 h3 [(4, 602), (0, 2), (1, h3 492 602 0), (1, 0), (0, 3), (1, h3 518 602 0), (1, h3 519 602 0)])
        (fun h6 =>
        lt_ (fi_upd h6 11 702 x6.toNat (h6 492 602 0)) fun h9 =>
        c_665_369 d x1 x2 x3 x4 (wI (x5 + 1)) x6 h9)
        (fun q8 h6 => tc_ 130 q8 h6 (c_665_378 d (q8 : Int) h6)))
      (fun q5 h3 => tc_ 130 q5 h3 (c_665_378 d (q5 : Int) h3))
  else none
  else none
  else none
  else none := by
  unfold c_665_301
  exact
    have D : fk_D 665 [(301, some [0, 1, 2, 3, 4, 5, 6, 7, 9], .bastore, 1, 0, 0, 0), (302, none, .aload_n 0, 1, 0, 0, 0), (303, none, .getfield 368, 3, 547, 129, 12), (306, none, .iload 6, 2, 0, 0, 0), (308, none, .baload, 1, 0, 0, 0), (309, none, .ifCond .ne 6, 3, 315, 0, 0), (312, none, .goto 57, 3, 369, 0, 0)] := fq_of2 cd_665 ow_665 cl_665 rfl (pc := 301) (by decide +kernel)
    j_asub (pc := 301) D rfl rfl gn gn gn fun h1 eh1 S q q2 D =>
    have T := fj_hs_ok H.1 S
    have H := shp_st H T
    j_aldn (pc := 302) D rfl rfl rfl fun D =>
    j_gfc (pc := 303) (a := 602) D rfl rfl (by decide) rfl (s0_602 H) rfl (sf_547_602 H) fun D =>
    j_ild (pc := 306) D rfl rfl rfl fun D =>
    j_al (pc := 308) (a := 704) (e := 4) D rfl rfl rfl (by decide) (s0_704 H) (s1_704 H) ⟨rfl, rfl, rfl⟩ rfl gn fun qb2 D =>
    j_ifne (pc := 309) D rfl (fun q D =>
      j_goto (pc := 312) D rfl <|
      fk_jump cut_665_369 rfl rfl) (fun q =>
      have D : fk_D 665 [(315, none, .iinc 5 1, 3, 0, 1, 0), (318, none, .aload_n 0, 1, 0, 0, 0), (319, none, .iconst 2, 1, 0, 2, 0), (320, none, .aload_n 0, 1, 0, 0, 0), (321, none, .getfield 356, 3, 543, 129, 12), (324, none, .iload 6, 2, 0, 0, 0), (326, none, .laload, 1, 0, 0, 0), (327, none, .lload 7, 2, 0, 0, 0), (329, none, .lsub, 1, 0, 0, 0), (330, none, .lconst 0, 1, 0, 0, 0), (331, none, .iconst 1, 1, 0, 1, 0), (332, none, .iload 9, 2, 0, 0, 0), (334, none, .i2l, 1, 0, 0, 0), (335, none, .lconst 0, 1, 0, 0, 0), (336, none, .invokevirtual 1030, 3, 6, 432, 0), (339, none, .aload_n 0, 1, 0, 0, 0), (340, none, .iconst 2, 1, 0, 2, 0), (341, none, .aload_n 0, 1, 0, 0, 0), (342, none, .getfield 869, 3, 492, 129, 11), (345, none, .lconst 0, 1, 0, 0, 0)] := fq_of2 cd_665 ow_665 cl_665 rfl (pc := 315) (by decide +kernel)
      j_inc (pc := 315) (L' := [(5, (0, wI (x5 + 1))), (0, (4, 602)), (1, (0, x1)), (2, (0, x2)), (3, (0, x3)), (4, (0, x4)), (6, (0, x6)), (7, (1, x7)), (9, (0, x9))]) D rfl rfl rfl (by decide +kernel) rfl fun D =>
      j_aldn (pc := 318) D rfl rfl rfl fun D =>
      j_ic (pc := 319) D rfl fun D =>
      j_aldn (pc := 320) D rfl rfl rfl fun D =>
      j_gfc (pc := 321) (a := 602) D rfl rfl (by decide) rfl (s0_602 H) rfl (sf_543_602 H) fun D =>
      j_ild (pc := 324) D rfl rfl rfl fun D =>
      j_al (pc := 326) (a := 700) (e := 11) D rfl rfl rfl (by decide) (s0_700 H) (s1_700 H) ⟨rfl, rfl, rfl⟩ rfl (gy qb2) fun q D =>
      j_lld (pc := 327) D rfl rfl rfl fun D =>
      j_lsub (pc := 329) D rfl fun D =>
      j_c0 (pc := 330) (v := (1, 0)) D rfl rfl (by decide +kernel) fun D =>
      j_ic (pc := 331) D rfl fun D =>
      j_ild (pc := 332) D rfl rfl rfl fun D =>
      j_i2l (pc := 334) D rfl fun D =>
      j_c0 (pc := 335) (v := (1, 0)) D rfl rfl (by decide +kernel) fun D =>
      j_ivv (pc := 336) (m := 621) (dd := 432) (a := [(0, 2), (1, wJ ((h1 11 700 x6.toNat) - x7)), (1, 0), (0, 1), (1, wI x9), (1, 0)]) (rest := []) D rfl rfl rfl rfl rfl (by decide) (s0_602 H) (by decide +kernel) (fun h3 e1 D =>
        have T := fj_run_ok _ _ _ _ _ _ H.1 e1
        have H := shp_st H T
        j_aldn (pc := 339) D rfl rfl rfl fun D =>
        j_ic (pc := 340) D rfl fun D =>
        j_aldn (pc := 341) D rfl rfl rfl fun D =>
        j_gf (pc := 342) (a := 602) D rfl rfl (by decide) rfl (s0_602 H) rfl fun D =>
        j_c0 (pc := 345) (v := (1, 0)) D rfl rfl (by decide +kernel) fun D =>
        have D : fk_D 665 [(346, none, .iconst 3, 1, 0, 3, 0), (347, none, .aload_n 0, 1, 0, 0, 0), (348, none, .getfield 284, 3, 518, 129, 11), (351, none, .aload_n 0, 1, 0, 0, 0), (352, none, .getfield 290, 3, 519, 129, 11), (355, none, .invokevirtual 1030, 3, 6, 432, 0), (358, none, .aload_n 0, 1, 0, 0, 0), (359, none, .getfield 362, 3, 545, 129, 12), (362, none, .iload 6, 2, 0, 0, 0), (364, none, .aload_n 0, 1, 0, 0, 0), (365, none, .getfield 869, 3, 492, 129, 11), (368, none, .lastore, 1, 0, 0, 0)] := fq_of2 cd_665 ow_665 cl_665 rfl (pc := 346) (by decide +kernel)
        j_ic (pc := 346) D rfl fun D =>
        j_aldn (pc := 347) D rfl rfl rfl fun D =>
        j_gf (pc := 348) (a := 602) D rfl rfl (by decide) rfl (s0_602 H) rfl fun D =>
        j_aldn (pc := 351) D rfl rfl rfl fun D =>
        j_gf (pc := 352) (a := 602) D rfl rfl (by decide) rfl (s0_602 H) rfl fun D =>
        j_ivv (pc := 355) (m := 621) (dd := 432) (a := [(0, 2), (1, h3 492 602 0), (1, 0), (0, 3), (1, h3 518 602 0), (1, h3 519 602 0)]) (rest := []) D rfl rfl rfl rfl rfl (by decide) (s0_602 H) (by decide +kernel) (fun h6 e1 D =>
          have T := fj_run_ok _ _ _ _ _ _ H.1 e1
          have H := shp_st H T
          j_aldn (pc := 358) D rfl rfl rfl fun D =>
          j_gfc (pc := 359) (a := 602) D rfl rfl (by decide) rfl (s0_602 H) rfl (sf_545_602 H) fun D =>
          j_ild (pc := 362) D rfl rfl rfl fun D =>
          j_aldn (pc := 364) D rfl rfl rfl fun D =>
          j_gf (pc := 365) (a := 602) D rfl rfl (by decide) rfl (s0_602 H) rfl fun D =>
          j_as (pc := 368) (a := 702) (e := 11) D rfl ⟨rfl, rfl⟩ rfl (by decide) (s0_702 H) (s1_702 H) ⟨rfl, rfl, rfl⟩ rfl (gy qb2) (gy rfl) fun h9 eh9 S q D =>
          have T := fj_hs_ok H.1 S
          have H := shp_st H T
          fk_jump cut_665_369 rfl rfl) (fun q8 h6 e1 =>
          j_tc_ (n := 130) (fk_at (cu := none) (by decide +kernel) rfl) (s := 10) (e := 375) (hp := 378) (ct := 9) (by decide +kernel) rfl (by decide +kernel) <|
          fk_jump cut_665_378 rfl rfl)) (fun q5 h3 e1 =>
        j_tc_ (n := 130) (fk_at (cu := none) (by decide +kernel) rfl) (s := 10) (e := 375) (hp := 378) (ct := 9) (by decide +kernel) rfl (by decide +kernel) <|
        fk_jump cut_665_378 rfl rfl))
theorem e_665_369 (d : Nat) (x1 x2 x3 x4 x5 x6 : Int) {h : fi_H} (H : Shp h) : c_665_369 d x1 x2 x3 x4 x5 x6 h =
  c_665_127 d x1 x2 x3 x4 x5 (wI (x6 + 1)) h := by
  unfold c_665_369
  exact
    have D : fk_D 665 [(369, some [0, 1, 2, 3, 4, 5, 6], .iinc 6 1, 3, 0, 1, 0), (372, none, .goto (-245), 3, 127, 0, 0)] := fq_of2 cd_665 ow_665 cl_665 rfl (pc := 369) (by decide +kernel)
    j_inc (pc := 369) (L' := [(6, (0, wI (x6 + 1))), (0, (4, 602)), (1, (0, x1)), (2, (0, x2)), (3, (0, x3)), (4, (0, x4)), (5, (0, x5))]) D rfl rfl rfl (by decide +kernel) rfl fun D =>
    j_goto (pc := 372) D rfl <|
    fk_jump cut_665_127 rfl rfl
theorem e_665_378 (d : Nat) (s0 : Int) {h : fi_H} (H : Shp h) : c_665_378 d s0 h =
  some (.inl (some (0, wI ((-10) - (h 475 602 0)))), h) := by
  unfold c_665_378
  exact
    have D : fk_D 665 [(378, some [0], .astore 6, 2, 0, 0, 0), (380, none, .bipush (-10), 2, 0, (-10), 0), (382, none, .aload_n 0, 1, 0, 0, 0), (383, none, .getfield 839, 3, 475, 129, 10), (386, none, .isub, 1, 0, 0, 0), (387, none, .ireturn, 1, 0, 0, 0)] := fq_of2 cd_665 ow_665 cl_665 rfl (pc := 378) (by decide +kernel)
    j_ast (pc := 378) (L' := [(6, (4, s0)), (0, (4, 602))]) D rfl nl_665 rfl rfl fun D =>
    j_bp (pc := 380) D rfl fun D =>
    j_aldn (pc := 382) D rfl rfl rfl fun D =>
    j_gf (pc := 383) (a := 602) D rfl rfl (by decide) rfl (s0_602 H) rfl fun D =>
    j_isub (pc := 386) D rfl fun D =>
    j_iret D rt_665
theorem e_665_407 (d : Nat) (x1 x3 x4 x6 : Int) {h : fi_H} (H : Shp h) : c_665_407 d x1 x3 x4 x6 h =
  if 0 ≤ x1 ∧ x1 < 30 then
  if x6 < h 10 684 x1.toNat then
    if 0 ≤ x6 ∧ x6 < 24 then
    if h 4 703 x6.toNat = 0 then
      c_665_505 d x1 x3 x4 x6 h
    else
      if 0 ≤ wI ((wI (24 * x1)) + x6) ∧ wI ((wI (24 * x1)) + x6) < 720 then
      cv_ (fj_run d 655 h [(4, 602), (0, x1), (0, x6), (1, wJ ((h 11 700 x6.toNat) - (h 11 688 (wI ((wI (24 * x1)) + x6)).toNat))), (0, x3), (0, 1)])
        (fun h4 =>
        if h4 4 704 x6.toNat = 0 then
          c_665_486 d x1 x3 x4 x6 h4
        else
          cv_ (fj_run d 655 h4 [(4, 602), (0, x1), (0, x6), (1, h4 11 702 x6.toNat), (0, x3), (0, 2)])
            (fun h7 =>
            c_665_486 d x1 x3 x4 x6 h7)
            (fun q9 h7 => tx_ q9 h7))
        (fun q6 h4 => tx_ q6 h4)
      else none
    else none
  else
    cv_ (fj_run d 656 h [(4, 602), (0, h 10 681 x1.toNat)])
      (fun h10 =>
      some (.inl (some (0, x4)), h10))
      (fun q12 h10 => tx_ q12 h10)
  else none := by
  unfold c_665_407
  exact
    have D : fk_D 665 [(407, some [0, 1, 3, 4, 6], .iload 6, 2, 0, 0, 0), (409, none, .aload_n 0, 1, 0, 0, 0), (410, none, .getfield 302, 3, 523, 129, 12), (413, none, .iload_n 1, 1, 0, 0, 0), (414, none, .iaload, 1, 0, 0, 0), (415, none, .if_icmp .ge 96, 3, 511, 0, 0), (418, none, .aload_n 0, 1, 0, 0, 0), (419, none, .getfield 365, 3, 546, 129, 12), (422, none, .iload 6, 2, 0, 0, 0), (424, none, .baload, 1, 0, 0, 0), (425, none, .ifCond .ne 6, 3, 431, 0, 0), (428, none, .goto 77, 3, 505, 0, 0)] := fq_of2 cd_665 ow_665 cl_665 rfl (pc := 407) (by decide +kernel)
    j_ild (pc := 407) D rfl rfl rfl fun D =>
    j_aldn (pc := 409) D rfl rfl rfl fun D =>
    j_gfc (pc := 410) (a := 602) D rfl rfl (by decide) rfl (s0_602 H) rfl (sf_523_602 H) fun D =>
    j_ildn (pc := 413) D rfl rfl rfl fun D =>
    j_al (pc := 414) (a := 684) (e := 10) D rfl rfl rfl (by decide) (s0_684 H) (s1_684 H) ⟨rfl, rfl, rfl⟩ rfl gn fun qb1 D =>
    j_ige (pc := 415) D rfl (fun q D =>
      j_aldn (pc := 418) D rfl rfl rfl fun D =>
      j_gfc (pc := 419) (a := 602) D rfl rfl (by decide) rfl (s0_602 H) rfl (sf_546_602 H) fun D =>
      j_ild (pc := 422) D rfl rfl rfl fun D =>
      j_al (pc := 424) (a := 703) (e := 4) D rfl rfl rfl (by decide) (s0_703 H) (s1_703 H) ⟨rfl, rfl, rfl⟩ rfl gn fun qb2 D =>
      j_ifne (pc := 425) D rfl (fun q D =>
        j_goto (pc := 428) D rfl <|
        fk_jump cut_665_505 rfl rfl) (fun q =>
        have D : fk_D 665 [(431, none, .aload_n 0, 1, 0, 0, 0), (432, none, .iload_n 1, 1, 0, 0, 0), (433, none, .iload 6, 2, 0, 0, 0), (435, none, .aload_n 0, 1, 0, 0, 0), (436, none, .getfield 356, 3, 543, 129, 12), (439, none, .iload 6, 2, 0, 0, 0), (441, none, .laload, 1, 0, 0, 0), (442, none, .aload_n 0, 1, 0, 0, 0), (443, none, .getfield 314, 3, 527, 129, 12), (446, none, .bipush 24, 2, 0, 24, 0), (448, none, .iload_n 1, 1, 0, 0, 0), (449, none, .imul, 1, 0, 0, 0), (450, none, .iload 6, 2, 0, 0, 0), (452, none, .iadd, 1, 0, 0, 0), (453, none, .laload, 1, 0, 0, 0), (454, none, .lsub, 1, 0, 0, 0), (455, none, .iload_n 3, 1, 0, 0, 0), (456, none, .iconst 1, 1, 0, 1, 0), (457, none, .invokevirtual 1175, 3, 5, 457, 0), (460, none, .aload_n 0, 1, 0, 0, 0)] := fq_of2 cd_665 ow_665 cl_665 rfl (pc := 431) (by decide +kernel)
        j_aldn (pc := 431) D rfl rfl rfl fun D =>
        j_ildn (pc := 432) D rfl rfl rfl fun D =>
        j_ild (pc := 433) D rfl rfl rfl fun D =>
        j_aldn (pc := 435) D rfl rfl rfl fun D =>
        j_gfc (pc := 436) (a := 602) D rfl rfl (by decide) rfl (s0_602 H) rfl (sf_543_602 H) fun D =>
        j_ild (pc := 439) D rfl rfl rfl fun D =>
        j_al (pc := 441) (a := 700) (e := 11) D rfl rfl rfl (by decide) (s0_700 H) (s1_700 H) ⟨rfl, rfl, rfl⟩ rfl (gy qb2) fun q D =>
        j_aldn (pc := 442) D rfl rfl rfl fun D =>
        j_gfc (pc := 443) (a := 602) D rfl rfl (by decide) rfl (s0_602 H) rfl (sf_527_602 H) fun D =>
        j_bp (pc := 446) D rfl fun D =>
        j_ildn (pc := 448) D rfl rfl rfl fun D =>
        j_imul (pc := 449) D rfl fun D =>
        j_ild (pc := 450) D rfl rfl rfl fun D =>
        j_iadd (pc := 452) D rfl fun D =>
        j_al (pc := 453) (a := 688) (e := 11) D rfl rfl rfl (by decide) (s0_688 H) (s1_688 H) ⟨rfl, rfl, rfl⟩ rfl gn fun qb3 D =>
        j_lsub (pc := 454) D rfl fun D =>
        j_ildn (pc := 455) D rfl rfl rfl fun D =>
        j_ic (pc := 456) D rfl fun D =>
        j_ivv (pc := 457) (m := 655) (dd := 457) (a := [(0, x1), (0, x6), (1, wJ ((h 11 700 x6.toNat) - (h 11 688 (wI ((wI (24 * x1)) + x6)).toNat))), (0, x3), (0, 1)]) (rest := []) D rfl rfl rfl rfl rfl (by decide) (s0_602 H) (by decide +kernel) (fun h4 e1 D =>
          have T := fj_run_ok _ _ _ _ _ _ H.1 e1
          have H := shp_st H T
          j_aldn (pc := 460) D rfl rfl rfl fun D =>
          have D : fk_D 665 [(461, none, .getfield 368, 3, 547, 129, 12), (464, none, .iload 6, 2, 0, 0, 0), (466, none, .baload, 1, 0, 0, 0), (467, none, .ifCond .eq 19, 3, 486, 0, 0), (470, none, .aload_n 0, 1, 0, 0, 0), (471, none, .iload_n 1, 1, 0, 0, 0), (472, none, .iload 6, 2, 0, 0, 0), (474, none, .aload_n 0, 1, 0, 0, 0), (475, none, .getfield 362, 3, 545, 129, 12), (478, none, .iload 6, 2, 0, 0, 0), (480, none, .laload, 1, 0, 0, 0), (481, none, .iload_n 3, 1, 0, 0, 0), (482, none, .iconst 2, 1, 0, 2, 0), (483, none, .invokevirtual 1175, 3, 5, 457, 0)] := fq_of2 cd_665 ow_665 cl_665 rfl (pc := 461) (by decide +kernel)
          j_gfc (pc := 461) (a := 602) D rfl rfl (by decide) rfl (s0_602 H) rfl (sf_547_602 H) fun D =>
          j_ild (pc := 464) D rfl rfl rfl fun D =>
          j_al (pc := 466) (a := 704) (e := 4) D rfl rfl rfl (by decide) (s0_704 H) (s1_704 H) ⟨rfl, rfl, rfl⟩ rfl (gy qb2) fun q D =>
          j_ifeq (pc := 467) D rfl (fun q =>
            fk_jump cut_665_486 rfl rfl) (fun q D =>
            j_aldn (pc := 470) D rfl rfl rfl fun D =>
            j_ildn (pc := 471) D rfl rfl rfl fun D =>
            j_ild (pc := 472) D rfl rfl rfl fun D =>
            j_aldn (pc := 474) D rfl rfl rfl fun D =>
            j_gfc (pc := 475) (a := 602) D rfl rfl (by decide) rfl (s0_602 H) rfl (sf_545_602 H) fun D =>
            j_ild (pc := 478) D rfl rfl rfl fun D =>
            j_al (pc := 480) (a := 702) (e := 11) D rfl rfl rfl (by decide) (s0_702 H) (s1_702 H) ⟨rfl, rfl, rfl⟩ rfl (gy qb2) fun q D =>
            j_ildn (pc := 481) D rfl rfl rfl fun D =>
            j_ic (pc := 482) D rfl fun D =>
            j_ivv (pc := 483) (m := 655) (dd := 457) (a := [(0, x1), (0, x6), (1, h4 11 702 x6.toNat), (0, x3), (0, 2)]) (rest := []) D rfl rfl rfl rfl rfl (by decide) (s0_602 H) (by decide +kernel) (fun h7 e1 D =>
              have T := fj_run_ok _ _ _ _ _ _ H.1 e1
              have H := shp_st H T
              fk_jump cut_665_486 rfl rfl) (fun q9 h7 e1 =>
              j_tx (by decide +kernel)))) (fun q6 h4 e1 =>
          j_tx (by decide +kernel)))) (fun q =>
      have D : fk_D 665 [(511, none, .aload_n 0, 1, 0, 0, 0), (512, none, .aload_n 0, 1, 0, 0, 0), (513, none, .getfield 293, 3, 520, 129, 12), (516, none, .iload_n 1, 1, 0, 0, 0), (517, none, .iaload, 1, 0, 0, 0), (518, none, .invokevirtual 1179, 3, 1, 458, 0), (521, none, .iload 4, 2, 0, 0, 0), (523, none, .ireturn, 1, 0, 0, 0)] := fq_of2 cd_665 ow_665 cl_665 rfl (pc := 511) (by decide +kernel)
      j_aldn (pc := 511) D rfl rfl rfl fun D =>
      j_aldn (pc := 512) D rfl rfl rfl fun D =>
      j_gfc (pc := 513) (a := 602) D rfl rfl (by decide) rfl (s0_602 H) rfl (sf_520_602 H) fun D =>
      j_ildn (pc := 516) D rfl rfl rfl fun D =>
      j_al (pc := 517) (a := 681) (e := 10) D rfl rfl rfl (by decide) (s0_681 H) (s1_681 H) ⟨rfl, rfl, rfl⟩ rfl (gy qb1) fun q D =>
      j_ivv (pc := 518) (m := 656) (dd := 458) (a := [(0, h 10 681 x1.toNat)]) (rest := []) D rfl rfl rfl rfl rfl (by decide) (s0_602 H) (by decide +kernel) (fun h10 e1 D =>
        have T := fj_run_ok _ _ _ _ _ _ H.1 e1
        have H := shp_st H T
        j_ild (pc := 521) D rfl rfl rfl fun D =>
        j_iret D rt_665) (fun q12 h10 e1 =>
        j_tx (by decide +kernel)))
theorem e_665_486 (d : Nat) (x1 x3 x4 x6 : Int) {h : fi_H} (H : Shp h) : c_665_486 d x1 x3 x4 x6 h =
  if 0 ≤ x6 ∧ x6 < 24 then
  if 0 ≤ wI ((wI (24 * x1)) + x6) ∧ wI ((wI (24 * x1)) + x6) < 720 then
  lt_ (fi_upd h 11 688 (wI ((wI (24 * x1)) + x6)).toNat (h 11 700 x6.toNat)) fun h2 =>
  c_665_505 d x1 x3 x4 x6 h2
  else none
  else none := by
  unfold c_665_486
  exact
    have D : fk_D 665 [(486, some [0, 1, 3, 4, 6], .aload_n 0, 1, 0, 0, 0), (487, none, .getfield 314, 3, 527, 129, 12), (490, none, .bipush 24, 2, 0, 24, 0), (492, none, .iload_n 1, 1, 0, 0, 0), (493, none, .imul, 1, 0, 0, 0), (494, none, .iload 6, 2, 0, 0, 0), (496, none, .iadd, 1, 0, 0, 0), (497, none, .aload_n 0, 1, 0, 0, 0), (498, none, .getfield 356, 3, 543, 129, 12), (501, none, .iload 6, 2, 0, 0, 0), (503, none, .laload, 1, 0, 0, 0), (504, none, .lastore, 1, 0, 0, 0)] := fq_of2 cd_665 ow_665 cl_665 rfl (pc := 486) (by decide +kernel)
    j_aldn (pc := 486) D rfl rfl rfl fun D =>
    j_gfc (pc := 487) (a := 602) D rfl rfl (by decide) rfl (s0_602 H) rfl (sf_527_602 H) fun D =>
    j_bp (pc := 490) D rfl fun D =>
    j_ildn (pc := 492) D rfl rfl rfl fun D =>
    j_imul (pc := 493) D rfl fun D =>
    j_ild (pc := 494) D rfl rfl rfl fun D =>
    j_iadd (pc := 496) D rfl fun D =>
    j_aldn (pc := 497) D rfl rfl rfl fun D =>
    j_gfc (pc := 498) (a := 602) D rfl rfl (by decide) rfl (s0_602 H) rfl (sf_543_602 H) fun D =>
    j_ild (pc := 501) D rfl rfl rfl fun D =>
    j_al (pc := 503) (a := 700) (e := 11) D rfl rfl rfl (by decide) (s0_700 H) (s1_700 H) ⟨rfl, rfl, rfl⟩ rfl gn fun qb1 D =>
    j_as (pc := 504) (a := 688) (e := 11) D rfl ⟨rfl, rfl⟩ rfl (by decide) (s0_688 H) (s1_688 H) ⟨rfl, rfl, rfl⟩ rfl gn (gy rfl) fun h2 eh2 S qb3 D =>
    have T := fj_hs_ok H.1 S
    have H := shp_st H T
    fk_jump cut_665_505 rfl rfl
theorem e_665_505 (d : Nat) (x1 x3 x4 x6 : Int) {h : fi_H} (H : Shp h) : c_665_505 d x1 x3 x4 x6 h =
  c_665_407 d x1 x3 x4 (wI (x6 + 1)) h := by
  unfold c_665_505
  exact
    have D : fk_D 665 [(505, some [0, 1, 3, 4, 6], .iinc 6 1, 3, 0, 1, 0), (508, none, .goto (-101), 3, 407, 0, 0)] := fq_of2 cd_665 ow_665 cl_665 rfl (pc := 505) (by decide +kernel)
    j_inc (pc := 505) (L' := [(6, (0, wI (x6 + 1))), (0, (4, 602)), (1, (0, x1)), (3, (0, x3)), (4, (0, x4))]) D rfl rfl rfl (by decide +kernel) rfl fun D =>
    j_goto (pc := 508) D rfl <|
    fk_jump cut_665_407 rfl rfl
theorem m_665 (d : Nat) (x1 x2 : Int) {h : fi_H} (H : Shp h) : fj_run (d + 1) 665 h [(4, 602), (0, x1), (0, x2)] =
  cv_ (fj_run d 652 h [(4, 602)])
    (fun h1 =>
    ca_ (fj_run d 653 h1 [(4, 602), (0, h1 449 602 0)]) 0
      (fun v5 h4 =>
      c_665_22 d x1 x2 v5 0 0 0 h4)
      (fun q6 h4 => tc_ 130 q6 h4 (c_665_378 d (q6 : Int) h4)))
    (fun q3 h1 => tx_ q3 h1) := by
  rw [fj_run_eq d (by decide) h [(4, 602), (0, x1), (0, x2)] (Nat.le_of_ble_eq_true (by rw [nl_665]; rfl))]
  show gG (fj_run d) 665 0 [(0, (4, 602)), (1, (0, x1)), (2, (0, x2))] [] h = _
  exact
    have D : fk_D 665 [(0, none, .aload_n 0, 1, 0, 0, 0), (1, none, .invokevirtual 1165, 3, 0, 454, 0), (4, none, .iconst 0, 1, 0, 0, 0), (5, none, .istore 4, 2, 0, 0, 0), (7, none, .iconst 0, 1, 0, 0, 0), (8, none, .istore 5, 2, 0, 0, 0), (10, none, .aload_n 0, 1, 0, 0, 0), (11, none, .aload_n 0, 1, 0, 0, 0), (12, none, .getfield 141, 3, 449, 129, 10), (15, none, .invokevirtual 1168, 3, 1, 455, 1), (18, none, .istore_n 3, 1, 0, 0, 0), (19, none, .iconst 0, 1, 0, 0, 0), (20, none, .istore 6, 2, 0, 0, 0)] := fq_of2 cd_665 ow_665 cl_665 rfl (pc := 0) (by decide +kernel)
    j_aldn (pc := 0) D rfl rfl rfl fun D =>
    j_ivv (pc := 1) (m := 652) (dd := 454) (a := []) (rest := []) D rfl rfl rfl rfl rfl (by decide) (s0_602 H) (by decide +kernel) (fun h1 e1 D =>
      have T := fj_run_ok _ _ _ _ _ _ H.1 e1
      have H := shp_st H T
      j_ic (pc := 4) D rfl fun D =>
      j_ist (pc := 5) (L' := [(4, (0, 0)), (0, (4, 602)), (1, (0, x1)), (2, (0, x2))]) D rfl nl_665 rfl rfl fun D =>
      j_ic (pc := 7) D rfl fun D =>
      j_ist (pc := 8) (L' := [(5, (0, 0)), (4, (0, 0)), (0, (4, 602)), (1, (0, x1)), (2, (0, x2))]) D rfl nl_665 rfl rfl fun D =>
      j_aldn (pc := 10) D rfl rfl rfl fun D =>
      j_aldn (pc := 11) D rfl rfl rfl fun D =>
      j_gf (pc := 12) (a := 602) D rfl rfl (by decide) rfl (s0_602 H) rfl fun D =>
      j_iv (pc := 15) (m := 653) (dd := 455) (a := [(0, h1 449 602 0)]) (rest := []) D rfl rfl rfl rfl rfl (by decide) (s0_602 H) (by decide +kernel) (fun v5 h4 e1 D =>
        have T := fj_run_ok _ _ _ _ _ _ H.1 e1
        have H := shp_st H T
        j_istn (pc := 18) (L' := [(3, (0, v5)), (5, (0, 0)), (4, (0, 0)), (0, (4, 602)), (1, (0, x1)), (2, (0, x2))]) D rfl nl_665 rfl rfl fun D =>
        j_ic (pc := 19) D rfl fun D =>
        j_ist (pc := 20) (L' := [(6, (0, 0)), (3, (0, v5)), (5, (0, 0)), (4, (0, 0)), (0, (4, 602)), (1, (0, x1)), (2, (0, x2))]) D rfl nl_665 rfl rfl fun D =>
        fk_jump cut_665_22 rfl rfl) (fun q6 h4 e1 =>
        j_tc_ (n := 130) (fk_at (cu := none) (by decide +kernel) rfl) (s := 10) (e := 375) (hp := 378) (ct := 9) (by decide +kernel) rfl (by decide +kernel) <|
        fk_jump cut_665_378 rfl rfl)) (fun q3 h1 e1 =>
      j_tx (by decide +kernel))
/-! 666 StatuteHouseModel.mayBe(I)Z -/
theorem cd_666 : fi_code 666 = prog_69_method_184_code := rfl
theorem hx_666 : ∀ pc, fi_hat 666 pc = none := fun pc => by unfold fi_hat; rw [show fi_hh 666 = [] from rfl]; rfl
theorem rt_666 : fi_ret 666 = some .boolean := rfl
theorem nl_666 : fi_nl 666 = 3 := rfl
theorem ow_666 : fi_ow 666 = 29 := rfl
theorem cl_666 : fj_cutT.getD 666 [] = [] := rfl
theorem m_666 (d : Nat) (x1 : Int) {h : fi_H} (H : Shp h) : fj_run (d + 1) 666 h [(4, 602), (0, x1)] =
  ca_ (fj_run d 618 h [(4, 602), (0, x1), (0, h 517 602 0), (0, 0)]) 0
    (fun v2 h1 =>
    if v2 = (-1) then
      some (.inl (some (0, 1)), h1)
    else
      if v2 < h1 449 602 0 then
        some (.inl (some (0, 0)), h1)
      else
        some (.inl (some (0, 1)), h1))
    (fun q3 h1 => tx_ q3 h1) := by
  rw [fj_run_eq d (by decide) h [(4, 602), (0, x1)] (Nat.le_of_ble_eq_true (by rw [nl_666]; rfl))]
  show gG (fj_run d) 666 0 [(0, (4, 602)), (1, (0, x1))] [] h = _
  exact
    have D : fk_D 666 [(0, none, .aload_n 0, 1, 0, 0, 0), (1, none, .iload_n 1, 1, 0, 0, 0), (2, none, .aload_n 0, 1, 0, 0, 0), (3, none, .getfield 281, 3, 517, 129, 10), (6, none, .iconst 0, 1, 0, 0, 0), (7, none, .invokevirtual 1017, 3, 3, 430, 1), (10, none, .istore_n 2, 1, 0, 0, 0), (11, none, .iload_n 2, 1, 0, 0, 0), (12, none, .iconst (-1), 1, 0, (-1), 0), (13, none, .if_icmp .eq 11, 3, 24, 0, 0), (16, none, .iload_n 2, 1, 0, 0, 0), (17, none, .aload_n 0, 1, 0, 0, 0), (18, none, .getfield 141, 3, 449, 129, 10), (21, none, .if_icmp .lt 7, 3, 28, 0, 0), (24, none, .iconst 1, 1, 0, 1, 0), (25, none, .goto 4, 3, 29, 0, 0)] := fq_of2 cd_666 ow_666 cl_666 rfl (pc := 0) (by decide +kernel)
    j_aldn (pc := 0) D rfl rfl rfl fun D =>
    j_ildn (pc := 1) D rfl rfl rfl fun D =>
    j_aldn (pc := 2) D rfl rfl rfl fun D =>
    j_gf (pc := 3) (a := 602) D rfl rfl (by decide) rfl (s0_602 H) rfl fun D =>
    j_ic (pc := 6) D rfl fun D =>
    j_iv (pc := 7) (m := 618) (dd := 430) (a := [(0, x1), (0, h 517 602 0), (0, 0)]) (rest := []) D rfl rfl rfl rfl rfl (by decide) (s0_602 H) (by decide +kernel) (fun v2 h1 e1 D =>
      have T := fj_run_ok _ _ _ _ _ _ H.1 e1
      have H := shp_st H T
      j_istn (pc := 10) (L' := [(2, (0, v2)), (0, (4, 602)), (1, (0, x1))]) D rfl nl_666 rfl rfl fun D =>
      j_ildn (pc := 11) D rfl rfl rfl fun D =>
      j_ic (pc := 12) D rfl fun D =>
      j_ieq (pc := 13) D rfl (fun q =>
        have D : fk_D 666 [(24, none, .iconst 1, 1, 0, 1, 0), (25, none, .goto 4, 3, 29, 0, 0)] := fq_of2 cd_666 ow_666 cl_666 rfl (pc := 24) (by decide +kernel)
        j_ic (pc := 24) D rfl fun D =>
        j_goto (pc := 25) D rfl <|
        have D : fk_D 666 [(29, none, .ireturn, 1, 0, 0, 0)] := fq_of2 cd_666 ow_666 cl_666 rfl (pc := 29) (by decide +kernel)
        j_zret D rt_666 (gy (by decide))) (fun q D =>
        j_ildn (pc := 16) D rfl rfl rfl fun D =>
        j_aldn (pc := 17) D rfl rfl rfl fun D =>
        j_gf (pc := 18) (a := 602) D rfl rfl (by decide) rfl (s0_602 H) rfl fun D =>
        j_ilt (pc := 21) D rfl (fun q =>
          have D : fk_D 666 [(28, none, .iconst 0, 1, 0, 0, 0), (29, none, .ireturn, 1, 0, 0, 0)] := fq_of2 cd_666 ow_666 cl_666 rfl (pc := 28) (by decide +kernel)
          j_ic (pc := 28) D rfl fun D =>
          j_zret D rt_666 (gy (by decide))) (fun q D =>
          j_ic (pc := 24) D rfl fun D =>
          j_goto (pc := 25) D rfl <|
          have D : fk_D 666 [(29, none, .ireturn, 1, 0, 0, 0)] := fq_of2 cd_666 ow_666 cl_666 rfl (pc := 29) (by decide +kernel)
          j_zret D rt_666 (gy (by decide))))) (fun q3 h1 e1 =>
      j_tx (hx_666 _))
/-! 667 StatuteHouseModel.firstDue(II)I -/
theorem cd_667 : fi_code 667 = prog_69_method_185_code := rfl
theorem hx_667 : ∀ pc, fi_hat 667 pc = none := fun pc => by unfold fi_hat; rw [show fi_hh 667 = [] from rfl]; rfl
theorem rt_667 : fi_ret 667 = some .int := rfl
theorem nl_667 : fi_nl 667 = 4 := rfl
theorem ow_667 : fi_ow 667 = 29 := rfl
theorem cl_667 : fj_cutT.getD 667 [] = [(2, [0, 1, 2, 3]), (37, [0, 1, 2, 3])] := rfl
theorem cut_667_2 : fj_cut 667 2 = some [0, 1, 2, 3] := by decide +kernel
noncomputable def c_667_2 (d : Nat) (x1 x2 x3 : Int) (h : fi_H) : fk_R := gG (fj_run d) 667 2 [(0, (4, 602)), (1, (0, x1)), (2, (0, x2)), (3, (0, x3))] [] h
theorem cut_667_37 : fj_cut 667 37 = some [0, 1, 2, 3] := by decide +kernel
noncomputable def c_667_37 (d : Nat) (x1 x2 x3 : Int) (h : fi_H) : fk_R := gG (fj_run d) 667 37 [(0, (4, 602)), (1, (0, x1)), (2, (0, x2)), (3, (0, x3))] [] h
theorem e_667_2 (d : Nat) (x1 x2 x3 : Int) {h : fi_H} (H : Shp h) : c_667_2 d x1 x2 x3 h =
  if x3 < h 542 602 0 then
    if 0 ≤ x3 ∧ x3 < 440 then
    if h 10 690 x3.toNat = x1 then
      if h 10 691 x3.toNat = x2 then
        some (.inl (some (0, h 10 693 x3.toNat)), h)
      else
        c_667_37 d x1 x2 x3 h
    else
      c_667_37 d x1 x2 x3 h
    else none
  else
    some (.inl (some (0, (-1))), h) := by
  unfold c_667_2
  exact
    have D : fk_D 667 [(2, some [0, 1, 2, 3], .iload_n 3, 1, 0, 0, 0), (3, none, .aload_n 0, 1, 0, 0, 0), (4, none, .getfield 1098, 3, 542, 129, 10), (7, none, .if_icmp .ge 36, 3, 43, 0, 0), (10, none, .aload_n 0, 1, 0, 0, 0), (11, none, .getfield 320, 3, 530, 129, 12), (14, none, .iload_n 3, 1, 0, 0, 0), (15, none, .iaload, 1, 0, 0, 0), (16, none, .iload_n 1, 1, 0, 0, 0), (17, none, .if_icmp .ne 20, 3, 37, 0, 0), (20, none, .aload_n 0, 1, 0, 0, 0), (21, none, .getfield 323, 3, 531, 129, 12), (24, none, .iload_n 3, 1, 0, 0, 0), (25, none, .iaload, 1, 0, 0, 0), (26, none, .iload_n 2, 1, 0, 0, 0), (27, none, .if_icmp .ne 10, 3, 37, 0, 0), (30, none, .aload_n 0, 1, 0, 0, 0), (31, none, .getfield 329, 3, 533, 129, 12), (34, none, .iload_n 3, 1, 0, 0, 0), (35, none, .iaload, 1, 0, 0, 0)] := fq_of2 cd_667 ow_667 cl_667 rfl (pc := 2) (by decide +kernel)
    j_ildn (pc := 2) D rfl rfl rfl fun D =>
    j_aldn (pc := 3) D rfl rfl rfl fun D =>
    j_gf (pc := 4) (a := 602) D rfl rfl (by decide) rfl (s0_602 H) rfl fun D =>
    j_ige (pc := 7) D rfl (fun q D =>
      j_aldn (pc := 10) D rfl rfl rfl fun D =>
      j_gfc (pc := 11) (a := 602) D rfl rfl (by decide) rfl (s0_602 H) rfl (sf_530_602 H) fun D =>
      j_ildn (pc := 14) D rfl rfl rfl fun D =>
      j_al (pc := 15) (a := 690) (e := 10) D rfl rfl rfl (by decide) (s0_690 H) (s1_690 H) ⟨rfl, rfl, rfl⟩ rfl gn fun qb1 D =>
      j_ildn (pc := 16) D rfl rfl rfl fun D =>
      j_ine (pc := 17) D rfl (fun q D =>
        j_aldn (pc := 20) D rfl rfl rfl fun D =>
        j_gfc (pc := 21) (a := 602) D rfl rfl (by decide) rfl (s0_602 H) rfl (sf_531_602 H) fun D =>
        j_ildn (pc := 24) D rfl rfl rfl fun D =>
        j_al (pc := 25) (a := 691) (e := 10) D rfl rfl rfl (by decide) (s0_691 H) (s1_691 H) ⟨rfl, rfl, rfl⟩ rfl (gy qb1) fun q D =>
        j_ildn (pc := 26) D rfl rfl rfl fun D =>
        j_ine (pc := 27) D rfl (fun q D =>
          j_aldn (pc := 30) D rfl rfl rfl fun D =>
          j_gfc (pc := 31) (a := 602) D rfl rfl (by decide) rfl (s0_602 H) rfl (sf_533_602 H) fun D =>
          j_ildn (pc := 34) D rfl rfl rfl fun D =>
          j_al (pc := 35) (a := 693) (e := 10) D rfl rfl rfl (by decide) (s0_693 H) (s1_693 H) ⟨rfl, rfl, rfl⟩ rfl (gy qb1) fun q D =>
          have D : fk_D 667 [(36, none, .ireturn, 1, 0, 0, 0)] := fq_of2 cd_667 ow_667 cl_667 rfl (pc := 36) (by decide +kernel)
          j_iret D rt_667) (fun q =>
          fk_jump cut_667_37 rfl rfl)) (fun q =>
        fk_jump cut_667_37 rfl rfl)) (fun q =>
      have D : fk_D 667 [(43, none, .iconst (-1), 1, 0, (-1), 0), (44, none, .ireturn, 1, 0, 0, 0)] := fq_of2 cd_667 ow_667 cl_667 rfl (pc := 43) (by decide +kernel)
      j_ic (pc := 43) D rfl fun D =>
      j_iret D rt_667)
theorem e_667_37 (d : Nat) (x1 x2 x3 : Int) {h : fi_H} (H : Shp h) : c_667_37 d x1 x2 x3 h =
  c_667_2 d x1 x2 (wI (x3 + 1)) h := by
  unfold c_667_37
  exact
    have D : fk_D 667 [(37, some [0, 1, 2, 3], .iinc 3 1, 3, 0, 1, 0), (40, none, .goto (-38), 3, 2, 0, 0)] := fq_of2 cd_667 ow_667 cl_667 rfl (pc := 37) (by decide +kernel)
    j_inc (pc := 37) (L' := [(3, (0, wI (x3 + 1))), (0, (4, 602)), (1, (0, x1)), (2, (0, x2))]) D rfl rfl rfl (by decide +kernel) rfl fun D =>
    j_goto (pc := 40) D rfl <|
    fk_jump cut_667_2 rfl rfl
theorem m_667 (d : Nat) (x1 x2 : Int) {h : fi_H} (H : Shp h) : fj_run (d + 1) 667 h [(4, 602), (0, x1), (0, x2)] =
  c_667_2 d x1 x2 0 h := by
  rw [fj_run_eq d (by decide) h [(4, 602), (0, x1), (0, x2)] (Nat.le_of_ble_eq_true (by rw [nl_667]; rfl))]
  show gG (fj_run d) 667 0 [(0, (4, 602)), (1, (0, x1)), (2, (0, x2))] [] h = _
  exact
    have D : fk_D 667 [(0, none, .iconst 0, 1, 0, 0, 0), (1, none, .istore_n 3, 1, 0, 0, 0)] := fq_of2 cd_667 ow_667 cl_667 rfl (pc := 0) (by decide +kernel)
    j_ic (pc := 0) D rfl fun D =>
    j_istn (pc := 1) (L' := [(3, (0, 0)), (0, (4, 602)), (1, (0, x1)), (2, (0, x2))]) D rfl nl_667 rfl rfl fun D =>
    fk_jump cut_667_2 rfl rfl
/-! 668 StatuteHouseModel.revise(I)I -/
theorem cd_668 : fi_code 668 = prog_69_method_183_code := rfl
theorem hx_668 : ∀ pc, fi_hat 668 pc = none := fun pc => by unfold fi_hat; rw [show fi_hh 668 = [] from rfl]; rfl
theorem rt_668 : fi_ret 668 = some .int := rfl
theorem nl_668 : fi_nl 668 = 2 := rfl
theorem ow_668 : fi_ow 668 = 29 := rfl
theorem cl_668 : fj_cutT.getD 668 [] = [] := rfl
theorem m_668 (d : Nat) (x1 : Int) {h : fi_H} (H : Shp h) : fj_run (d + 1) 668 h [(4, 602), (0, x1)] =
  ca_ (fj_run d 663 h [(4, 602), (0, x1)]) 0
    (fun v2 h1 =>
    if v2 = 0 then
      some (.inl (some (0, (-1))), h1)
    else
      if 0 ≤ x1 ∧ x1 < 30 then
      if h1 10 685 x1.toNat = 1 then
        some (.inl (some (0, (-3))), h1)
      else
        ca_ (fj_run d 665 h1 [(4, 602), (0, x1), (0, 0)]) 0
          (fun v6 h5 =>
          some (.inl (some (0, v6)), h5))
          (fun q7 h5 => tx_ q7 h5)
      else none)
    (fun q3 h1 => tx_ q3 h1) := by
  rw [fj_run_eq d (by decide) h [(4, 602), (0, x1)] (Nat.le_of_ble_eq_true (by rw [nl_668]; rfl))]
  show gG (fj_run d) 668 0 [(0, (4, 602)), (1, (0, x1))] [] h = _
  exact
    have D : fk_D 668 [(0, none, .aload_n 0, 1, 0, 0, 0), (1, none, .iload_n 1, 1, 0, 0, 0), (2, none, .invokevirtual 1193, 3, 1, 460, 1), (5, none, .ifCond .ne 5, 3, 10, 0, 0), (8, none, .iconst (-1), 1, 0, (-1), 0), (9, none, .ireturn, 1, 0, 0, 0)] := fq_of2 cd_668 ow_668 cl_668 rfl (pc := 0) (by decide +kernel)
    j_aldn (pc := 0) D rfl rfl rfl fun D =>
    j_ildn (pc := 1) D rfl rfl rfl fun D =>
    j_iv (pc := 2) (m := 663) (dd := 460) (a := [(0, x1)]) (rest := []) D rfl rfl rfl rfl rfl (by decide) (s0_602 H) (by decide +kernel) (fun v2 h1 e1 D =>
      have T := fj_run_ok _ _ _ _ _ _ H.1 e1
      have H := shp_st H T
      j_ifne (pc := 5) D rfl (fun q D =>
        j_ic (pc := 8) D rfl fun D =>
        j_iret D rt_668) (fun q =>
        have D : fk_D 668 [(10, none, .aload_n 0, 1, 0, 0, 0), (11, none, .getfield 305, 3, 524, 129, 12), (14, none, .iload_n 1, 1, 0, 0, 0), (15, none, .iaload, 1, 0, 0, 0), (16, none, .iconst 1, 1, 0, 1, 0), (17, none, .if_icmp .ne 8, 3, 25, 0, 0), (20, none, .bipush (-3), 2, 0, (-3), 0), (22, none, .goto 9, 3, 31, 0, 0)] := fq_of2 cd_668 ow_668 cl_668 rfl (pc := 10) (by decide +kernel)
        j_aldn (pc := 10) D rfl rfl rfl fun D =>
        j_gfc (pc := 11) (a := 602) D rfl rfl (by decide) rfl (s0_602 H) rfl (sf_524_602 H) fun D =>
        j_ildn (pc := 14) D rfl rfl rfl fun D =>
        j_al (pc := 15) (a := 685) (e := 10) D rfl rfl rfl (by decide) (s0_685 H) (s1_685 H) ⟨rfl, rfl, rfl⟩ rfl gn fun qb4 D =>
        j_ic (pc := 16) D rfl fun D =>
        j_ine (pc := 17) D rfl (fun q D =>
          j_bp (pc := 20) D rfl fun D =>
          j_goto (pc := 22) D rfl <|
          have D : fk_D 668 [(31, none, .ireturn, 1, 0, 0, 0)] := fq_of2 cd_668 ow_668 cl_668 rfl (pc := 31) (by decide +kernel)
          j_iret D rt_668) (fun q =>
          have D : fk_D 668 [(25, none, .aload_n 0, 1, 0, 0, 0), (26, none, .iload_n 1, 1, 0, 0, 0), (27, none, .iconst 0, 1, 0, 0, 0), (28, none, .invokevirtual 1196, 3, 2, 461, 1), (31, none, .ireturn, 1, 0, 0, 0)] := fq_of2 cd_668 ow_668 cl_668 rfl (pc := 25) (by decide +kernel)
          j_aldn (pc := 25) D rfl rfl rfl fun D =>
          j_ildn (pc := 26) D rfl rfl rfl fun D =>
          j_ic (pc := 27) D rfl fun D =>
          j_iv (pc := 28) (m := 665) (dd := 461) (a := [(0, x1), (0, 0)]) (rest := []) D rfl rfl rfl rfl rfl (by decide) (s0_602 H) (by decide +kernel) (fun v6 h5 e1 D =>
            have T := fj_run_ok _ _ _ _ _ _ H.1 e1
            have H := shp_st H T
            j_iret D rt_668) (fun q7 h5 e1 =>
            j_tx (hx_668 _))))) (fun q3 h1 e1 =>
      j_tx (hx_668 _))
/-! 669 StatuteHouseModel.decision(II)I -/
theorem cd_669 : fi_code 669 = prog_69_method_187_code := rfl
theorem hx_669 : ∀ pc, fi_hat 669 pc = none := fun pc => by unfold fi_hat; rw [show fi_hh 669 = [] from rfl]; rfl
theorem rt_669 : fi_ret 669 = some .int := rfl
theorem nl_669 : fi_nl 669 = 3 := rfl
theorem ow_669 : fi_ow 669 = 29 := rfl
theorem cl_669 : fj_cutT.getD 669 [] = [(101, [])] := rfl
theorem cut_669_101 : fj_cut 669 101 = some [] := by decide +kernel
noncomputable def c_669_101 (d : Nat) (h : fi_H) : fk_R := gG (fj_run d) 669 101 [] [] h
theorem e_669_101 (d : Nat) {h : fi_H} (H : Shp h) : c_669_101 d h =
  some (.inl (some (0, (-1))), h) := by
  unfold c_669_101
  exact
    have D : fk_D 669 [(101, some [], .iconst (-1), 1, 0, (-1), 0), (102, none, .ireturn, 1, 0, 0, 0)] := fq_of2 cd_669 ow_669 cl_669 rfl (pc := 101) (by decide +kernel)
    j_ic (pc := 101) D rfl fun D =>
    j_iret D rt_669
theorem m_669 (d : Nat) (x1 x2 : Int) {h : fi_H} (H : Shp h) : fj_run (d + 1) 669 h [(4, 602), (0, x1), (0, x2)] =
  ca_ (fj_run d 663 h [(4, 602), (0, x1)]) 0
    (fun v2 h1 =>
    if v2 = 0 then
      some (.inl (some (0, (-1))), h1)
    else
      if x2 = 0 then
        if 0 ≤ x1 ∧ x1 < 30 then
        some (.inl (some (0, h1 10 681 x1.toNat)), h1)
        else none
      else if x2 = 1 then
        if 0 ≤ x1 ∧ x1 < 30 then
        some (.inl (some (0, h1 10 682 x1.toNat)), h1)
        else none
      else if x2 = 2 then
        if 0 ≤ x1 ∧ x1 < 30 then
        some (.inl (some (0, h1 10 683 x1.toNat)), h1)
        else none
      else if x2 = 3 then
        if 0 ≤ x1 ∧ x1 < 30 then
        some (.inl (some (0, h1 10 684 x1.toNat)), h1)
        else none
      else if x2 = 4 then
        if 0 ≤ x1 ∧ x1 < 30 then
        some (.inl (some (0, h1 10 685 x1.toNat)), h1)
        else none
      else if x2 = 5 then
        if 0 ≤ x1 ∧ x1 < 30 then
        some (.inl (some (0, h1 10 686 x1.toNat)), h1)
        else none
      else if x2 = 6 then
        if 0 ≤ x1 ∧ x1 < 30 then
        some (.inl (some (0, h1 10 687 x1.toNat)), h1)
        else none
      else 
        c_669_101 d h1)
    (fun q3 h1 => tx_ q3 h1) := by
  rw [fj_run_eq d (by decide) h [(4, 602), (0, x1), (0, x2)] (Nat.le_of_ble_eq_true (by rw [nl_669]; rfl))]
  show gG (fj_run d) 669 0 [(0, (4, 602)), (1, (0, x1)), (2, (0, x2))] [] h = _
  exact
    have D : fk_D 669 [(0, none, .aload_n 0, 1, 0, 0, 0), (1, none, .iload_n 1, 1, 0, 0, 0), (2, none, .invokevirtual 1193, 3, 1, 460, 1), (5, none, .ifCond .ne 5, 3, 10, 0, 0), (8, none, .iconst (-1), 1, 0, (-1), 0), (9, none, .ireturn, 1, 0, 0, 0)] := fq_of2 cd_669 ow_669 cl_669 rfl (pc := 0) (by decide +kernel)
    j_aldn (pc := 0) D rfl rfl rfl fun D =>
    j_ildn (pc := 1) D rfl rfl rfl fun D =>
    j_iv (pc := 2) (m := 663) (dd := 460) (a := [(0, x1)]) (rest := []) D rfl rfl rfl rfl rfl (by decide) (s0_602 H) (by decide +kernel) (fun v2 h1 e1 D =>
      have T := fj_run_ok _ _ _ _ _ _ H.1 e1
      have H := shp_st H T
      j_ifne (pc := 5) D rfl (fun q D =>
        j_ic (pc := 8) D rfl fun D =>
        j_iret D rt_669) (fun q =>
        have D : fk_D 669 [(10, none, .iload_n 2, 1, 0, 0, 0), (11, none, .tableswitch 90 0 6 #[41, 48, 55, 62, 69, 76, 83], 41, 0, 0, 0)] := fq_of3 cd_669 ow_669 cl_669 rfl (pc := 10) (by decide +kernel)
        j_ildn (pc := 10) D rfl rfl rfl fun D =>
        have N : fk_ni (x2) [] := trivial
        j_tc (pc := 11) 0 (t := 52) D N rfl (by decide +kernel) (fun q =>
          have D : fk_D 669 [(52, none, .aload_n 0, 1, 0, 0, 0), (53, none, .getfield 293, 3, 520, 129, 12), (56, none, .iload_n 1, 1, 0, 0, 0), (57, none, .iaload, 1, 0, 0, 0), (58, none, .ireturn, 1, 0, 0, 0)] := fq_of2 cd_669 ow_669 cl_669 rfl (pc := 52) (by decide +kernel)
          j_aldn (pc := 52) D rfl rfl rfl fun D =>
          j_gfc (pc := 53) (a := 602) D rfl rfl (by decide) rfl (s0_602 H) rfl (sf_520_602 H) fun D =>
          j_ildn (pc := 56) D rfl rfl rfl fun D =>
          j_al (pc := 57) (a := 681) (e := 10) D rfl rfl rfl (by decide) (s0_681 H) (s1_681 H) ⟨rfl, rfl, rfl⟩ rfl gn fun qb4 D =>
          j_iret D rt_669) (fun N =>
          j_tc 1 (t := 59) D N rfl (by decide +kernel) (fun q =>
            have D : fk_D 669 [(59, none, .aload_n 0, 1, 0, 0, 0), (60, none, .getfield 296, 3, 521, 129, 12), (63, none, .iload_n 1, 1, 0, 0, 0), (64, none, .iaload, 1, 0, 0, 0), (65, none, .ireturn, 1, 0, 0, 0)] := fq_of2 cd_669 ow_669 cl_669 rfl (pc := 59) (by decide +kernel)
            j_aldn (pc := 59) D rfl rfl rfl fun D =>
            j_gfc (pc := 60) (a := 602) D rfl rfl (by decide) rfl (s0_602 H) rfl (sf_521_602 H) fun D =>
            j_ildn (pc := 63) D rfl rfl rfl fun D =>
            j_al (pc := 64) (a := 682) (e := 10) D rfl rfl rfl (by decide) (s0_682 H) (s1_682 H) ⟨rfl, rfl, rfl⟩ rfl gn fun qb5 D =>
            j_iret D rt_669) (fun N =>
            j_tc 2 (t := 66) D N rfl (by decide +kernel) (fun q =>
              have D : fk_D 669 [(66, none, .aload_n 0, 1, 0, 0, 0), (67, none, .getfield 299, 3, 522, 129, 12), (70, none, .iload_n 1, 1, 0, 0, 0), (71, none, .iaload, 1, 0, 0, 0), (72, none, .ireturn, 1, 0, 0, 0)] := fq_of2 cd_669 ow_669 cl_669 rfl (pc := 66) (by decide +kernel)
              j_aldn (pc := 66) D rfl rfl rfl fun D =>
              j_gfc (pc := 67) (a := 602) D rfl rfl (by decide) rfl (s0_602 H) rfl (sf_522_602 H) fun D =>
              j_ildn (pc := 70) D rfl rfl rfl fun D =>
              j_al (pc := 71) (a := 683) (e := 10) D rfl rfl rfl (by decide) (s0_683 H) (s1_683 H) ⟨rfl, rfl, rfl⟩ rfl gn fun qb6 D =>
              j_iret D rt_669) (fun N =>
              j_tc 3 (t := 73) D N rfl (by decide +kernel) (fun q =>
                have D : fk_D 669 [(73, none, .aload_n 0, 1, 0, 0, 0), (74, none, .getfield 302, 3, 523, 129, 12), (77, none, .iload_n 1, 1, 0, 0, 0), (78, none, .iaload, 1, 0, 0, 0), (79, none, .ireturn, 1, 0, 0, 0)] := fq_of2 cd_669 ow_669 cl_669 rfl (pc := 73) (by decide +kernel)
                j_aldn (pc := 73) D rfl rfl rfl fun D =>
                j_gfc (pc := 74) (a := 602) D rfl rfl (by decide) rfl (s0_602 H) rfl (sf_523_602 H) fun D =>
                j_ildn (pc := 77) D rfl rfl rfl fun D =>
                j_al (pc := 78) (a := 684) (e := 10) D rfl rfl rfl (by decide) (s0_684 H) (s1_684 H) ⟨rfl, rfl, rfl⟩ rfl gn fun qb7 D =>
                j_iret D rt_669) (fun N =>
                j_tc 4 (t := 80) D N rfl (by decide +kernel) (fun q =>
                  have D : fk_D 669 [(80, none, .aload_n 0, 1, 0, 0, 0), (81, none, .getfield 305, 3, 524, 129, 12), (84, none, .iload_n 1, 1, 0, 0, 0), (85, none, .iaload, 1, 0, 0, 0), (86, none, .ireturn, 1, 0, 0, 0)] := fq_of2 cd_669 ow_669 cl_669 rfl (pc := 80) (by decide +kernel)
                  j_aldn (pc := 80) D rfl rfl rfl fun D =>
                  j_gfc (pc := 81) (a := 602) D rfl rfl (by decide) rfl (s0_602 H) rfl (sf_524_602 H) fun D =>
                  j_ildn (pc := 84) D rfl rfl rfl fun D =>
                  j_al (pc := 85) (a := 685) (e := 10) D rfl rfl rfl (by decide) (s0_685 H) (s1_685 H) ⟨rfl, rfl, rfl⟩ rfl gn fun qb8 D =>
                  j_iret D rt_669) (fun N =>
                  j_tc 5 (t := 87) D N rfl (by decide +kernel) (fun q =>
                    have D : fk_D 669 [(87, none, .aload_n 0, 1, 0, 0, 0), (88, none, .getfield 308, 3, 525, 129, 12), (91, none, .iload_n 1, 1, 0, 0, 0), (92, none, .iaload, 1, 0, 0, 0), (93, none, .ireturn, 1, 0, 0, 0)] := fq_of2 cd_669 ow_669 cl_669 rfl (pc := 87) (by decide +kernel)
                    j_aldn (pc := 87) D rfl rfl rfl fun D =>
                    j_gfc (pc := 88) (a := 602) D rfl rfl (by decide) rfl (s0_602 H) rfl (sf_525_602 H) fun D =>
                    j_ildn (pc := 91) D rfl rfl rfl fun D =>
                    j_al (pc := 92) (a := 686) (e := 10) D rfl rfl rfl (by decide) (s0_686 H) (s1_686 H) ⟨rfl, rfl, rfl⟩ rfl gn fun qb9 D =>
                    j_iret D rt_669) (fun N =>
                    j_tc 6 (t := 94) D N rfl (by decide +kernel) (fun q =>
                      have D : fk_D 669 [(94, none, .aload_n 0, 1, 0, 0, 0), (95, none, .getfield 311, 3, 526, 129, 12), (98, none, .iload_n 1, 1, 0, 0, 0), (99, none, .iaload, 1, 0, 0, 0), (100, none, .ireturn, 1, 0, 0, 0)] := fq_of2 cd_669 ow_669 cl_669 rfl (pc := 94) (by decide +kernel)
                      j_aldn (pc := 94) D rfl rfl rfl fun D =>
                      j_gfc (pc := 95) (a := 602) D rfl rfl (by decide) rfl (s0_602 H) rfl (sf_526_602 H) fun D =>
                      j_ildn (pc := 98) D rfl rfl rfl fun D =>
                      j_al (pc := 99) (a := 687) (e := 10) D rfl rfl rfl (by decide) (s0_687 H) (s1_687 H) ⟨rfl, rfl, rfl⟩ rfl gn fun qb10 D =>
                      j_iret D rt_669) (fun N =>
                      j_td (t := 101) D N rfl (by decide +kernel) (by decide +kernel) <|
                      fk_jump cut_669_101 rfl rfl))))))))) (fun q3 h1 e1 =>
      j_tx (hx_669 _))
/-! 670 StatuteHouseModel.amount(II)J -/
theorem cd_670 : fi_code 670 = prog_69_method_188_code := rfl
theorem hx_670 : ∀ pc, fi_hat 670 pc = none := fun pc => by unfold fi_hat; rw [show fi_hh 670 = [] from rfl]; rfl
theorem rt_670 : fi_ret 670 = some .long := rfl
theorem nl_670 : fi_nl 670 = 3 := rfl
theorem ow_670 : fi_ow 670 = 29 := rfl
theorem cl_670 : fj_cutT.getD 670 [] = [] := rfl
theorem m_670 (d : Nat) (x1 x2 : Int) {h : fi_H} (H : Shp h) : fj_run (d + 1) 670 h [(4, 602), (0, x1), (0, x2)] =
  ca_ (fj_run d 663 h [(4, 602), (0, x1)]) 0
    (fun v2 h1 =>
    if v2 = 0 then
      some (.inl (some (1, (-9223372036854775808))), h1)
    else
      if 0 ≤ x1 ∧ x1 < 30 then
      ca_ (fj_run d 508 h1 [(1, wI x2), (1, 0), (1, wI (wI ((h1 10 684 x1.toNat) - 1)))]) 0
        (fun v6 h5 =>
        if v6 = 0 then
          some (.inl (some (1, (-9223372036854775808))), h5)
        else
          if 0 ≤ wI ((wI (24 * x1)) + x2) ∧ wI ((wI (24 * x1)) + x2) < 720 then
          some (.inl (some (1, h5 11 688 (wI ((wI (24 * x1)) + x2)).toNat)), h5)
          else none)
        (fun q7 h5 => tx_ q7 h5)
      else none)
    (fun q3 h1 => tx_ q3 h1) := by
  rw [fj_run_eq d (by decide) h [(4, 602), (0, x1), (0, x2)] (Nat.le_of_ble_eq_true (by rw [nl_670]; rfl))]
  show gG (fj_run d) 670 0 [(0, (4, 602)), (1, (0, x1)), (2, (0, x2))] [] h = _
  exact
    have D : fk_D 670 [(0, none, .aload_n 0, 1, 0, 0, 0), (1, none, .iload_n 1, 1, 0, 0, 0), (2, none, .invokevirtual 1193, 3, 1, 460, 1), (5, none, .ifCond .eq 35, 3, 40, 0, 0), (8, none, .iload_n 2, 1, 0, 0, 0), (9, none, .i2l, 1, 0, 0, 0), (10, none, .lconst 0, 1, 0, 0, 0), (11, none, .aload_n 0, 1, 0, 0, 0), (12, none, .getfield 302, 3, 523, 129, 12), (15, none, .iload_n 1, 1, 0, 0, 0), (16, none, .iaload, 1, 0, 0, 0), (17, none, .iconst 1, 1, 0, 1, 0), (18, none, .isub, 1, 0, 0, 0), (19, none, .i2l, 1, 0, 0, 0), (20, none, .invokestatic 434, 3, 3, 508, 1), (23, none, .ifCond .eq 17, 3, 40, 0, 0), (26, none, .aload_n 0, 1, 0, 0, 0), (27, none, .getfield 314, 3, 527, 129, 12), (30, none, .bipush 24, 2, 0, 24, 0), (32, none, .iload_n 1, 1, 0, 0, 0)] := fq_of2 cd_670 ow_670 cl_670 rfl (pc := 0) (by decide +kernel)
    j_aldn (pc := 0) D rfl rfl rfl fun D =>
    j_ildn (pc := 1) D rfl rfl rfl fun D =>
    j_iv (pc := 2) (m := 663) (dd := 460) (a := [(0, x1)]) (rest := []) D rfl rfl rfl rfl rfl (by decide) (s0_602 H) (by decide +kernel) (fun v2 h1 e1 D =>
      have T := fj_run_ok _ _ _ _ _ _ H.1 e1
      have H := shp_st H T
      j_ifeq (pc := 5) D rfl (fun q =>
        have D : fk_D 670 [(40, none, .ldc2_w 1208, 3, 1, (-9223372036854775808), 0), (43, none, .lreturn, 1, 0, 0, 0)] := fq_of2 cd_670 ow_670 cl_670 rfl (pc := 40) (by decide +kernel)
        j_ldc2 (pc := 40) D rfl fun D =>
        j_lret D rt_670) (fun q D =>
        j_ildn (pc := 8) D rfl rfl rfl fun D =>
        j_i2l (pc := 9) D rfl fun D =>
        j_c0 (pc := 10) (v := (1, 0)) D rfl rfl (by decide +kernel) fun D =>
        j_aldn (pc := 11) D rfl rfl rfl fun D =>
        j_gfc (pc := 12) (a := 602) D rfl rfl (by decide) rfl (s0_602 H) rfl (sf_523_602 H) fun D =>
        j_ildn (pc := 15) D rfl rfl rfl fun D =>
        j_al (pc := 16) (a := 684) (e := 10) D rfl rfl rfl (by decide) (s0_684 H) (s1_684 H) ⟨rfl, rfl, rfl⟩ rfl gn fun qb4 D =>
        j_ic (pc := 17) D rfl fun D =>
        j_isub (pc := 18) D rfl fun D =>
        j_i2l (pc := 19) D rfl fun D =>
        j_is (pc := 20) (m := 508) (a := [(1, wI x2), (1, 0), (1, wI (wI ((h1 10 684 x1.toNat) - 1)))]) (rest := []) D rfl rfl rfl rfl (fun v6 h5 e1 D =>
          have T := fj_run_ok _ _ _ _ _ _ H.1 e1
          have H := shp_st H T
          j_ifeq (pc := 23) D rfl (fun q =>
            have D : fk_D 670 [(40, none, .ldc2_w 1208, 3, 1, (-9223372036854775808), 0), (43, none, .lreturn, 1, 0, 0, 0)] := fq_of2 cd_670 ow_670 cl_670 rfl (pc := 40) (by decide +kernel)
            j_ldc2 (pc := 40) D rfl fun D =>
            j_lret D rt_670) (fun q D =>
            j_aldn (pc := 26) D rfl rfl rfl fun D =>
            j_gfc (pc := 27) (a := 602) D rfl rfl (by decide) rfl (s0_602 H) rfl (sf_527_602 H) fun D =>
            j_bp (pc := 30) D rfl fun D =>
            j_ildn (pc := 32) D rfl rfl rfl fun D =>
            have D : fk_D 670 [(33, none, .imul, 1, 0, 0, 0), (34, none, .iload_n 2, 1, 0, 0, 0), (35, none, .iadd, 1, 0, 0, 0), (36, none, .laload, 1, 0, 0, 0), (37, none, .goto 6, 3, 43, 0, 0)] := fq_of2 cd_670 ow_670 cl_670 rfl (pc := 33) (by decide +kernel)
            j_imul (pc := 33) D rfl fun D =>
            j_ildn (pc := 34) D rfl rfl rfl fun D =>
            j_iadd (pc := 35) D rfl fun D =>
            j_al (pc := 36) (a := 688) (e := 11) D rfl rfl rfl (by decide) (s0_688 H) (s1_688 H) ⟨rfl, rfl, rfl⟩ rfl gn fun qb8 D =>
            j_goto (pc := 37) D rfl <|
            have D : fk_D 670 [(43, none, .lreturn, 1, 0, 0, 0)] := fq_of2 cd_670 ow_670 cl_670 rfl (pc := 43) (by decide +kernel)
            j_lret D rt_670)) (fun q7 h5 e1 =>
          j_tx (hx_670 _)))) (fun q3 h1 e1 =>
      j_tx (hx_670 _))
/-! 671 StatuteHouseModel.booking(II)J -/
theorem cd_671 : fi_code 671 = prog_69_method_189_code := rfl
theorem hx_671 : ∀ pc, fi_hat 671 pc = none := fun pc => by unfold fi_hat; rw [show fi_hh 671 = [] from rfl]; rfl
theorem rt_671 : fi_ret 671 = some .long := rfl
theorem nl_671 : fi_nl 671 = 3 := rfl
theorem ow_671 : fi_ow 671 = 29 := rfl
theorem cl_671 : fj_cutT.getD 671 [] = [(76, [0, 1]), (84, [0, 1]), (92, [0, 1]), (100, [0, 1]), (107, [0, 1]), (115, [0, 1]), (123, [0, 1]), (130, [0, 1]), (138, [0, 1]), (146, [0, 1]), (161, [])] := rfl
theorem cut_671_76 : fj_cut 671 76 = some [0, 1] := by decide +kernel
noncomputable def c_671_76 (d : Nat) (x1 : Int) (h : fi_H) : fk_R := gG (fj_run d) 671 76 [(0, (4, 602)), (1, (0, x1))] [] h
theorem cut_671_84 : fj_cut 671 84 = some [0, 1] := by decide +kernel
noncomputable def c_671_84 (d : Nat) (x1 : Int) (h : fi_H) : fk_R := gG (fj_run d) 671 84 [(0, (4, 602)), (1, (0, x1))] [] h
theorem cut_671_92 : fj_cut 671 92 = some [0, 1] := by decide +kernel
noncomputable def c_671_92 (d : Nat) (x1 : Int) (h : fi_H) : fk_R := gG (fj_run d) 671 92 [(0, (4, 602)), (1, (0, x1))] [] h
theorem cut_671_100 : fj_cut 671 100 = some [0, 1] := by decide +kernel
noncomputable def c_671_100 (d : Nat) (x1 : Int) (h : fi_H) : fk_R := gG (fj_run d) 671 100 [(0, (4, 602)), (1, (0, x1))] [] h
theorem cut_671_107 : fj_cut 671 107 = some [0, 1] := by decide +kernel
noncomputable def c_671_107 (d : Nat) (x1 : Int) (h : fi_H) : fk_R := gG (fj_run d) 671 107 [(0, (4, 602)), (1, (0, x1))] [] h
theorem cut_671_115 : fj_cut 671 115 = some [0, 1] := by decide +kernel
noncomputable def c_671_115 (d : Nat) (x1 : Int) (h : fi_H) : fk_R := gG (fj_run d) 671 115 [(0, (4, 602)), (1, (0, x1))] [] h
theorem cut_671_123 : fj_cut 671 123 = some [0, 1] := by decide +kernel
noncomputable def c_671_123 (d : Nat) (x1 : Int) (h : fi_H) : fk_R := gG (fj_run d) 671 123 [(0, (4, 602)), (1, (0, x1))] [] h
theorem cut_671_130 : fj_cut 671 130 = some [0, 1] := by decide +kernel
noncomputable def c_671_130 (d : Nat) (x1 : Int) (h : fi_H) : fk_R := gG (fj_run d) 671 130 [(0, (4, 602)), (1, (0, x1))] [] h
theorem cut_671_138 : fj_cut 671 138 = some [0, 1] := by decide +kernel
noncomputable def c_671_138 (d : Nat) (x1 : Int) (h : fi_H) : fk_R := gG (fj_run d) 671 138 [(0, (4, 602)), (1, (0, x1))] [] h
theorem cut_671_146 : fj_cut 671 146 = some [0, 1] := by decide +kernel
noncomputable def c_671_146 (d : Nat) (x1 : Int) (h : fi_H) : fk_R := gG (fj_run d) 671 146 [(0, (4, 602)), (1, (0, x1))] [] h
theorem cut_671_161 : fj_cut 671 161 = some [] := by decide +kernel
noncomputable def c_671_161 (d : Nat) (h : fi_H) : fk_R := gG (fj_run d) 671 161 [] [] h
theorem e_671_76 (d : Nat) (x1 : Int) {h : fi_H} (H : Shp h) : c_671_76 d x1 h =
  if 0 ≤ x1 ∧ x1 < 440 then
  some (.inl (some (1, wI (h 10 689 x1.toNat))), h)
  else none := by
  unfold c_671_76
  exact
    have D : fk_D 671 [(76, some [0, 1], .aload_n 0, 1, 0, 0, 0), (77, none, .getfield 317, 3, 529, 129, 12), (80, none, .iload_n 1, 1, 0, 0, 0), (81, none, .iaload, 1, 0, 0, 0), (82, none, .i2l, 1, 0, 0, 0), (83, none, .lreturn, 1, 0, 0, 0)] := fq_of2 cd_671 ow_671 cl_671 rfl (pc := 76) (by decide +kernel)
    j_aldn (pc := 76) D rfl rfl rfl fun D =>
    j_gfc (pc := 77) (a := 602) D rfl rfl (by decide) rfl (s0_602 H) rfl (sf_529_602 H) fun D =>
    j_ildn (pc := 80) D rfl rfl rfl fun D =>
    j_al (pc := 81) (a := 689) (e := 10) D rfl rfl rfl (by decide) (s0_689 H) (s1_689 H) ⟨rfl, rfl, rfl⟩ rfl gn fun qb1 D =>
    j_i2l (pc := 82) D rfl fun D =>
    j_lret D rt_671
theorem e_671_84 (d : Nat) (x1 : Int) {h : fi_H} (H : Shp h) : c_671_84 d x1 h =
  if 0 ≤ x1 ∧ x1 < 440 then
  some (.inl (some (1, wI (h 10 690 x1.toNat))), h)
  else none := by
  unfold c_671_84
  exact
    have D : fk_D 671 [(84, some [0, 1], .aload_n 0, 1, 0, 0, 0), (85, none, .getfield 320, 3, 530, 129, 12), (88, none, .iload_n 1, 1, 0, 0, 0), (89, none, .iaload, 1, 0, 0, 0), (90, none, .i2l, 1, 0, 0, 0), (91, none, .lreturn, 1, 0, 0, 0)] := fq_of2 cd_671 ow_671 cl_671 rfl (pc := 84) (by decide +kernel)
    j_aldn (pc := 84) D rfl rfl rfl fun D =>
    j_gfc (pc := 85) (a := 602) D rfl rfl (by decide) rfl (s0_602 H) rfl (sf_530_602 H) fun D =>
    j_ildn (pc := 88) D rfl rfl rfl fun D =>
    j_al (pc := 89) (a := 690) (e := 10) D rfl rfl rfl (by decide) (s0_690 H) (s1_690 H) ⟨rfl, rfl, rfl⟩ rfl gn fun qb1 D =>
    j_i2l (pc := 90) D rfl fun D =>
    j_lret D rt_671
theorem e_671_92 (d : Nat) (x1 : Int) {h : fi_H} (H : Shp h) : c_671_92 d x1 h =
  if 0 ≤ x1 ∧ x1 < 440 then
  some (.inl (some (1, wI (h 10 691 x1.toNat))), h)
  else none := by
  unfold c_671_92
  exact
    have D : fk_D 671 [(92, some [0, 1], .aload_n 0, 1, 0, 0, 0), (93, none, .getfield 323, 3, 531, 129, 12), (96, none, .iload_n 1, 1, 0, 0, 0), (97, none, .iaload, 1, 0, 0, 0), (98, none, .i2l, 1, 0, 0, 0), (99, none, .lreturn, 1, 0, 0, 0)] := fq_of2 cd_671 ow_671 cl_671 rfl (pc := 92) (by decide +kernel)
    j_aldn (pc := 92) D rfl rfl rfl fun D =>
    j_gfc (pc := 93) (a := 602) D rfl rfl (by decide) rfl (s0_602 H) rfl (sf_531_602 H) fun D =>
    j_ildn (pc := 96) D rfl rfl rfl fun D =>
    j_al (pc := 97) (a := 691) (e := 10) D rfl rfl rfl (by decide) (s0_691 H) (s1_691 H) ⟨rfl, rfl, rfl⟩ rfl gn fun qb1 D =>
    j_i2l (pc := 98) D rfl fun D =>
    j_lret D rt_671
theorem e_671_100 (d : Nat) (x1 : Int) {h : fi_H} (H : Shp h) : c_671_100 d x1 h =
  if 0 ≤ x1 ∧ x1 < 440 then
  some (.inl (some (1, h 11 692 x1.toNat)), h)
  else none := by
  unfold c_671_100
  exact
    have D : fk_D 671 [(100, some [0, 1], .aload_n 0, 1, 0, 0, 0), (101, none, .getfield 326, 3, 532, 129, 12), (104, none, .iload_n 1, 1, 0, 0, 0), (105, none, .laload, 1, 0, 0, 0), (106, none, .lreturn, 1, 0, 0, 0)] := fq_of2 cd_671 ow_671 cl_671 rfl (pc := 100) (by decide +kernel)
    j_aldn (pc := 100) D rfl rfl rfl fun D =>
    j_gfc (pc := 101) (a := 602) D rfl rfl (by decide) rfl (s0_602 H) rfl (sf_532_602 H) fun D =>
    j_ildn (pc := 104) D rfl rfl rfl fun D =>
    j_al (pc := 105) (a := 692) (e := 11) D rfl rfl rfl (by decide) (s0_692 H) (s1_692 H) ⟨rfl, rfl, rfl⟩ rfl gn fun qb1 D =>
    j_lret D rt_671
theorem e_671_107 (d : Nat) (x1 : Int) {h : fi_H} (H : Shp h) : c_671_107 d x1 h =
  if 0 ≤ x1 ∧ x1 < 440 then
  some (.inl (some (1, wI (h 10 693 x1.toNat))), h)
  else none := by
  unfold c_671_107
  exact
    have D : fk_D 671 [(107, some [0, 1], .aload_n 0, 1, 0, 0, 0), (108, none, .getfield 329, 3, 533, 129, 12), (111, none, .iload_n 1, 1, 0, 0, 0), (112, none, .iaload, 1, 0, 0, 0), (113, none, .i2l, 1, 0, 0, 0), (114, none, .lreturn, 1, 0, 0, 0)] := fq_of2 cd_671 ow_671 cl_671 rfl (pc := 107) (by decide +kernel)
    j_aldn (pc := 107) D rfl rfl rfl fun D =>
    j_gfc (pc := 108) (a := 602) D rfl rfl (by decide) rfl (s0_602 H) rfl (sf_533_602 H) fun D =>
    j_ildn (pc := 111) D rfl rfl rfl fun D =>
    j_al (pc := 112) (a := 693) (e := 10) D rfl rfl rfl (by decide) (s0_693 H) (s1_693 H) ⟨rfl, rfl, rfl⟩ rfl gn fun qb1 D =>
    j_i2l (pc := 113) D rfl fun D =>
    j_lret D rt_671
theorem e_671_115 (d : Nat) (x1 : Int) {h : fi_H} (H : Shp h) : c_671_115 d x1 h =
  if 0 ≤ x1 ∧ x1 < 440 then
  some (.inl (some (1, wI (h 10 694 x1.toNat))), h)
  else none := by
  unfold c_671_115
  exact
    have D : fk_D 671 [(115, some [0, 1], .aload_n 0, 1, 0, 0, 0), (116, none, .getfield 332, 3, 534, 129, 12), (119, none, .iload_n 1, 1, 0, 0, 0), (120, none, .iaload, 1, 0, 0, 0), (121, none, .i2l, 1, 0, 0, 0), (122, none, .lreturn, 1, 0, 0, 0)] := fq_of2 cd_671 ow_671 cl_671 rfl (pc := 115) (by decide +kernel)
    j_aldn (pc := 115) D rfl rfl rfl fun D =>
    j_gfc (pc := 116) (a := 602) D rfl rfl (by decide) rfl (s0_602 H) rfl (sf_534_602 H) fun D =>
    j_ildn (pc := 119) D rfl rfl rfl fun D =>
    j_al (pc := 120) (a := 694) (e := 10) D rfl rfl rfl (by decide) (s0_694 H) (s1_694 H) ⟨rfl, rfl, rfl⟩ rfl gn fun qb1 D =>
    j_i2l (pc := 121) D rfl fun D =>
    j_lret D rt_671
theorem e_671_123 (d : Nat) (x1 : Int) {h : fi_H} (H : Shp h) : c_671_123 d x1 h =
  if 0 ≤ x1 ∧ x1 < 440 then
  some (.inl (some (1, h 11 695 x1.toNat)), h)
  else none := by
  unfold c_671_123
  exact
    have D : fk_D 671 [(123, some [0, 1], .aload_n 0, 1, 0, 0, 0), (124, none, .getfield 335, 3, 535, 129, 12), (127, none, .iload_n 1, 1, 0, 0, 0), (128, none, .laload, 1, 0, 0, 0), (129, none, .lreturn, 1, 0, 0, 0)] := fq_of2 cd_671 ow_671 cl_671 rfl (pc := 123) (by decide +kernel)
    j_aldn (pc := 123) D rfl rfl rfl fun D =>
    j_gfc (pc := 124) (a := 602) D rfl rfl (by decide) rfl (s0_602 H) rfl (sf_535_602 H) fun D =>
    j_ildn (pc := 127) D rfl rfl rfl fun D =>
    j_al (pc := 128) (a := 695) (e := 11) D rfl rfl rfl (by decide) (s0_695 H) (s1_695 H) ⟨rfl, rfl, rfl⟩ rfl gn fun qb1 D =>
    j_lret D rt_671
theorem e_671_130 (d : Nat) (x1 : Int) {h : fi_H} (H : Shp h) : c_671_130 d x1 h =
  if 0 ≤ x1 ∧ x1 < 440 then
  some (.inl (some (1, wI (h 10 696 x1.toNat))), h)
  else none := by
  unfold c_671_130
  exact
    have D : fk_D 671 [(130, some [0, 1], .aload_n 0, 1, 0, 0, 0), (131, none, .getfield 338, 3, 536, 129, 12), (134, none, .iload_n 1, 1, 0, 0, 0), (135, none, .iaload, 1, 0, 0, 0), (136, none, .i2l, 1, 0, 0, 0), (137, none, .lreturn, 1, 0, 0, 0)] := fq_of2 cd_671 ow_671 cl_671 rfl (pc := 130) (by decide +kernel)
    j_aldn (pc := 130) D rfl rfl rfl fun D =>
    j_gfc (pc := 131) (a := 602) D rfl rfl (by decide) rfl (s0_602 H) rfl (sf_536_602 H) fun D =>
    j_ildn (pc := 134) D rfl rfl rfl fun D =>
    j_al (pc := 135) (a := 696) (e := 10) D rfl rfl rfl (by decide) (s0_696 H) (s1_696 H) ⟨rfl, rfl, rfl⟩ rfl gn fun qb1 D =>
    j_i2l (pc := 136) D rfl fun D =>
    j_lret D rt_671
theorem e_671_138 (d : Nat) (x1 : Int) {h : fi_H} (H : Shp h) : c_671_138 d x1 h =
  if 0 ≤ x1 ∧ x1 < 440 then
  some (.inl (some (1, wI (h 10 697 x1.toNat))), h)
  else none := by
  unfold c_671_138
  exact
    have D : fk_D 671 [(138, some [0, 1], .aload_n 0, 1, 0, 0, 0), (139, none, .getfield 341, 3, 537, 129, 12), (142, none, .iload_n 1, 1, 0, 0, 0), (143, none, .iaload, 1, 0, 0, 0), (144, none, .i2l, 1, 0, 0, 0), (145, none, .lreturn, 1, 0, 0, 0)] := fq_of2 cd_671 ow_671 cl_671 rfl (pc := 138) (by decide +kernel)
    j_aldn (pc := 138) D rfl rfl rfl fun D =>
    j_gfc (pc := 139) (a := 602) D rfl rfl (by decide) rfl (s0_602 H) rfl (sf_537_602 H) fun D =>
    j_ildn (pc := 142) D rfl rfl rfl fun D =>
    j_al (pc := 143) (a := 697) (e := 10) D rfl rfl rfl (by decide) (s0_697 H) (s1_697 H) ⟨rfl, rfl, rfl⟩ rfl gn fun qb1 D =>
    j_i2l (pc := 144) D rfl fun D =>
    j_lret D rt_671
theorem e_671_146 (d : Nat) (x1 : Int) {h : fi_H} (H : Shp h) : c_671_146 d x1 h =
  if 0 ≤ x1 ∧ x1 < 440 then
  if h 4 698 x1.toNat = 0 then
    some (.inl (some (1, 0)), h)
  else
    some (.inl (some (1, 1)), h)
  else none := by
  unfold c_671_146
  exact
    have D : fk_D 671 [(146, some [0, 1], .aload_n 0, 1, 0, 0, 0), (147, none, .getfield 344, 3, 538, 129, 12), (150, none, .iload_n 1, 1, 0, 0, 0), (151, none, .baload, 1, 0, 0, 0), (152, none, .ifCond .eq 7, 3, 159, 0, 0), (155, none, .lconst 1, 1, 0, 0, 0), (156, none, .goto 4, 3, 160, 0, 0)] := fq_of2 cd_671 ow_671 cl_671 rfl (pc := 146) (by decide +kernel)
    j_aldn (pc := 146) D rfl rfl rfl fun D =>
    j_gfc (pc := 147) (a := 602) D rfl rfl (by decide) rfl (s0_602 H) rfl (sf_538_602 H) fun D =>
    j_ildn (pc := 150) D rfl rfl rfl fun D =>
    j_al (pc := 151) (a := 698) (e := 4) D rfl rfl rfl (by decide) (s0_698 H) (s1_698 H) ⟨rfl, rfl, rfl⟩ rfl gn fun qb1 D =>
    j_ifeq (pc := 152) D rfl (fun q =>
      have D : fk_D 671 [(159, none, .lconst 0, 1, 0, 0, 0), (160, none, .lreturn, 1, 0, 0, 0)] := fq_of2 cd_671 ow_671 cl_671 rfl (pc := 159) (by decide +kernel)
      j_c0 (pc := 159) (v := (1, 0)) D rfl rfl (by decide +kernel) fun D =>
      j_lret D rt_671) (fun q D =>
      j_c0 (pc := 155) (v := (1, 1)) D rfl rfl (by decide +kernel) fun D =>
      j_goto (pc := 156) D rfl <|
      have D : fk_D 671 [(160, none, .lreturn, 1, 0, 0, 0)] := fq_of2 cd_671 ow_671 cl_671 rfl (pc := 160) (by decide +kernel)
      j_lret D rt_671)
theorem e_671_161 (d : Nat) {h : fi_H} (H : Shp h) : c_671_161 d h =
  some (.inl (some (1, (-9223372036854775808))), h) := by
  unfold c_671_161
  exact
    have D : fk_D 671 [(161, some [], .ldc2_w 1208, 3, 1, (-9223372036854775808), 0), (164, none, .lreturn, 1, 0, 0, 0)] := fq_of2 cd_671 ow_671 cl_671 rfl (pc := 161) (by decide +kernel)
    j_ldc2 (pc := 161) D rfl fun D =>
    j_lret D rt_671
theorem m_671 (d : Nat) (x1 x2 : Int) {h : fi_H} (H : Shp h) : fj_run (d + 1) 671 h [(4, 602), (0, x1), (0, x2)] =
  ca_ (fj_run d 508 h [(1, wI x1), (1, 0), (1, wI (wI ((h 542 602 0) - 1)))]) 0
    (fun v2 h1 =>
    if v2 = 0 then
      some (.inl (some (1, (-9223372036854775808))), h1)
    else
      if x2 = 0 then
        c_671_76 d x1 h1
      else if x2 = 1 then
        c_671_84 d x1 h1
      else if x2 = 2 then
        c_671_92 d x1 h1
      else if x2 = 3 then
        c_671_100 d x1 h1
      else if x2 = 4 then
        c_671_107 d x1 h1
      else if x2 = 5 then
        c_671_115 d x1 h1
      else if x2 = 6 then
        c_671_123 d x1 h1
      else if x2 = 7 then
        c_671_130 d x1 h1
      else if x2 = 8 then
        c_671_138 d x1 h1
      else if x2 = 9 then
        c_671_146 d x1 h1
      else 
        c_671_161 d h1)
    (fun q3 h1 => tx_ q3 h1) := by
  rw [fj_run_eq d (by decide) h [(4, 602), (0, x1), (0, x2)] (Nat.le_of_ble_eq_true (by rw [nl_671]; rfl))]
  show gG (fj_run d) 671 0 [(0, (4, 602)), (1, (0, x1)), (2, (0, x2))] [] h = _
  exact
    have D : fk_D 671 [(0, none, .iload_n 1, 1, 0, 0, 0), (1, none, .i2l, 1, 0, 0, 0), (2, none, .lconst 0, 1, 0, 0, 0), (3, none, .aload_n 0, 1, 0, 0, 0), (4, none, .getfield 1098, 3, 542, 129, 10), (7, none, .iconst 1, 1, 0, 1, 0), (8, none, .isub, 1, 0, 0, 0), (9, none, .i2l, 1, 0, 0, 0), (10, none, .invokestatic 434, 3, 3, 508, 1), (13, none, .ifCond .ne 7, 3, 20, 0, 0), (16, none, .ldc2_w 1208, 3, 1, (-9223372036854775808), 0), (19, none, .lreturn, 1, 0, 0, 0)] := fq_of2 cd_671 ow_671 cl_671 rfl (pc := 0) (by decide +kernel)
    j_ildn (pc := 0) D rfl rfl rfl fun D =>
    j_i2l (pc := 1) D rfl fun D =>
    j_c0 (pc := 2) (v := (1, 0)) D rfl rfl (by decide +kernel) fun D =>
    j_aldn (pc := 3) D rfl rfl rfl fun D =>
    j_gf (pc := 4) (a := 602) D rfl rfl (by decide) rfl (s0_602 H) rfl fun D =>
    j_ic (pc := 7) D rfl fun D =>
    j_isub (pc := 8) D rfl fun D =>
    j_i2l (pc := 9) D rfl fun D =>
    j_is (pc := 10) (m := 508) (a := [(1, wI x1), (1, 0), (1, wI (wI ((h 542 602 0) - 1)))]) (rest := []) D rfl rfl rfl rfl (fun v2 h1 e1 D =>
      have T := fj_run_ok _ _ _ _ _ _ H.1 e1
      have H := shp_st H T
      j_ifne (pc := 13) D rfl (fun q D =>
        j_ldc2 (pc := 16) D rfl fun D =>
        j_lret D rt_671) (fun q =>
        have D : fk_D 671 [(20, none, .iload_n 2, 1, 0, 0, 0), (21, none, .tableswitch 140 0 9 #[55, 63, 71, 79, 86, 94, 102, 109, 117, 125], 55, 0, 0, 0)] := fq_of3 cd_671 ow_671 cl_671 rfl (pc := 20) (by decide +kernel)
        j_ildn (pc := 20) D rfl rfl rfl fun D =>
        have N : fk_ni (x2) [] := trivial
        j_tc (pc := 21) 0 (t := 76) D N rfl (by decide +kernel) (fun q =>
          fk_jump cut_671_76 rfl rfl) (fun N =>
          j_tc 1 (t := 84) D N rfl (by decide +kernel) (fun q =>
            fk_jump cut_671_84 rfl rfl) (fun N =>
            j_tc 2 (t := 92) D N rfl (by decide +kernel) (fun q =>
              fk_jump cut_671_92 rfl rfl) (fun N =>
              j_tc 3 (t := 100) D N rfl (by decide +kernel) (fun q =>
                fk_jump cut_671_100 rfl rfl) (fun N =>
                j_tc 4 (t := 107) D N rfl (by decide +kernel) (fun q =>
                  fk_jump cut_671_107 rfl rfl) (fun N =>
                  j_tc 5 (t := 115) D N rfl (by decide +kernel) (fun q =>
                    fk_jump cut_671_115 rfl rfl) (fun N =>
                    j_tc 6 (t := 123) D N rfl (by decide +kernel) (fun q =>
                      fk_jump cut_671_123 rfl rfl) (fun N =>
                      j_tc 7 (t := 130) D N rfl (by decide +kernel) (fun q =>
                        fk_jump cut_671_130 rfl rfl) (fun N =>
                        j_tc 8 (t := 138) D N rfl (by decide +kernel) (fun q =>
                          fk_jump cut_671_138 rfl rfl) (fun N =>
                          j_tc 9 (t := 146) D N rfl (by decide +kernel) (fun q =>
                            fk_jump cut_671_146 rfl rfl) (fun N =>
                            j_td (t := 161) D N rfl (by decide +kernel) (by decide +kernel) <|
                            fk_jump cut_671_161 rfl rfl)))))))))))) (fun q3 h1 e1 =>
      j_tx (hx_671 _))
/-! 672 StatuteHouseModel.account(II)J -/
theorem cd_672 : fi_code 672 = prog_69_method_190_code := rfl
theorem hx_672 : ∀ pc, fi_hat 672 pc = none := fun pc => by unfold fi_hat; rw [show fi_hh 672 = [] from rfl]; rfl
theorem rt_672 : fi_ret 672 = some .long := rfl
theorem nl_672 : fi_nl 672 = 6 := rfl
theorem ow_672 : fi_ow 672 = 29 := rfl
theorem cl_672 : fj_cutT.getD 672 [] = [(17, [0, 1, 2, 3, 5]), (59, [0, 1, 2, 5]), (60, [0, 1, 2, 5])] := rfl
theorem cut_672_17 : fj_cut 672 17 = some [0, 1, 2, 3, 5] := by decide +kernel
noncomputable def c_672_17 (d : Nat) (x1 x2 x3 x5 : Int) (h : fi_H) : fk_R := gG (fj_run d) 672 17 [(0, (4, 602)), (1, (0, x1)), (2, (0, x2)), (3, (1, x3)), (5, (0, x5))] [] h
theorem cut_672_59 : fj_cut 672 59 = some [0, 1, 2, 5] := by decide +kernel
noncomputable def c_672_59 (d : Nat) (x1 x2 x5 s0 : Int) (h : fi_H) : fk_R := gG (fj_run d) 672 59 [(0, (4, 602)), (1, (0, x1)), (2, (0, x2)), (5, (0, x5))] [(1, s0)] h
theorem cut_672_60 : fj_cut 672 60 = some [0, 1, 2, 5] := by decide +kernel
noncomputable def c_672_60 (d : Nat) (x1 x2 x5 s0 s1 : Int) (h : fi_H) : fk_R := gG (fj_run d) 672 60 [(0, (4, 602)), (1, (0, x1)), (2, (0, x2)), (5, (0, x5))] [(1, s1), (1, s0)] h
theorem e_672_17 (d : Nat) (x1 x2 x3 x5 : Int) {h : fi_H} (H : Shp h) : c_672_17 d x1 x2 x3 x5 h =
  if x5 < h 542 602 0 then
    if 0 ≤ x5 ∧ x5 < 440 then
    if h 10 689 x5.toNat = x1 then
      if x2 < h 10 693 x5.toNat then
        c_672_59 d x1 x2 x5 x3 h
      else
        c_672_60 d x1 x2 x5 x3 (h 11 692 x5.toNat) h
    else
      c_672_59 d x1 x2 x5 x3 h
    else none
  else
    some (.inl (some (1, x3)), h) := by
  unfold c_672_17
  exact
    have D : fk_D 672 [(17, some [0, 1, 2, 3, 5], .iload 5, 2, 0, 0, 0), (19, none, .aload_n 0, 1, 0, 0, 0), (20, none, .getfield 1098, 3, 542, 129, 10), (23, none, .if_icmp .ge 45, 3, 68, 0, 0), (26, none, .lload_n 3, 1, 0, 0, 0), (27, none, .aload_n 0, 1, 0, 0, 0), (28, none, .getfield 317, 3, 529, 129, 12), (31, none, .iload 5, 2, 0, 0, 0), (33, none, .iaload, 1, 0, 0, 0), (34, none, .iload_n 1, 1, 0, 0, 0), (35, none, .if_icmp .ne 24, 3, 59, 0, 0), (38, none, .aload_n 0, 1, 0, 0, 0), (39, none, .getfield 329, 3, 533, 129, 12), (42, none, .iload 5, 2, 0, 0, 0), (44, none, .iaload, 1, 0, 0, 0), (45, none, .iload_n 2, 1, 0, 0, 0), (46, none, .if_icmp .gt 13, 3, 59, 0, 0), (49, none, .aload_n 0, 1, 0, 0, 0), (50, none, .getfield 326, 3, 532, 129, 12), (53, none, .iload 5, 2, 0, 0, 0)] := fq_of2 cd_672 ow_672 cl_672 rfl (pc := 17) (by decide +kernel)
    j_ild (pc := 17) D rfl rfl rfl fun D =>
    j_aldn (pc := 19) D rfl rfl rfl fun D =>
    j_gf (pc := 20) (a := 602) D rfl rfl (by decide) rfl (s0_602 H) rfl fun D =>
    j_ige (pc := 23) D rfl (fun q D =>
      j_lldn (pc := 26) D rfl rfl rfl fun D =>
      j_aldn (pc := 27) D rfl rfl rfl fun D =>
      j_gfc (pc := 28) (a := 602) D rfl rfl (by decide) rfl (s0_602 H) rfl (sf_529_602 H) fun D =>
      j_ild (pc := 31) D rfl rfl rfl fun D =>
      j_al (pc := 33) (a := 689) (e := 10) D rfl rfl rfl (by decide) (s0_689 H) (s1_689 H) ⟨rfl, rfl, rfl⟩ rfl gn fun qb1 D =>
      j_ildn (pc := 34) D rfl rfl rfl fun D =>
      j_ine (pc := 35) D rfl (fun q D =>
        j_aldn (pc := 38) D rfl rfl rfl fun D =>
        j_gfc (pc := 39) (a := 602) D rfl rfl (by decide) rfl (s0_602 H) rfl (sf_533_602 H) fun D =>
        j_ild (pc := 42) D rfl rfl rfl fun D =>
        j_al (pc := 44) (a := 693) (e := 10) D rfl rfl rfl (by decide) (s0_693 H) (s1_693 H) ⟨rfl, rfl, rfl⟩ rfl (gy qb1) fun q D =>
        j_ildn (pc := 45) D rfl rfl rfl fun D =>
        j_igt (pc := 46) D rfl (fun q =>
          fk_jump cut_672_59 rfl rfl) (fun q D =>
          j_aldn (pc := 49) D rfl rfl rfl fun D =>
          j_gfc (pc := 50) (a := 602) D rfl rfl (by decide) rfl (s0_602 H) rfl (sf_532_602 H) fun D =>
          j_ild (pc := 53) D rfl rfl rfl fun D =>
          have D : fk_D 672 [(55, none, .laload, 1, 0, 0, 0), (56, none, .goto 4, 3, 60, 0, 0)] := fq_of2 cd_672 ow_672 cl_672 rfl (pc := 55) (by decide +kernel)
          j_al (pc := 55) (a := 692) (e := 11) D rfl rfl rfl (by decide) (s0_692 H) (s1_692 H) ⟨rfl, rfl, rfl⟩ rfl (gy qb1) fun q D =>
          j_goto (pc := 56) D rfl <|
          fk_jump cut_672_60 rfl rfl)) (fun q =>
        fk_jump cut_672_59 rfl rfl)) (fun q =>
      have D : fk_D 672 [(68, none, .lload_n 3, 1, 0, 0, 0), (69, none, .lreturn, 1, 0, 0, 0)] := fq_of2 cd_672 ow_672 cl_672 rfl (pc := 68) (by decide +kernel)
      j_lldn (pc := 68) D rfl rfl rfl fun D =>
      j_lret D rt_672)
theorem e_672_59 (d : Nat) (x1 x2 x5 s0 : Int) {h : fi_H} (H : Shp h) : c_672_59 d x1 x2 x5 s0 h =
  c_672_60 d x1 x2 x5 s0 0 h := by
  unfold c_672_59
  exact
    have D : fk_D 672 [(59, some [0, 1, 2, 5], .lconst 0, 1, 0, 0, 0)] := fq_of2 cd_672 ow_672 cl_672 rfl (pc := 59) (by decide +kernel)
    j_c0 (pc := 59) (v := (1, 0)) D rfl rfl (by decide +kernel) fun D =>
    fk_jump cut_672_60 rfl rfl
theorem e_672_60 (d : Nat) (x1 x2 x5 s0 s1 : Int) {h : fi_H} (H : Shp h) : c_672_60 d x1 x2 x5 s0 s1 h =
  c_672_17 d x1 x2 (wJ (s0 + s1)) (wI (x5 + 1)) h := by
  unfold c_672_60
  exact
    have D : fk_D 672 [(60, some [0, 1, 2, 5], .ladd, 1, 0, 0, 0), (61, none, .lstore_n 3, 1, 0, 0, 0), (62, none, .iinc 5 1, 3, 0, 1, 0), (65, none, .goto (-48), 3, 17, 0, 0)] := fq_of2 cd_672 ow_672 cl_672 rfl (pc := 60) (by decide +kernel)
    j_ladd (pc := 60) D rfl fun D =>
    j_lstn (pc := 61) (L' := [(3, (1, wJ (s0 + s1))), (0, (4, 602)), (1, (0, x1)), (2, (0, x2)), (5, (0, x5))]) D rfl nl_672 rfl rfl fun D =>
    j_inc (pc := 62) (L' := [(5, (0, wI (x5 + 1))), (3, (1, wJ (s0 + s1))), (0, (4, 602)), (1, (0, x1)), (2, (0, x2))]) D rfl rfl rfl (by decide +kernel) rfl fun D =>
    j_goto (pc := 65) D rfl <|
    fk_jump cut_672_17 rfl rfl
theorem m_672 (d : Nat) (x1 x2 : Int) {h : fi_H} (H : Shp h) : fj_run (d + 1) 672 h [(4, 602), (0, x1), (0, x2)] =
  ca_ (fj_run d 572 h [(4, 602), (0, x1)]) 0
    (fun v2 h1 =>
    if v2 = 0 then
      some (.inl (some (1, (-9223372036854775808))), h1)
    else
      c_672_17 d x1 x2 0 0 h1)
    (fun q3 h1 => tx_ q3 h1) := by
  rw [fj_run_eq d (by decide) h [(4, 602), (0, x1), (0, x2)] (Nat.le_of_ble_eq_true (by rw [nl_672]; rfl))]
  show gG (fj_run d) 672 0 [(0, (4, 602)), (1, (0, x1)), (2, (0, x2))] [] h = _
  exact
    have D : fk_D 672 [(0, none, .aload_n 0, 1, 0, 0, 0), (1, none, .iload_n 1, 1, 0, 0, 0), (2, none, .invokevirtual 1076, 3, 1, 439, 1), (5, none, .ifCond .ne 7, 3, 12, 0, 0), (8, none, .ldc2_w 1208, 3, 1, (-9223372036854775808), 0), (11, none, .lreturn, 1, 0, 0, 0)] := fq_of2 cd_672 ow_672 cl_672 rfl (pc := 0) (by decide +kernel)
    j_aldn (pc := 0) D rfl rfl rfl fun D =>
    j_ildn (pc := 1) D rfl rfl rfl fun D =>
    j_iv (pc := 2) (m := 572) (dd := 439) (a := [(0, x1)]) (rest := []) D rfl rfl rfl rfl rfl (by decide) (s0_602 H) (by decide +kernel) (fun v2 h1 e1 D =>
      have T := fj_run_ok _ _ _ _ _ _ H.1 e1
      have H := shp_st H T
      j_ifne (pc := 5) D rfl (fun q D =>
        j_ldc2 (pc := 8) D rfl fun D =>
        j_lret D rt_672) (fun q =>
        have D : fk_D 672 [(12, none, .lconst 0, 1, 0, 0, 0), (13, none, .lstore_n 3, 1, 0, 0, 0), (14, none, .iconst 0, 1, 0, 0, 0), (15, none, .istore 5, 2, 0, 0, 0)] := fq_of2 cd_672 ow_672 cl_672 rfl (pc := 12) (by decide +kernel)
        j_c0 (pc := 12) (v := (1, 0)) D rfl rfl (by decide +kernel) fun D =>
        j_lstn (pc := 13) (L' := [(3, (1, 0)), (0, (4, 602)), (1, (0, x1)), (2, (0, x2))]) D rfl nl_672 rfl rfl fun D =>
        j_ic (pc := 14) D rfl fun D =>
        j_ist (pc := 15) (L' := [(5, (0, 0)), (3, (1, 0)), (0, (4, 602)), (1, (0, x1)), (2, (0, x2))]) D rfl nl_672 rfl rfl fun D =>
        fk_jump cut_672_17 rfl rfl)) (fun q3 h1 e1 =>
      j_tx (hx_672 _))
/-! 673 StatuteHouseModel.fork(I)I -/
theorem cd_673 : fi_code 673 = prog_69_method_191_code := rfl
theorem hx_673 : ∀ pc, fi_hat 673 pc = none := fun pc => by unfold fi_hat; rw [show fi_hh 673 = [] from rfl]; rfl
theorem rt_673 : fi_ret 673 = some .int := rfl
theorem nl_673 : fi_nl 673 = 3 := rfl
theorem ow_673 : fi_ow 673 = 29 := rfl
theorem cl_673 : fj_cutT.getD 673 [] = [(24, [0, 1, 2])] := rfl
theorem cut_673_24 : fj_cut 673 24 = some [0, 1, 2] := by decide +kernel
noncomputable def c_673_24 (d : Nat) (x1 x2 : Int) (h : fi_H) : fk_R := gG (fj_run d) 673 24 [(0, (4, 602)), (1, (0, x1)), (2, (0, x2))] [] h
theorem e_673_24 (d : Nat) (x1 x2 : Int) {h : fi_H} (H : Shp h) : c_673_24 d x1 x2 h =
  if x2 < h 10 642 0 then
    if 0 ≤ x2 ∧ x2 < 800 then
    cv_ (fj_run d 565 h [(4, 602), (0, x1), (0, h 10 639 x2.toNat), (0, h 10 640 x2.toNat), (0, 0)])
      (fun h2 =>
      c_673_24 d x1 (wI (x2 + 1)) h2)
      (fun q4 h2 => tx_ q4 h2)
    else none
  else
    if 0 ≤ x1 ∧ x1 < 4 then
    some (.inl (some (0, h 10 642 x1.toNat)), h)
    else none := by
  unfold c_673_24
  exact
    have D : fk_D 673 [(24, some [0, 1, 2], .iload_n 2, 1, 0, 0, 0), (25, none, .aload_n 0, 1, 0, 0, 0), (26, none, .getfield 137, 3, 448, 129, 12), (29, none, .iconst 0, 1, 0, 0, 0), (30, none, .iaload, 1, 0, 0, 0), (31, none, .if_icmp .ge 27, 3, 58, 0, 0), (34, none, .aload_n 0, 1, 0, 0, 0), (35, none, .iload_n 1, 1, 0, 0, 0), (36, none, .aload_n 0, 1, 0, 0, 0), (37, none, .getfield 128, 3, 445, 129, 12), (40, none, .iload_n 2, 1, 0, 0, 0), (41, none, .iaload, 1, 0, 0, 0), (42, none, .aload_n 0, 1, 0, 0, 0), (43, none, .getfield 131, 3, 446, 129, 12), (46, none, .iload_n 2, 1, 0, 0, 0), (47, none, .iaload, 1, 0, 0, 0), (48, none, .iconst 0, 1, 0, 0, 0), (49, none, .invokevirtual 829, 3, 4, 401, 0), (52, none, .iinc 2 1, 3, 0, 1, 0), (55, none, .goto (-31), 3, 24, 0, 0)] := fq_of2 cd_673 ow_673 cl_673 rfl (pc := 24) (by decide +kernel)
    j_ildn (pc := 24) D rfl rfl rfl fun D =>
    j_aldn (pc := 25) D rfl rfl rfl fun D =>
    j_gfc (pc := 26) (a := 602) D rfl rfl (by decide) rfl (s0_602 H) rfl (sf_448_602 H) fun D =>
    j_ic (pc := 29) D rfl fun D =>
    j_al (pc := 30) (a := 642) (e := 10) D rfl rfl rfl (by decide) (s0_642 H) (s1_642 H) ⟨rfl, rfl, rfl⟩ rfl (gy (by decide)) fun q D =>
    j_ige (pc := 31) D rfl (fun q D =>
      j_aldn (pc := 34) D rfl rfl rfl fun D =>
      j_ildn (pc := 35) D rfl rfl rfl fun D =>
      j_aldn (pc := 36) D rfl rfl rfl fun D =>
      j_gfc (pc := 37) (a := 602) D rfl rfl (by decide) rfl (s0_602 H) rfl (sf_445_602 H) fun D =>
      j_ildn (pc := 40) D rfl rfl rfl fun D =>
      j_al (pc := 41) (a := 639) (e := 10) D rfl rfl rfl (by decide) (s0_639 H) (s1_639 H) ⟨rfl, rfl, rfl⟩ rfl gn fun qb1 D =>
      j_aldn (pc := 42) D rfl rfl rfl fun D =>
      j_gfc (pc := 43) (a := 602) D rfl rfl (by decide) rfl (s0_602 H) rfl (sf_446_602 H) fun D =>
      j_ildn (pc := 46) D rfl rfl rfl fun D =>
      j_al (pc := 47) (a := 640) (e := 10) D rfl rfl rfl (by decide) (s0_640 H) (s1_640 H) ⟨rfl, rfl, rfl⟩ rfl (gy qb1) fun q D =>
      j_ic (pc := 48) D rfl fun D =>
      j_ivv (pc := 49) (m := 565) (dd := 401) (a := [(0, x1), (0, h 10 639 x2.toNat), (0, h 10 640 x2.toNat), (0, 0)]) (rest := []) D rfl rfl rfl rfl rfl (by decide) (s0_602 H) (by decide +kernel) (fun h2 e1 D =>
        have T := fj_run_ok _ _ _ _ _ _ H.1 e1
        have H := shp_st H T
        j_inc (pc := 52) (L' := [(2, (0, wI (x2 + 1))), (0, (4, 602)), (1, (0, x1))]) D rfl rfl rfl (by decide +kernel) rfl fun D =>
        j_goto (pc := 55) D rfl <|
        fk_jump cut_673_24 rfl rfl) (fun q4 h2 e1 =>
        j_tx (hx_673 _))) (fun q =>
      have D : fk_D 673 [(58, none, .aload_n 0, 1, 0, 0, 0), (59, none, .getfield 137, 3, 448, 129, 12), (62, none, .iload_n 1, 1, 0, 0, 0), (63, none, .iaload, 1, 0, 0, 0), (64, none, .ireturn, 1, 0, 0, 0)] := fq_of2 cd_673 ow_673 cl_673 rfl (pc := 58) (by decide +kernel)
      j_aldn (pc := 58) D rfl rfl rfl fun D =>
      j_gfc (pc := 59) (a := 602) D rfl rfl (by decide) rfl (s0_602 H) rfl (sf_448_602 H) fun D =>
      j_ildn (pc := 62) D rfl rfl rfl fun D =>
      j_al (pc := 63) (a := 642) (e := 10) D rfl rfl rfl (by decide) (s0_642 H) (s1_642 H) ⟨rfl, rfl, rfl⟩ rfl gn fun qb5 D =>
      j_iret D rt_673)
theorem m_673 (d : Nat) (x1 : Int) {h : fi_H} (H : Shp h) : fj_run (d + 1) 673 h [(4, 602), (0, x1)] =
  ca_ (fj_run d 508 h [(1, wI x1), (1, 1), (1, 3)]) 0
    (fun v2 h1 =>
    if v2 = 0 then
      some (.inl (some (0, (-2))), h1)
    else
      if 0 ≤ x1 ∧ x1 < 4 then
      lt_ (fi_upd h1 10 642 x1.toNat 0) fun h4 =>
      c_673_24 d x1 0 h4
      else none)
    (fun q3 h1 => tx_ q3 h1) := by
  rw [fj_run_eq d (by decide) h [(4, 602), (0, x1)] (Nat.le_of_ble_eq_true (by rw [nl_673]; rfl))]
  show gG (fj_run d) 673 0 [(0, (4, 602)), (1, (0, x1))] [] h = _
  exact
    have D : fk_D 673 [(0, none, .iload_n 1, 1, 0, 0, 0), (1, none, .i2l, 1, 0, 0, 0), (2, none, .lconst 1, 1, 0, 0, 0), (3, none, .ldc2_w 821, 3, 1, 3, 0), (6, none, .invokestatic 434, 3, 3, 508, 1), (9, none, .ifCond .ne 6, 3, 15, 0, 0), (12, none, .bipush (-2), 2, 0, (-2), 0), (14, none, .ireturn, 1, 0, 0, 0)] := fq_of2 cd_673 ow_673 cl_673 rfl (pc := 0) (by decide +kernel)
    j_ildn (pc := 0) D rfl rfl rfl fun D =>
    j_i2l (pc := 1) D rfl fun D =>
    j_c0 (pc := 2) (v := (1, 1)) D rfl rfl (by decide +kernel) fun D =>
    j_ldc2 (pc := 3) D rfl fun D =>
    j_is (pc := 6) (m := 508) (a := [(1, wI x1), (1, 1), (1, 3)]) (rest := []) D rfl rfl rfl rfl (fun v2 h1 e1 D =>
      have T := fj_run_ok _ _ _ _ _ _ H.1 e1
      have H := shp_st H T
      j_ifne (pc := 9) D rfl (fun q D =>
        j_bp (pc := 12) D rfl fun D =>
        j_iret D rt_673) (fun q =>
        have D : fk_D 673 [(15, none, .aload_n 0, 1, 0, 0, 0), (16, none, .getfield 137, 3, 448, 129, 12), (19, none, .iload_n 1, 1, 0, 0, 0), (20, none, .iconst 0, 1, 0, 0, 0), (21, none, .iastore, 1, 0, 0, 0), (22, none, .iconst 0, 1, 0, 0, 0), (23, none, .istore_n 2, 1, 0, 0, 0)] := fq_of2 cd_673 ow_673 cl_673 rfl (pc := 15) (by decide +kernel)
        j_aldn (pc := 15) D rfl rfl rfl fun D =>
        j_gfc (pc := 16) (a := 602) D rfl rfl (by decide) rfl (s0_602 H) rfl (sf_448_602 H) fun D =>
        j_ildn (pc := 19) D rfl rfl rfl fun D =>
        j_ic (pc := 20) D rfl fun D =>
        j_as (pc := 21) (a := 642) (e := 10) D rfl ⟨rfl, rfl⟩ rfl (by decide) (s0_642 H) (s1_642 H) ⟨rfl, rfl, rfl⟩ rfl gn (gy rfl) fun h4 eh4 S qb5 D =>
        have T := fj_hs_ok H.1 S
        have H := shp_st H T
        j_ic (pc := 22) D rfl fun D =>
        j_istn (pc := 23) (L' := [(2, (0, 0)), (0, (4, 602)), (1, (0, x1))]) D rfl nl_673 rfl rfl fun D =>
        fk_jump cut_673_24 rfl rfl)) (fun q3 h1 e1 =>
      j_tx (hx_673 _))
/-! 674 StatuteHouseModel.adopt(I)I -/
theorem cd_674 : fi_code 674 = prog_69_method_192_code := rfl
theorem hx_674 : ∀ pc, fi_hat 674 pc = none := fun pc => by unfold fi_hat; rw [show fi_hh 674 = [] from rfl]; rfl
theorem rt_674 : fi_ret 674 = some .int := rfl
theorem nl_674 : fi_nl 674 = 4 := rfl
theorem ow_674 : fi_ow 674 = 29 := rfl
theorem cl_674 : fj_cutT.getD 674 [] = [(23, [0, 1, 2, 3]), (54, [0, 1, 3]), (85, [0, 1, 2, 3]), (136, [0, 1, 2, 3])] := rfl
theorem cut_674_23 : fj_cut 674 23 = some [0, 1, 2, 3] := by decide +kernel
noncomputable def c_674_23 (d : Nat) (x1 x2 x3 : Int) (h : fi_H) : fk_R := gG (fj_run d) 674 23 [(0, (4, 602)), (1, (0, x1)), (2, (0, x2)), (3, (0, x3))] [] h
theorem cut_674_54 : fj_cut 674 54 = some [0, 1, 3] := by decide +kernel
noncomputable def c_674_54 (d : Nat) (x1 x3 s0 s1 : Int) (h : fi_H) : fk_R := gG (fj_run d) 674 54 [(0, (4, 602)), (1, (0, x1)), (3, (0, x3))] [(0, s1), (0, s0)] h
theorem cut_674_85 : fj_cut 674 85 = some [0, 1, 2, 3] := by decide +kernel
noncomputable def c_674_85 (d : Nat) (x1 x2 x3 : Int) (h : fi_H) : fk_R := gG (fj_run d) 674 85 [(0, (4, 602)), (1, (0, x1)), (2, (0, x2)), (3, (0, x3))] [] h
theorem cut_674_136 : fj_cut 674 136 = some [0, 1, 2, 3] := by decide +kernel
noncomputable def c_674_136 (d : Nat) (x1 x2 x3 : Int) (h : fi_H) : fk_R := gG (fj_run d) 674 136 [(0, (4, 602)), (1, (0, x1)), (2, (0, x2)), (3, (0, x3))] [] h
theorem e_674_23 (d : Nat) (x1 x2 x3 : Int) {h : fi_H} (H : Shp h) : c_674_23 d x1 x2 x3 h =
  if 0 ≤ x1 ∧ x1 < 4 then
  if x3 < wI ((wI (200 * x1)) + (h 10 642 x1.toNat)) then
    if 0 ≤ x3 ∧ x3 < 800 then
    if h 4 641 x3.toNat = 0 then
      c_674_54 d x1 x3 x2 0 h
    else
      c_674_54 d x1 x3 x2 1 h
    else none
  else
    if 200 < wI ((h 10 642 0) + x2) then
      some (.inl (some (0, (-4))), h)
    else
      c_674_85 d x1 x2 (wI (200 * x1)) h
  else none := by
  unfold c_674_23
  exact
    have D : fk_D 674 [(23, some [0, 1, 2, 3], .iload_n 3, 1, 0, 0, 0), (24, none, .sipush 200, 3, 0, 200, 0), (27, none, .iload_n 1, 1, 0, 0, 0), (28, none, .imul, 1, 0, 0, 0), (29, none, .aload_n 0, 1, 0, 0, 0), (30, none, .getfield 137, 3, 448, 129, 12), (33, none, .iload_n 1, 1, 0, 0, 0), (34, none, .iaload, 1, 0, 0, 0), (35, none, .iadd, 1, 0, 0, 0), (36, none, .if_icmp .ge 26, 3, 62, 0, 0), (39, none, .iload_n 2, 1, 0, 0, 0), (40, none, .aload_n 0, 1, 0, 0, 0), (41, none, .getfield 134, 3, 447, 129, 12), (44, none, .iload_n 3, 1, 0, 0, 0), (45, none, .baload, 1, 0, 0, 0), (46, none, .ifCond .eq 7, 3, 53, 0, 0), (49, none, .iconst 1, 1, 0, 1, 0), (50, none, .goto 4, 3, 54, 0, 0)] := fq_of2 cd_674 ow_674 cl_674 rfl (pc := 23) (by decide +kernel)
    j_ildn (pc := 23) D rfl rfl rfl fun D =>
    j_sp (pc := 24) D rfl fun D =>
    j_ildn (pc := 27) D rfl rfl rfl fun D =>
    j_imul (pc := 28) D rfl fun D =>
    j_aldn (pc := 29) D rfl rfl rfl fun D =>
    j_gfc (pc := 30) (a := 602) D rfl rfl (by decide) rfl (s0_602 H) rfl (sf_448_602 H) fun D =>
    j_ildn (pc := 33) D rfl rfl rfl fun D =>
    j_al (pc := 34) (a := 642) (e := 10) D rfl rfl rfl (by decide) (s0_642 H) (s1_642 H) ⟨rfl, rfl, rfl⟩ rfl gn fun qb1 D =>
    j_iadd (pc := 35) D rfl fun D =>
    j_ige (pc := 36) D rfl (fun q D =>
      j_ildn (pc := 39) D rfl rfl rfl fun D =>
      j_aldn (pc := 40) D rfl rfl rfl fun D =>
      j_gfc (pc := 41) (a := 602) D rfl rfl (by decide) rfl (s0_602 H) rfl (sf_447_602 H) fun D =>
      j_ildn (pc := 44) D rfl rfl rfl fun D =>
      j_al (pc := 45) (a := 641) (e := 4) D rfl rfl rfl (by decide) (s0_641 H) (s1_641 H) ⟨rfl, rfl, rfl⟩ rfl gn fun qb2 D =>
      j_ifeq (pc := 46) D rfl (fun q =>
        have D : fk_D 674 [(53, none, .iconst 0, 1, 0, 0, 0)] := fq_of2 cd_674 ow_674 cl_674 rfl (pc := 53) (by decide +kernel)
        j_ic (pc := 53) D rfl fun D =>
        fk_jump cut_674_54 rfl rfl) (fun q D =>
        j_ic (pc := 49) D rfl fun D =>
        j_goto (pc := 50) D rfl <|
        fk_jump cut_674_54 rfl rfl)) (fun q =>
      have D : fk_D 674 [(62, none, .aload_n 0, 1, 0, 0, 0), (63, none, .getfield 137, 3, 448, 129, 12), (66, none, .iconst 0, 1, 0, 0, 0), (67, none, .iaload, 1, 0, 0, 0), (68, none, .iload_n 2, 1, 0, 0, 0), (69, none, .iadd, 1, 0, 0, 0), (70, none, .sipush 200, 3, 0, 200, 0), (73, none, .if_icmp .le 6, 3, 79, 0, 0), (76, none, .bipush (-4), 2, 0, (-4), 0), (78, none, .ireturn, 1, 0, 0, 0)] := fq_of2 cd_674 ow_674 cl_674 rfl (pc := 62) (by decide +kernel)
      j_aldn (pc := 62) D rfl rfl rfl fun D =>
      j_gfc (pc := 63) (a := 602) D rfl rfl (by decide) rfl (s0_602 H) rfl (sf_448_602 H) fun D =>
      j_ic (pc := 66) D rfl fun D =>
      j_al (pc := 67) (a := 642) (e := 10) D rfl rfl rfl (by decide) (s0_642 H) (s1_642 H) ⟨rfl, rfl, rfl⟩ rfl (gy (by decide)) fun q D =>
      j_ildn (pc := 68) D rfl rfl rfl fun D =>
      j_iadd (pc := 69) D rfl fun D =>
      j_sp (pc := 70) D rfl fun D =>
      j_ile (pc := 73) D rfl (fun q D =>
        j_bp (pc := 76) D rfl fun D =>
        j_iret D rt_674) (fun q =>
        have D : fk_D 674 [(79, none, .sipush 200, 3, 0, 200, 0), (82, none, .iload_n 1, 1, 0, 0, 0), (83, none, .imul, 1, 0, 0, 0), (84, none, .istore_n 3, 1, 0, 0, 0)] := fq_of2 cd_674 ow_674 cl_674 rfl (pc := 79) (by decide +kernel)
        j_sp (pc := 79) D rfl fun D =>
        j_ildn (pc := 82) D rfl rfl rfl fun D =>
        j_imul (pc := 83) D rfl fun D =>
        j_istn (pc := 84) (L' := [(3, (0, wI (200 * x1))), (0, (4, 602)), (1, (0, x1)), (2, (0, x2))]) D rfl nl_674 rfl rfl fun D =>
        fk_jump cut_674_85 rfl rfl))
theorem e_674_54 (d : Nat) (x1 x3 s0 s1 : Int) {h : fi_H} (H : Shp h) : c_674_54 d x1 x3 s0 s1 h =
  c_674_23 d x1 (wI (s0 + s1)) (wI (x3 + 1)) h := by
  unfold c_674_54
  exact
    have D : fk_D 674 [(54, some [0, 1, 3], .iadd, 1, 0, 0, 0), (55, none, .istore_n 2, 1, 0, 0, 0), (56, none, .iinc 3 1, 3, 0, 1, 0), (59, none, .goto (-36), 3, 23, 0, 0)] := fq_of2 cd_674 ow_674 cl_674 rfl (pc := 54) (by decide +kernel)
    j_iadd (pc := 54) D rfl fun D =>
    j_istn (pc := 55) (L' := [(2, (0, wI (s0 + s1))), (0, (4, 602)), (1, (0, x1)), (3, (0, x3))]) D rfl nl_674 rfl rfl fun D =>
    j_inc (pc := 56) (L' := [(3, (0, wI (x3 + 1))), (2, (0, wI (s0 + s1))), (0, (4, 602)), (1, (0, x1))]) D rfl rfl rfl (by decide +kernel) rfl fun D =>
    j_goto (pc := 59) D rfl <|
    fk_jump cut_674_23 rfl rfl
theorem e_674_85 (d : Nat) (x1 x2 x3 : Int) {h : fi_H} (H : Shp h) : c_674_85 d x1 x2 x3 h =
  if 0 ≤ x1 ∧ x1 < 4 then
  if x3 < wI ((wI (200 * x1)) + (h 10 642 x1.toNat)) then
    if 0 ≤ x3 ∧ x3 < 800 then
    if h 4 641 x3.toNat = 0 then
      c_674_136 d x1 x2 x3 h
    else
      cv_ (fj_run d 565 h [(4, 602), (0, 0), (0, h 10 639 x3.toNat), (0, h 449 602 0), (0, 1)])
        (fun h3 =>
        lt_ (fi_upd h3 4 641 x3.toNat 0) fun h6 =>
        c_674_136 d x1 x2 x3 h6)
        (fun q5 h3 => tx_ q5 h3)
    else none
  else
    some (.inl (some (0, x2)), h)
  else none := by
  unfold c_674_85
  exact
    have D : fk_D 674 [(85, some [0, 1, 2, 3], .iload_n 3, 1, 0, 0, 0), (86, none, .sipush 200, 3, 0, 200, 0), (89, none, .iload_n 1, 1, 0, 0, 0), (90, none, .imul, 1, 0, 0, 0), (91, none, .aload_n 0, 1, 0, 0, 0), (92, none, .getfield 137, 3, 448, 129, 12), (95, none, .iload_n 1, 1, 0, 0, 0), (96, none, .iaload, 1, 0, 0, 0), (97, none, .iadd, 1, 0, 0, 0), (98, none, .if_icmp .ge 44, 3, 142, 0, 0), (101, none, .aload_n 0, 1, 0, 0, 0), (102, none, .getfield 134, 3, 447, 129, 12), (105, none, .iload_n 3, 1, 0, 0, 0), (106, none, .baload, 1, 0, 0, 0), (107, none, .ifCond .ne 6, 3, 113, 0, 0), (110, none, .goto 26, 3, 136, 0, 0)] := fq_of2 cd_674 ow_674 cl_674 rfl (pc := 85) (by decide +kernel)
    j_ildn (pc := 85) D rfl rfl rfl fun D =>
    j_sp (pc := 86) D rfl fun D =>
    j_ildn (pc := 89) D rfl rfl rfl fun D =>
    j_imul (pc := 90) D rfl fun D =>
    j_aldn (pc := 91) D rfl rfl rfl fun D =>
    j_gfc (pc := 92) (a := 602) D rfl rfl (by decide) rfl (s0_602 H) rfl (sf_448_602 H) fun D =>
    j_ildn (pc := 95) D rfl rfl rfl fun D =>
    j_al (pc := 96) (a := 642) (e := 10) D rfl rfl rfl (by decide) (s0_642 H) (s1_642 H) ⟨rfl, rfl, rfl⟩ rfl gn fun qb1 D =>
    j_iadd (pc := 97) D rfl fun D =>
    j_ige (pc := 98) D rfl (fun q D =>
      j_aldn (pc := 101) D rfl rfl rfl fun D =>
      j_gfc (pc := 102) (a := 602) D rfl rfl (by decide) rfl (s0_602 H) rfl (sf_447_602 H) fun D =>
      j_ildn (pc := 105) D rfl rfl rfl fun D =>
      j_al (pc := 106) (a := 641) (e := 4) D rfl rfl rfl (by decide) (s0_641 H) (s1_641 H) ⟨rfl, rfl, rfl⟩ rfl gn fun qb2 D =>
      j_ifne (pc := 107) D rfl (fun q D =>
        j_goto (pc := 110) D rfl <|
        fk_jump cut_674_136 rfl rfl) (fun q =>
        have D : fk_D 674 [(113, none, .aload_n 0, 1, 0, 0, 0), (114, none, .iconst 0, 1, 0, 0, 0), (115, none, .aload_n 0, 1, 0, 0, 0), (116, none, .getfield 128, 3, 445, 129, 12), (119, none, .iload_n 3, 1, 0, 0, 0), (120, none, .iaload, 1, 0, 0, 0), (121, none, .aload_n 0, 1, 0, 0, 0), (122, none, .getfield 141, 3, 449, 129, 10), (125, none, .iconst 1, 1, 0, 1, 0), (126, none, .invokevirtual 829, 3, 4, 401, 0), (129, none, .aload_n 0, 1, 0, 0, 0), (130, none, .getfield 134, 3, 447, 129, 12), (133, none, .iload_n 3, 1, 0, 0, 0), (134, none, .iconst 0, 1, 0, 0, 0), (135, none, .bastore, 1, 0, 0, 0)] := fq_of2 cd_674 ow_674 cl_674 rfl (pc := 113) (by decide +kernel)
        j_aldn (pc := 113) D rfl rfl rfl fun D =>
        j_ic (pc := 114) D rfl fun D =>
        j_aldn (pc := 115) D rfl rfl rfl fun D =>
        j_gfc (pc := 116) (a := 602) D rfl rfl (by decide) rfl (s0_602 H) rfl (sf_445_602 H) fun D =>
        j_ildn (pc := 119) D rfl rfl rfl fun D =>
        j_al (pc := 120) (a := 639) (e := 10) D rfl rfl rfl (by decide) (s0_639 H) (s1_639 H) ⟨rfl, rfl, rfl⟩ rfl (gy qb2) fun q D =>
        j_aldn (pc := 121) D rfl rfl rfl fun D =>
        j_gf (pc := 122) (a := 602) D rfl rfl (by decide) rfl (s0_602 H) rfl fun D =>
        j_ic (pc := 125) D rfl fun D =>
        j_ivv (pc := 126) (m := 565) (dd := 401) (a := [(0, 0), (0, h 10 639 x3.toNat), (0, h 449 602 0), (0, 1)]) (rest := []) D rfl rfl rfl rfl rfl (by decide) (s0_602 H) (by decide +kernel) (fun h3 e1 D =>
          have T := fj_run_ok _ _ _ _ _ _ H.1 e1
          have H := shp_st H T
          j_aldn (pc := 129) D rfl rfl rfl fun D =>
          j_gfc (pc := 130) (a := 602) D rfl rfl (by decide) rfl (s0_602 H) rfl (sf_447_602 H) fun D =>
          j_ildn (pc := 133) D rfl rfl rfl fun D =>
          j_ic (pc := 134) D rfl fun D =>
          j_as (pc := 135) (a := 641) (e := 4) D rfl ⟨rfl, rfl⟩ rfl (by decide) (s0_641 H) (s1_641 H) ⟨rfl, rfl, rfl⟩ rfl (gy qb2) (gy (by decide)) fun h6 eh6 S q D =>
          have T := fj_hs_ok H.1 S
          have H := shp_st H T
          fk_jump cut_674_136 rfl rfl) (fun q5 h3 e1 =>
          j_tx (hx_674 _)))) (fun q =>
      have D : fk_D 674 [(142, none, .iload_n 2, 1, 0, 0, 0), (143, none, .ireturn, 1, 0, 0, 0)] := fq_of2 cd_674 ow_674 cl_674 rfl (pc := 142) (by decide +kernel)
      j_ildn (pc := 142) D rfl rfl rfl fun D =>
      j_iret D rt_674)
theorem e_674_136 (d : Nat) (x1 x2 x3 : Int) {h : fi_H} (H : Shp h) : c_674_136 d x1 x2 x3 h =
  c_674_85 d x1 x2 (wI (x3 + 1)) h := by
  unfold c_674_136
  exact
    have D : fk_D 674 [(136, some [0, 1, 2, 3], .iinc 3 1, 3, 0, 1, 0), (139, none, .goto (-54), 3, 85, 0, 0)] := fq_of2 cd_674 ow_674 cl_674 rfl (pc := 136) (by decide +kernel)
    j_inc (pc := 136) (L' := [(3, (0, wI (x3 + 1))), (0, (4, 602)), (1, (0, x1)), (2, (0, x2))]) D rfl rfl rfl (by decide +kernel) rfl fun D =>
    j_goto (pc := 139) D rfl <|
    fk_jump cut_674_85 rfl rfl
theorem m_674 (d : Nat) (x1 : Int) {h : fi_H} (H : Shp h) : fj_run (d + 1) 674 h [(4, 602), (0, x1)] =
  ca_ (fj_run d 508 h [(1, wI x1), (1, 1), (1, 3)]) 0
    (fun v2 h1 =>
    if v2 = 0 then
      some (.inl (some (0, (-2))), h1)
    else
      c_674_23 d x1 0 (wI (200 * x1)) h1)
    (fun q3 h1 => tx_ q3 h1) := by
  rw [fj_run_eq d (by decide) h [(4, 602), (0, x1)] (Nat.le_of_ble_eq_true (by rw [nl_674]; rfl))]
  show gG (fj_run d) 674 0 [(0, (4, 602)), (1, (0, x1))] [] h = _
  exact
    have D : fk_D 674 [(0, none, .iload_n 1, 1, 0, 0, 0), (1, none, .i2l, 1, 0, 0, 0), (2, none, .lconst 1, 1, 0, 0, 0), (3, none, .ldc2_w 821, 3, 1, 3, 0), (6, none, .invokestatic 434, 3, 3, 508, 1), (9, none, .ifCond .ne 6, 3, 15, 0, 0), (12, none, .bipush (-2), 2, 0, (-2), 0), (14, none, .ireturn, 1, 0, 0, 0)] := fq_of2 cd_674 ow_674 cl_674 rfl (pc := 0) (by decide +kernel)
    j_ildn (pc := 0) D rfl rfl rfl fun D =>
    j_i2l (pc := 1) D rfl fun D =>
    j_c0 (pc := 2) (v := (1, 1)) D rfl rfl (by decide +kernel) fun D =>
    j_ldc2 (pc := 3) D rfl fun D =>
    j_is (pc := 6) (m := 508) (a := [(1, wI x1), (1, 1), (1, 3)]) (rest := []) D rfl rfl rfl rfl (fun v2 h1 e1 D =>
      have T := fj_run_ok _ _ _ _ _ _ H.1 e1
      have H := shp_st H T
      j_ifne (pc := 9) D rfl (fun q D =>
        j_bp (pc := 12) D rfl fun D =>
        j_iret D rt_674) (fun q =>
        have D : fk_D 674 [(15, none, .iconst 0, 1, 0, 0, 0), (16, none, .istore_n 2, 1, 0, 0, 0), (17, none, .sipush 200, 3, 0, 200, 0), (20, none, .iload_n 1, 1, 0, 0, 0), (21, none, .imul, 1, 0, 0, 0), (22, none, .istore_n 3, 1, 0, 0, 0)] := fq_of2 cd_674 ow_674 cl_674 rfl (pc := 15) (by decide +kernel)
        j_ic (pc := 15) D rfl fun D =>
        j_istn (pc := 16) (L' := [(2, (0, 0)), (0, (4, 602)), (1, (0, x1))]) D rfl nl_674 rfl rfl fun D =>
        j_sp (pc := 17) D rfl fun D =>
        j_ildn (pc := 20) D rfl rfl rfl fun D =>
        j_imul (pc := 21) D rfl fun D =>
        j_istn (pc := 22) (L' := [(3, (0, wI (200 * x1))), (2, (0, 0)), (0, (4, 602)), (1, (0, x1))]) D rfl nl_674 rfl rfl fun D =>
        fk_jump cut_674_23 rfl rfl)) (fun q3 h1 e1 =>
      j_tx (hx_674 _))
/-! 675 StatuteHouseModel.forecast(IIII)I -/
theorem cd_675 : fi_code 675 = prog_69_method_193_code := rfl
theorem hx_675 : ∀ pc, fi_hat 675 pc = none := fun pc => by unfold fi_hat; rw [show fi_hh 675 = [] from rfl]; rfl
theorem rt_675 : fi_ret 675 = some .int := rfl
theorem nl_675 : fi_nl 675 = 8 := rfl
theorem ow_675 : fi_ow 675 = 29 := rfl
theorem cl_675 : fj_cutT.getD 675 [] = [(108, [0, 1, 2, 3, 4, 5]), (143, [0, 1, 2, 3, 4, 5, 6, 7]), (193, [0, 1, 2, 3, 4, 5, 6, 7])] := rfl
theorem cut_675_108 : fj_cut 675 108 = some [0, 1, 2, 3, 4, 5] := by decide +kernel
noncomputable def c_675_108 (d : Nat) (x1 x2 x3 x4 x5 : Int) (h : fi_H) : fk_R := gG (fj_run d) 675 108 [(0, (4, 602)), (1, (0, x1)), (2, (0, x2)), (3, (0, x3)), (4, (0, x4)), (5, (0, x5))] [] h
theorem cut_675_143 : fj_cut 675 143 = some [0, 1, 2, 3, 4, 5, 6, 7] := by decide +kernel
noncomputable def c_675_143 (d : Nat) (x1 x2 x3 x4 x5 x6 x7 : Int) (h : fi_H) : fk_R := gG (fj_run d) 675 143 [(0, (4, 602)), (1, (0, x1)), (2, (0, x2)), (3, (0, x3)), (4, (0, x4)), (5, (0, x5)), (6, (0, x6)), (7, (0, x7))] [] h
theorem cut_675_193 : fj_cut 675 193 = some [0, 1, 2, 3, 4, 5, 6, 7] := by decide +kernel
noncomputable def c_675_193 (d : Nat) (x1 x2 x3 x4 x5 x6 x7 : Int) (h : fi_H) : fk_R := gG (fj_run d) 675 193 [(0, (4, 602)), (1, (0, x1)), (2, (0, x2)), (3, (0, x3)), (4, (0, x4)), (5, (0, x5)), (6, (0, x6)), (7, (0, x7))] [] h
theorem e_675_108 (d : Nat) (x1 x2 x3 x4 x5 : Int) {h : fi_H} (H : Shp h) : c_675_108 d x1 x2 x3 x4 x5 h =
  if x5 < x4 then
    if 0 ≤ x5 ∧ x5 < 60 then
    lt_ (fi_upd h 11 705 x5.toNat 0) fun h1 =>
    lt_ (fi_upd h1 10 706 x5.toNat 0) fun h3 =>
    ca_ (fj_run d 601 h3 [(4, 602), (0, x3), (0, x5)]) 0
      (fun v5 h4 =>
      c_675_143 d x1 x2 x3 x4 x5 v5 1 h4)
      (fun q6 h4 => tx_ q6 h4)
    else none
  else
    some (.inl (some (0, x4)), h) := by
  unfold c_675_108
  exact
    have D : fk_D 675 [(108, some [0, 1, 2, 3, 4, 5], .iload 5, 2, 0, 0, 0), (110, none, .iload 4, 2, 0, 0, 0), (112, none, .if_icmp .ge 93, 3, 205, 0, 0), (115, none, .aload_n 0, 1, 0, 0, 0), (116, none, .getfield 371, 3, 548, 129, 12), (119, none, .iload 5, 2, 0, 0, 0), (121, none, .lconst 0, 1, 0, 0, 0), (122, none, .lastore, 1, 0, 0, 0), (123, none, .aload_n 0, 1, 0, 0, 0), (124, none, .getfield 374, 3, 549, 129, 12), (127, none, .iload 5, 2, 0, 0, 0), (129, none, .iconst 0, 1, 0, 0, 0), (130, none, .iastore, 1, 0, 0, 0), (131, none, .aload_n 0, 1, 0, 0, 0), (132, none, .iload_n 3, 1, 0, 0, 0), (133, none, .iload 5, 2, 0, 0, 0), (135, none, .invokevirtual 453, 3, 2, 336, 1), (138, none, .istore 6, 2, 0, 0, 0), (140, none, .iconst 1, 1, 0, 1, 0), (141, none, .istore 7, 2, 0, 0, 0)] := fq_of2 cd_675 ow_675 cl_675 rfl (pc := 108) (by decide +kernel)
    j_ild (pc := 108) D rfl rfl rfl fun D =>
    j_ild (pc := 110) D rfl rfl rfl fun D =>
    j_ige (pc := 112) D rfl (fun q D =>
      j_aldn (pc := 115) D rfl rfl rfl fun D =>
      j_gfc (pc := 116) (a := 602) D rfl rfl (by decide) rfl (s0_602 H) rfl (sf_548_602 H) fun D =>
      j_ild (pc := 119) D rfl rfl rfl fun D =>
      j_c0 (pc := 121) (v := (1, 0)) D rfl rfl (by decide +kernel) fun D =>
      j_as (pc := 122) (a := 705) (e := 11) D rfl ⟨rfl, rfl⟩ rfl (by decide) (s0_705 H) (s1_705 H) ⟨rfl, rfl, rfl⟩ rfl gn (gy rfl) fun h1 eh1 S qb2 D =>
      have T := fj_hs_ok H.1 S
      have H := shp_st H T
      j_aldn (pc := 123) D rfl rfl rfl fun D =>
      j_gfc (pc := 124) (a := 602) D rfl rfl (by decide) rfl (s0_602 H) rfl (sf_549_602 H) fun D =>
      j_ild (pc := 127) D rfl rfl rfl fun D =>
      j_ic (pc := 129) D rfl fun D =>
      j_as (pc := 130) (a := 706) (e := 10) D rfl ⟨rfl, rfl⟩ rfl (by decide) (s0_706 H) (s1_706 H) ⟨rfl, rfl, rfl⟩ rfl (gy qb2) (gy rfl) fun h3 eh3 S q D =>
      have T := fj_hs_ok H.1 S
      have H := shp_st H T
      j_aldn (pc := 131) D rfl rfl rfl fun D =>
      j_ildn (pc := 132) D rfl rfl rfl fun D =>
      j_ild (pc := 133) D rfl rfl rfl fun D =>
      j_iv (pc := 135) (m := 601) (dd := 336) (a := [(0, x3), (0, x5)]) (rest := []) D rfl rfl rfl rfl rfl (by decide) (s0_602 H) (by decide +kernel) (fun v5 h4 e1 D =>
        have T := fj_run_ok _ _ _ _ _ _ H.1 e1
        have H := shp_st H T
        j_ist (pc := 138) (L' := [(6, (0, v5)), (0, (4, 602)), (1, (0, x1)), (2, (0, x2)), (3, (0, x3)), (4, (0, x4)), (5, (0, x5))]) D rfl nl_675 rfl rfl fun D =>
        j_ic (pc := 140) D rfl fun D =>
        j_ist (pc := 141) (L' := [(7, (0, 1)), (6, (0, v5)), (0, (4, 602)), (1, (0, x1)), (2, (0, x2)), (3, (0, x3)), (4, (0, x4)), (5, (0, x5))]) D rfl nl_675 rfl rfl fun D =>
        fk_jump cut_675_143 rfl rfl) (fun q6 h4 e1 =>
        j_tx (hx_675 _))) (fun q =>
      have D : fk_D 675 [(205, none, .iload 4, 2, 0, 0, 0), (207, none, .ireturn, 1, 0, 0, 0)] := fq_of2 cd_675 ow_675 cl_675 rfl (pc := 205) (by decide +kernel)
      j_ild (pc := 205) D rfl rfl rfl fun D =>
      j_iret D rt_675)
theorem e_675_143 (d : Nat) (x1 x2 x3 x4 x5 x6 x7 : Int) {h : fi_H} (H : Shp h) : c_675_143 d x1 x2 x3 x4 x5 x6 x7 h =
  if x7 < h 459 602 0 then
    ca_ (fj_run d 676 h [(4, 602), (0, x1), (0, x2), (0, x7), (0, x6)]) 0
      (fun v2 h1 =>
      if v2 = 0 then
        c_675_193 d x1 x2 x3 x4 x5 x6 x7 h1
      else
        if 0 ≤ x5 ∧ x5 < 60 then
        lt_ (fi_upd h1 11 705 x5.toNat (wJ ((h1 11 705 x5.toNat) + (h1 492 602 0)))) fun h5 =>
        lt_ (fi_upd h5 10 706 x5.toNat (wI ((h5 10 706 x5.toNat) + 1))) fun h6 =>
        c_675_193 d x1 x2 x3 x4 x5 x6 x7 h6
        else none)
      (fun q3 h1 => tx_ q3 h1)
  else
    c_675_108 d x1 x2 x3 x4 (wI (x5 + 1)) h := by
  unfold c_675_143
  exact
    have D : fk_D 675 [(143, some [0, 1, 2, 3, 4, 5, 6, 7], .iload 7, 2, 0, 0, 0), (145, none, .aload_n 0, 1, 0, 0, 0), (146, none, .getfield 169, 3, 459, 129, 10), (149, none, .if_icmp .ge 50, 3, 199, 0, 0), (152, none, .aload_n 0, 1, 0, 0, 0), (153, none, .iload_n 1, 1, 0, 0, 0), (154, none, .iload_n 2, 1, 0, 0, 0), (155, none, .iload 7, 2, 0, 0, 0), (157, none, .iload 6, 2, 0, 0, 0), (159, none, .invokevirtual 1215, 3, 4, 464, 1), (162, none, .ifCond .ne 6, 3, 168, 0, 0), (165, none, .goto 28, 3, 193, 0, 0)] := fq_of2 cd_675 ow_675 cl_675 rfl (pc := 143) (by decide +kernel)
    j_ild (pc := 143) D rfl rfl rfl fun D =>
    j_aldn (pc := 145) D rfl rfl rfl fun D =>
    j_gf (pc := 146) (a := 602) D rfl rfl (by decide) rfl (s0_602 H) rfl fun D =>
    j_ige (pc := 149) D rfl (fun q D =>
      j_aldn (pc := 152) D rfl rfl rfl fun D =>
      j_ildn (pc := 153) D rfl rfl rfl fun D =>
      j_ildn (pc := 154) D rfl rfl rfl fun D =>
      j_ild (pc := 155) D rfl rfl rfl fun D =>
      j_ild (pc := 157) D rfl rfl rfl fun D =>
      j_iv (pc := 159) (m := 676) (dd := 464) (a := [(0, x1), (0, x2), (0, x7), (0, x6)]) (rest := []) D rfl rfl rfl rfl rfl (by decide) (s0_602 H) (by decide +kernel) (fun v2 h1 e1 D =>
        have T := fj_run_ok _ _ _ _ _ _ H.1 e1
        have H := shp_st H T
        j_ifne (pc := 162) D rfl (fun q D =>
          j_goto (pc := 165) D rfl <|
          fk_jump cut_675_193 rfl rfl) (fun q =>
          have D : fk_D 675 [(168, none, .aload_n 0, 1, 0, 0, 0), (169, none, .getfield 371, 3, 548, 129, 12), (172, none, .iload 5, 2, 0, 0, 0), (174, none, .dup2, 1, 0, 0, 0), (175, none, .laload, 1, 0, 0, 0), (176, none, .aload_n 0, 1, 0, 0, 0), (177, none, .getfield 869, 3, 492, 129, 11), (180, none, .ladd, 1, 0, 0, 0), (181, none, .lastore, 1, 0, 0, 0), (182, none, .aload_n 0, 1, 0, 0, 0), (183, none, .getfield 374, 3, 549, 129, 12), (186, none, .iload 5, 2, 0, 0, 0), (188, none, .dup2, 1, 0, 0, 0), (189, none, .iaload, 1, 0, 0, 0), (190, none, .iconst 1, 1, 0, 1, 0), (191, none, .iadd, 1, 0, 0, 0), (192, none, .iastore, 1, 0, 0, 0)] := fq_of2 cd_675 ow_675 cl_675 rfl (pc := 168) (by decide +kernel)
          j_aldn (pc := 168) D rfl rfl rfl fun D =>
          j_gfc (pc := 169) (a := 602) D rfl rfl (by decide) rfl (s0_602 H) rfl (sf_548_602 H) fun D =>
          j_ild (pc := 172) D rfl rfl rfl fun D =>
          j_sh (pc := 174) D rfl rfl rfl fun D =>
          j_al (pc := 175) (a := 705) (e := 11) D rfl rfl rfl (by decide) (s0_705 H) (s1_705 H) ⟨rfl, rfl, rfl⟩ rfl gn fun qb4 D =>
          j_aldn (pc := 176) D rfl rfl rfl fun D =>
          j_gf (pc := 177) (a := 602) D rfl rfl (by decide) rfl (s0_602 H) rfl fun D =>
          j_ladd (pc := 180) D rfl fun D =>
          j_as (pc := 181) (a := 705) (e := 11) D rfl ⟨rfl, rfl⟩ rfl (by decide) (s0_705 H) (s1_705 H) ⟨rfl, rfl, rfl⟩ rfl (gy qb4) (gy rfl) fun h5 eh5 S q D =>
          have T := fj_hs_ok H.1 S
          have H := shp_st H T
          j_aldn (pc := 182) D rfl rfl rfl fun D =>
          j_gfc (pc := 183) (a := 602) D rfl rfl (by decide) rfl (s0_602 H) rfl (sf_549_602 H) fun D =>
          j_ild (pc := 186) D rfl rfl rfl fun D =>
          j_sh (pc := 188) D rfl rfl rfl fun D =>
          j_al (pc := 189) (a := 706) (e := 10) D rfl rfl rfl (by decide) (s0_706 H) (s1_706 H) ⟨rfl, rfl, rfl⟩ rfl (gy qb4) fun q D =>
          j_ic (pc := 190) D rfl fun D =>
          j_iadd (pc := 191) D rfl fun D =>
          j_as (pc := 192) (a := 706) (e := 10) D rfl ⟨rfl, rfl⟩ rfl (by decide) (s0_706 H) (s1_706 H) ⟨rfl, rfl, rfl⟩ rfl (gy qb4) (gy rfl) fun h6 eh6 S q D =>
          have T := fj_hs_ok H.1 S
          have H := shp_st H T
          fk_jump cut_675_193 rfl rfl)) (fun q3 h1 e1 =>
        j_tx (hx_675 _))) (fun q =>
      have D : fk_D 675 [(199, none, .iinc 5 1, 3, 0, 1, 0), (202, none, .goto (-94), 3, 108, 0, 0)] := fq_of2 cd_675 ow_675 cl_675 rfl (pc := 199) (by decide +kernel)
      j_inc (pc := 199) (L' := [(5, (0, wI (x5 + 1))), (0, (4, 602)), (1, (0, x1)), (2, (0, x2)), (3, (0, x3)), (4, (0, x4)), (6, (0, x6)), (7, (0, x7))]) D rfl rfl rfl (by decide +kernel) rfl fun D =>
      j_goto (pc := 202) D rfl <|
      fk_jump cut_675_108 rfl rfl)
theorem e_675_193 (d : Nat) (x1 x2 x3 x4 x5 x6 x7 : Int) {h : fi_H} (H : Shp h) : c_675_193 d x1 x2 x3 x4 x5 x6 x7 h =
  c_675_143 d x1 x2 x3 x4 x5 x6 (wI (x7 + 1)) h := by
  unfold c_675_193
  exact
    have D : fk_D 675 [(193, some [0, 1, 2, 3, 4, 5, 6, 7], .iinc 7 1, 3, 0, 1, 0), (196, none, .goto (-53), 3, 143, 0, 0)] := fq_of2 cd_675 ow_675 cl_675 rfl (pc := 193) (by decide +kernel)
    j_inc (pc := 193) (L' := [(7, (0, wI (x7 + 1))), (0, (4, 602)), (1, (0, x1)), (2, (0, x2)), (3, (0, x3)), (4, (0, x4)), (5, (0, x5)), (6, (0, x6))]) D rfl rfl rfl (by decide +kernel) rfl fun D =>
    j_goto (pc := 196) D rfl <|
    fk_jump cut_675_143 rfl rfl
theorem m_675 (d : Nat) (x1 x2 x3 x4 : Int) {h : fi_H} (H : Shp h) : fj_run (d + 1) 675 h [(4, 602), (0, x1), (0, x2), (0, x3), (0, x4)] =
  ca_ (fj_run d 641 h [(4, 602), (0, x2)]) 0
    (fun v2 h1 =>
    if v2 = 0 then
      some (.inl (some (0, (-1))), h1)
    else
      if 0 ≤ x2 ∧ x2 < 41 then
      if h1 10 611 x2.toNat = 2 then
        ca_ (fj_run d 525 h1 [(4, 602), (0, x1)]) 0
          (fun v6 h5 =>
          if v6 = 0 then
            some (.inl (some (0, (-2))), h5)
          else
            ca_ (fj_run d 520 h5 [(1, wI x3)]) 0
              (fun v9 h8 =>
              if v9 = 0 then
                some (.inl (some (0, (-2))), h8)
              else
                ca_ (fj_run d 508 h8 [(1, wI x4), (1, 1), (1, 60)]) 0
                  (fun v12 h11 =>
                  if v12 = 0 then
                    some (.inl (some (0, (-2))), h11)
                  else
                    cv_ (fj_run d 593 h11 [(4, 602), (0, x3)])
                      (fun h14 =>
                      if h14 386 602 0 = 1 then
                        ca_ (fj_run d 601 h14 [(4, 602), (0, x3), (0, wI (x4 - 1))]) 0
                          (fun v18 h17 =>
                          ca_ (fj_run d 520 h17 [(1, wI v18)]) 0
                            (fun v21 h20 =>
                            if v21 = 0 then
                              some (.inl (some (0, (-2))), h20)
                            else
                              lt_ (fi_upd h20 494 602 0 0) fun h23 =>
                              lt_ (fi_upd h23 474 602 0 1) fun h24 =>
                              lt_ (fi_upd h24 481 602 0 0) fun h25 =>
                              lt_ (fi_upd h25 550 602 0 x4) fun h26 =>
                              c_675_108 d x1 x2 x3 x4 0 h26)
                            (fun q22 h20 => tx_ q22 h20))
                          (fun q19 h17 => tx_ q19 h17)
                      else
                        some (.inl (some (0, (-2))), h14))
                      (fun q16 h14 => tx_ q16 h14))
                  (fun q13 h11 => tx_ q13 h11))
              (fun q10 h8 => tx_ q10 h8))
          (fun q7 h5 => tx_ q7 h5)
      else
        some (.inl (some (0, (-1))), h1)
      else none)
    (fun q3 h1 => tx_ q3 h1) := by
  rw [fj_run_eq d (by decide) h [(4, 602), (0, x1), (0, x2), (0, x3), (0, x4)] (Nat.le_of_ble_eq_true (by rw [nl_675]; rfl))]
  show gG (fj_run d) 675 0 [(0, (4, 602)), (1, (0, x1)), (2, (0, x2)), (3, (0, x3)), (4, (0, x4))] [] h = _
  exact
    have D : fk_D 675 [(0, none, .aload_n 0, 1, 0, 0, 0), (1, none, .iload_n 2, 1, 0, 0, 0), (2, none, .invokevirtual 1148, 3, 1, 452, 1), (5, none, .ifCond .eq 13, 3, 18, 0, 0), (8, none, .aload_n 0, 1, 0, 0, 0), (9, none, .getfield 43, 3, 407, 129, 12), (12, none, .iload_n 2, 1, 0, 0, 0), (13, none, .iaload, 1, 0, 0, 0), (14, none, .iconst 2, 1, 0, 2, 0), (15, none, .if_icmp .eq 5, 3, 20, 0, 0), (18, none, .iconst (-1), 1, 0, (-1), 0), (19, none, .ireturn, 1, 0, 0, 0)] := fq_of2 cd_675 ow_675 cl_675 rfl (pc := 0) (by decide +kernel)
    j_aldn (pc := 0) D rfl rfl rfl fun D =>
    j_ildn (pc := 1) D rfl rfl rfl fun D =>
    j_iv (pc := 2) (m := 641) (dd := 452) (a := [(0, x2)]) (rest := []) D rfl rfl rfl rfl rfl (by decide) (s0_602 H) (by decide +kernel) (fun v2 h1 e1 D =>
      have T := fj_run_ok _ _ _ _ _ _ H.1 e1
      have H := shp_st H T
      j_ifeq (pc := 5) D rfl (fun q =>
        have D : fk_D 675 [(18, none, .iconst (-1), 1, 0, (-1), 0), (19, none, .ireturn, 1, 0, 0, 0)] := fq_of2 cd_675 ow_675 cl_675 rfl (pc := 18) (by decide +kernel)
        j_ic (pc := 18) D rfl fun D =>
        j_iret D rt_675) (fun q D =>
        j_aldn (pc := 8) D rfl rfl rfl fun D =>
        j_gfc (pc := 9) (a := 602) D rfl rfl (by decide) rfl (s0_602 H) rfl (sf_407_602 H) fun D =>
        j_ildn (pc := 12) D rfl rfl rfl fun D =>
        j_al (pc := 13) (a := 611) (e := 10) D rfl rfl rfl (by decide) (s0_611 H) (s1_611 H) ⟨rfl, rfl, rfl⟩ rfl gn fun qb4 D =>
        j_ic (pc := 14) D rfl fun D =>
        j_ieq (pc := 15) D rfl (fun q =>
          have D : fk_D 675 [(20, none, .aload_n 0, 1, 0, 0, 0), (21, none, .iload_n 1, 1, 0, 0, 0), (22, none, .invokevirtual 823, 3, 1, 399, 1), (25, none, .ifCond .eq 24, 3, 49, 0, 0), (28, none, .iload_n 3, 1, 0, 0, 0), (29, none, .i2l, 1, 0, 0, 0), (30, none, .invokestatic 456, 3, 1, 520, 1), (33, none, .ifCond .eq 16, 3, 49, 0, 0), (36, none, .iload 4, 2, 0, 0, 0), (38, none, .i2l, 1, 0, 0, 0), (39, none, .lconst 1, 1, 0, 0, 0), (40, none, .ldc2_w 1210, 3, 1, 60, 0), (43, none, .invokestatic 434, 3, 3, 508, 1), (46, none, .ifCond .ne 6, 3, 52, 0, 0), (49, none, .bipush (-2), 2, 0, (-2), 0), (51, none, .ireturn, 1, 0, 0, 0)] := fq_of2 cd_675 ow_675 cl_675 rfl (pc := 20) (by decide +kernel)
          j_aldn (pc := 20) D rfl rfl rfl fun D =>
          j_ildn (pc := 21) D rfl rfl rfl fun D =>
          j_iv (pc := 22) (m := 525) (dd := 399) (a := [(0, x1)]) (rest := []) D rfl rfl rfl rfl rfl (by decide) (s0_602 H) (by decide +kernel) (fun v6 h5 e1 D =>
            have T := fj_run_ok _ _ _ _ _ _ H.1 e1
            have H := shp_st H T
            j_ifeq (pc := 25) D rfl (fun q =>
              have D : fk_D 675 [(49, none, .bipush (-2), 2, 0, (-2), 0), (51, none, .ireturn, 1, 0, 0, 0)] := fq_of2 cd_675 ow_675 cl_675 rfl (pc := 49) (by decide +kernel)
              j_bp (pc := 49) D rfl fun D =>
              j_iret D rt_675) (fun q D =>
              j_ildn (pc := 28) D rfl rfl rfl fun D =>
              j_i2l (pc := 29) D rfl fun D =>
              j_is (pc := 30) (m := 520) (a := [(1, wI x3)]) (rest := []) D rfl rfl rfl rfl (fun v9 h8 e1 D =>
                have T := fj_run_ok _ _ _ _ _ _ H.1 e1
                have H := shp_st H T
                j_ifeq (pc := 33) D rfl (fun q =>
                  have D : fk_D 675 [(49, none, .bipush (-2), 2, 0, (-2), 0), (51, none, .ireturn, 1, 0, 0, 0)] := fq_of2 cd_675 ow_675 cl_675 rfl (pc := 49) (by decide +kernel)
                  j_bp (pc := 49) D rfl fun D =>
                  j_iret D rt_675) (fun q D =>
                  j_ild (pc := 36) D rfl rfl rfl fun D =>
                  j_i2l (pc := 38) D rfl fun D =>
                  j_c0 (pc := 39) (v := (1, 1)) D rfl rfl (by decide +kernel) fun D =>
                  j_ldc2 (pc := 40) D rfl fun D =>
                  j_is (pc := 43) (m := 508) (a := [(1, wI x4), (1, 1), (1, 60)]) (rest := []) D rfl rfl rfl rfl (fun v12 h11 e1 D =>
                    have T := fj_run_ok _ _ _ _ _ _ H.1 e1
                    have H := shp_st H T
                    j_ifne (pc := 46) D rfl (fun q D =>
                      j_bp (pc := 49) D rfl fun D =>
                      j_iret D rt_675) (fun q =>
                      have D : fk_D 675 [(52, none, .aload_n 0, 1, 0, 0, 0), (53, none, .iload_n 3, 1, 0, 0, 0), (54, none, .invokevirtual 438, 3, 1, 335, 0), (57, none, .aload_n 0, 1, 0, 0, 0), (58, none, .getfield 429, 3, 386, 129, 10), (61, none, .iconst 1, 1, 0, 1, 0), (62, none, .if_icmp .ne 19, 3, 81, 0, 0), (65, none, .aload_n 0, 1, 0, 0, 0), (66, none, .iload_n 3, 1, 0, 0, 0), (67, none, .iload 4, 2, 0, 0, 0), (69, none, .iconst 1, 1, 0, 1, 0), (70, none, .isub, 1, 0, 0, 0), (71, none, .invokevirtual 453, 3, 2, 336, 1), (74, none, .i2l, 1, 0, 0, 0), (75, none, .invokestatic 456, 3, 1, 520, 1), (78, none, .ifCond .ne 6, 3, 84, 0, 0), (81, none, .bipush (-2), 2, 0, (-2), 0), (83, none, .ireturn, 1, 0, 0, 0)] := fq_of2 cd_675 ow_675 cl_675 rfl (pc := 52) (by decide +kernel)
                      j_aldn (pc := 52) D rfl rfl rfl fun D =>
                      j_ildn (pc := 53) D rfl rfl rfl fun D =>
                      j_ivv (pc := 54) (m := 593) (dd := 335) (a := [(0, x3)]) (rest := []) D rfl rfl rfl rfl rfl (by decide) (s0_602 H) (by decide +kernel) (fun h14 e1 D =>
                        have T := fj_run_ok _ _ _ _ _ _ H.1 e1
                        have H := shp_st H T
                        j_aldn (pc := 57) D rfl rfl rfl fun D =>
                        j_gf (pc := 58) (a := 602) D rfl rfl (by decide) rfl (s0_602 H) rfl fun D =>
                        j_ic (pc := 61) D rfl fun D =>
                        j_ine (pc := 62) D rfl (fun q D =>
                          j_aldn (pc := 65) D rfl rfl rfl fun D =>
                          j_ildn (pc := 66) D rfl rfl rfl fun D =>
                          j_ild (pc := 67) D rfl rfl rfl fun D =>
                          j_ic (pc := 69) D rfl fun D =>
                          j_isub (pc := 70) D rfl fun D =>
                          j_iv (pc := 71) (m := 601) (dd := 336) (a := [(0, x3), (0, wI (x4 - 1))]) (rest := []) D rfl rfl rfl rfl rfl (by decide) (s0_602 H) (by decide +kernel) (fun v18 h17 e1 D =>
                            have T := fj_run_ok _ _ _ _ _ _ H.1 e1
                            have H := shp_st H T
                            j_i2l (pc := 74) D rfl fun D =>
                            j_is (pc := 75) (m := 520) (a := [(1, wI v18)]) (rest := []) D rfl rfl rfl rfl (fun v21 h20 e1 D =>
                              have T := fj_run_ok _ _ _ _ _ _ H.1 e1
                              have H := shp_st H T
                              j_ifne (pc := 78) D rfl (fun q D =>
                                j_bp (pc := 81) D rfl fun D =>
                                j_iret D rt_675) (fun q =>
                                have D : fk_D 675 [(84, none, .aload_n 0, 1, 0, 0, 0), (85, none, .iconst 0, 1, 0, 0, 0), (86, none, .putfield 857, 3, 494, 129, 4), (89, none, .aload_n 0, 1, 0, 0, 0), (90, none, .iconst 1, 1, 0, 1, 0), (91, none, .putfield 208, 3, 474, 129, 4), (94, none, .aload_n 0, 1, 0, 0, 0), (95, none, .iconst 0, 1, 0, 0, 0), (96, none, .putfield 851, 3, 481, 129, 10), (99, none, .aload_n 0, 1, 0, 0, 0), (100, none, .iload 4, 2, 0, 0, 0), (102, none, .putfield 1212, 3, 550, 129, 10), (105, none, .iconst 0, 1, 0, 0, 0), (106, none, .istore 5, 2, 0, 0, 0)] := fq_of2 cd_675 ow_675 cl_675 rfl (pc := 84) (by decide +kernel)
                                j_aldn (pc := 84) D rfl rfl rfl fun D =>
                                j_ic (pc := 85) D rfl fun D =>
                                j_pf (pc := 86) (a := 602) D rfl rfl rfl (s0_602 H) rfl rfl (gy (by decide)) (gy (by decide)) fun h23 eh23 S D =>
                                have T := fj_hs_ok H.1 S
                                have H := shp_st H T
                                j_aldn (pc := 89) D rfl rfl rfl fun D =>
                                j_ic (pc := 90) D rfl fun D =>
                                j_pf (pc := 91) (a := 602) D rfl rfl rfl (s0_602 H) rfl rfl (gy (by decide)) (gy (by decide)) fun h24 eh24 S D =>
                                have T := fj_hs_ok H.1 S
                                have H := shp_st H T
                                j_aldn (pc := 94) D rfl rfl rfl fun D =>
                                j_ic (pc := 95) D rfl fun D =>
                                j_pf (pc := 96) (a := 602) D rfl rfl rfl (s0_602 H) rfl rfl (gy (by decide)) (gy rfl) fun h25 eh25 S D =>
                                have T := fj_hs_ok H.1 S
                                have H := shp_st H T
                                j_aldn (pc := 99) D rfl rfl rfl fun D =>
                                j_ild (pc := 100) D rfl rfl rfl fun D =>
                                j_pf (pc := 102) (a := 602) D rfl rfl rfl (s0_602 H) rfl rfl (gy (by decide)) (gy rfl) fun h26 eh26 S D =>
                                have T := fj_hs_ok H.1 S
                                have H := shp_st H T
                                j_ic (pc := 105) D rfl fun D =>
                                j_ist (pc := 106) (L' := [(5, (0, 0)), (0, (4, 602)), (1, (0, x1)), (2, (0, x2)), (3, (0, x3)), (4, (0, x4))]) D rfl nl_675 rfl rfl fun D =>
                                fk_jump cut_675_108 rfl rfl)) (fun q22 h20 e1 =>
                              j_tx (hx_675 _))) (fun q19 h17 e1 =>
                            j_tx (hx_675 _))) (fun q =>
                          have D : fk_D 675 [(81, none, .bipush (-2), 2, 0, (-2), 0), (83, none, .ireturn, 1, 0, 0, 0)] := fq_of2 cd_675 ow_675 cl_675 rfl (pc := 81) (by decide +kernel)
                          j_bp (pc := 81) D rfl fun D =>
                          j_iret D rt_675)) (fun q16 h14 e1 =>
                        j_tx (hx_675 _)))) (fun q13 h11 e1 =>
                    j_tx (hx_675 _)))) (fun q10 h8 e1 =>
                j_tx (hx_675 _)))) (fun q7 h5 e1 =>
            j_tx (hx_675 _))) (fun q D =>
          j_ic (pc := 18) D rfl fun D =>
          j_iret D rt_675))) (fun q3 h1 e1 =>
      j_tx (hx_675 _))
/-! 676 StatuteHouseModel.measures(IIII)Z -/
theorem cd_676 : fi_code 676 = prog_69_method_195_code := rfl
theorem rt_676 : fi_ret 676 = some .boolean := rfl
theorem nl_676 : fi_nl 676 = 6 := rfl
theorem ow_676 : fi_ow 676 = 29 := rfl
theorem cl_676 : fj_cutT.getD 676 [] = [(20, [])] := rfl
theorem cut_676_20 : fj_cut 676 20 = some [] := by decide +kernel
noncomputable def c_676_20 (d : Nat) (s0 : Int) (h : fi_H) : fk_R := gG (fj_run d) 676 20 [] [(4, s0)] h
theorem e_676_20 (d : Nat) (s0 : Int) {h : fi_H} (H : Shp h) : c_676_20 d s0 h =
  some (.inl (some (0, 0)), h) := by
  unfold c_676_20
  exact
    have D : fk_D 676 [(20, some [], .astore 5, 2, 0, 0, 0), (22, none, .iconst 0, 1, 0, 0, 0), (23, none, .ireturn, 1, 0, 0, 0)] := fq_of2 cd_676 ow_676 cl_676 rfl (pc := 20) (by decide +kernel)
    j_ast (pc := 20) (L' := [(5, (4, s0))]) D rfl nl_676 rfl rfl fun D =>
    j_ic (pc := 22) D rfl fun D =>
    j_zret D rt_676 (gy (by decide))
theorem m_676 (d : Nat) (x1 x2 x3 x4 : Int) {h : fi_H} (H : Shp h) : fj_run (d + 1) 676 h [(4, 602), (0, x1), (0, x2), (0, x3), (0, x4)] =
  cv_ (fj_run d 574 h [(4, 602), (0, x1), (0, x3), (0, x4), (0, h 449 602 0)])
    (fun h1 =>
    cv_ (fj_run d 605 h1 [(4, 602), (0, x2)])
      (fun h4 =>
      some (.inl (some (0, 1)), h4))
      (fun q6 h4 => tc_ 130 q6 h4 (c_676_20 d (q6 : Int) h4)))
    (fun q3 h1 => tx_ q3 h1) := by
  rw [fj_run_eq d (by decide) h [(4, 602), (0, x1), (0, x2), (0, x3), (0, x4)] (Nat.le_of_ble_eq_true (by rw [nl_676]; rfl))]
  show gG (fj_run d) 676 0 [(0, (4, 602)), (1, (0, x1)), (2, (0, x2)), (3, (0, x3)), (4, (0, x4))] [] h = _
  exact
    have D : fk_D 676 [(0, none, .aload_n 0, 1, 0, 0, 0), (1, none, .iload_n 1, 1, 0, 0, 0), (2, none, .iload_n 3, 1, 0, 0, 0), (3, none, .iload 4, 2, 0, 0, 0), (5, none, .aload_n 0, 1, 0, 0, 0), (6, none, .getfield 141, 3, 449, 129, 10), (9, none, .invokevirtual 1086, 3, 4, 442, 0), (12, none, .aload_n 0, 1, 0, 0, 0), (13, none, .iload_n 2, 1, 0, 0, 0), (14, none, .invokevirtual 979, 3, 1, 420, 0), (17, none, .goto 7, 3, 24, 0, 0)] := fq_of2 cd_676 ow_676 cl_676 rfl (pc := 0) (by decide +kernel)
    j_aldn (pc := 0) D rfl rfl rfl fun D =>
    j_ildn (pc := 1) D rfl rfl rfl fun D =>
    j_ildn (pc := 2) D rfl rfl rfl fun D =>
    j_ild (pc := 3) D rfl rfl rfl fun D =>
    j_aldn (pc := 5) D rfl rfl rfl fun D =>
    j_gf (pc := 6) (a := 602) D rfl rfl (by decide) rfl (s0_602 H) rfl fun D =>
    j_ivv (pc := 9) (m := 574) (dd := 442) (a := [(0, x1), (0, x3), (0, x4), (0, h 449 602 0)]) (rest := []) D rfl rfl rfl rfl rfl (by decide) (s0_602 H) (by decide +kernel) (fun h1 e1 D =>
      have T := fj_run_ok _ _ _ _ _ _ H.1 e1
      have H := shp_st H T
      j_aldn (pc := 12) D rfl rfl rfl fun D =>
      j_ildn (pc := 13) D rfl rfl rfl fun D =>
      j_ivv (pc := 14) (m := 605) (dd := 420) (a := [(0, x2)]) (rest := []) D rfl rfl rfl rfl rfl (by decide) (s0_602 H) (by decide +kernel) (fun h4 e1 D =>
        have T := fj_run_ok _ _ _ _ _ _ H.1 e1
        have H := shp_st H T
        j_goto (pc := 17) D rfl <|
        have D : fk_D 676 [(24, none, .iconst 1, 1, 0, 1, 0), (25, none, .ireturn, 1, 0, 0, 0)] := fq_of2 cd_676 ow_676 cl_676 rfl (pc := 24) (by decide +kernel)
        j_ic (pc := 24) D rfl fun D =>
        j_zret D rt_676 (gy (by decide))) (fun q6 h4 e1 =>
        j_tc_ (n := 130) (fk_at (cu := none) (by decide +kernel) rfl) (s := 12) (e := 17) (hp := 20) (ct := 9) (by decide +kernel) rfl (by decide +kernel) <|
        fk_jump cut_676_20 rfl rfl)) (fun q3 h1 e1 =>
      j_tx (by decide +kernel))
/-! 677 StatuteHouseModel.forecasted(II)J -/
theorem cd_677 : fi_code 677 = prog_69_method_194_code := rfl
theorem hx_677 : ∀ pc, fi_hat 677 pc = none := fun pc => by unfold fi_hat; rw [show fi_hh 677 = [] from rfl]; rfl
theorem rt_677 : fi_ret 677 = some .long := rfl
theorem nl_677 : fi_nl 677 = 3 := rfl
theorem ow_677 : fi_ow 677 = 29 := rfl
theorem cl_677 : fj_cutT.getD 677 [] = [] := rfl
theorem m_677 (d : Nat) (x1 x2 : Int) {h : fi_H} (H : Shp h) : fj_run (d + 1) 677 h [(4, 602), (0, x1), (0, x2)] =
  ca_ (fj_run d 508 h [(1, wI x1), (1, 0), (1, wI (wI ((h 550 602 0) - 1)))]) 0
    (fun v2 h1 =>
    if v2 = 0 then
      some (.inl (some (1, 0)), h1)
    else
      if x2 = 0 then
        if 0 ≤ x1 ∧ x1 < 60 then
        some (.inl (some (1, h1 11 705 x1.toNat)), h1)
        else none
      else
        if x2 = 1 then
          if 0 ≤ x1 ∧ x1 < 60 then
          some (.inl (some (1, wI (h1 10 706 x1.toNat))), h1)
          else none
        else
          some (.inl (some (1, 0)), h1))
    (fun q3 h1 => tx_ q3 h1) := by
  rw [fj_run_eq d (by decide) h [(4, 602), (0, x1), (0, x2)] (Nat.le_of_ble_eq_true (by rw [nl_677]; rfl))]
  show gG (fj_run d) 677 0 [(0, (4, 602)), (1, (0, x1)), (2, (0, x2))] [] h = _
  exact
    have D : fk_D 677 [(0, none, .iload_n 1, 1, 0, 0, 0), (1, none, .i2l, 1, 0, 0, 0), (2, none, .lconst 0, 1, 0, 0, 0), (3, none, .aload_n 0, 1, 0, 0, 0), (4, none, .getfield 1212, 3, 550, 129, 10), (7, none, .iconst 1, 1, 0, 1, 0), (8, none, .isub, 1, 0, 0, 0), (9, none, .i2l, 1, 0, 0, 0), (10, none, .invokestatic 434, 3, 3, 508, 1), (13, none, .ifCond .ne 7, 3, 20, 0, 0), (16, none, .lconst 0, 1, 0, 0, 0), (17, none, .goto 32, 3, 49, 0, 0)] := fq_of2 cd_677 ow_677 cl_677 rfl (pc := 0) (by decide +kernel)
    j_ildn (pc := 0) D rfl rfl rfl fun D =>
    j_i2l (pc := 1) D rfl fun D =>
    j_c0 (pc := 2) (v := (1, 0)) D rfl rfl (by decide +kernel) fun D =>
    j_aldn (pc := 3) D rfl rfl rfl fun D =>
    j_gf (pc := 4) (a := 602) D rfl rfl (by decide) rfl (s0_602 H) rfl fun D =>
    j_ic (pc := 7) D rfl fun D =>
    j_isub (pc := 8) D rfl fun D =>
    j_i2l (pc := 9) D rfl fun D =>
    j_is (pc := 10) (m := 508) (a := [(1, wI x1), (1, 0), (1, wI (wI ((h 550 602 0) - 1)))]) (rest := []) D rfl rfl rfl rfl (fun v2 h1 e1 D =>
      have T := fj_run_ok _ _ _ _ _ _ H.1 e1
      have H := shp_st H T
      j_ifne (pc := 13) D rfl (fun q D =>
        j_c0 (pc := 16) (v := (1, 0)) D rfl rfl (by decide +kernel) fun D =>
        j_goto (pc := 17) D rfl <|
        have D : fk_D 677 [(49, none, .lreturn, 1, 0, 0, 0)] := fq_of2 cd_677 ow_677 cl_677 rfl (pc := 49) (by decide +kernel)
        j_lret D rt_677) (fun q =>
        have D : fk_D 677 [(20, none, .iload_n 2, 1, 0, 0, 0), (21, none, .ifCond .ne 12, 3, 33, 0, 0), (24, none, .aload_n 0, 1, 0, 0, 0), (25, none, .getfield 371, 3, 548, 129, 12), (28, none, .iload_n 1, 1, 0, 0, 0), (29, none, .laload, 1, 0, 0, 0), (30, none, .goto 19, 3, 49, 0, 0)] := fq_of2 cd_677 ow_677 cl_677 rfl (pc := 20) (by decide +kernel)
        j_ildn (pc := 20) D rfl rfl rfl fun D =>
        j_ifne (pc := 21) D rfl (fun q D =>
          j_aldn (pc := 24) D rfl rfl rfl fun D =>
          j_gfc (pc := 25) (a := 602) D rfl rfl (by decide) rfl (s0_602 H) rfl (sf_548_602 H) fun D =>
          j_ildn (pc := 28) D rfl rfl rfl fun D =>
          j_al (pc := 29) (a := 705) (e := 11) D rfl rfl rfl (by decide) (s0_705 H) (s1_705 H) ⟨rfl, rfl, rfl⟩ rfl gn fun qb4 D =>
          j_goto (pc := 30) D rfl <|
          have D : fk_D 677 [(49, none, .lreturn, 1, 0, 0, 0)] := fq_of2 cd_677 ow_677 cl_677 rfl (pc := 49) (by decide +kernel)
          j_lret D rt_677) (fun q =>
          have D : fk_D 677 [(33, none, .iload_n 2, 1, 0, 0, 0), (34, none, .iconst 1, 1, 0, 1, 0), (35, none, .if_icmp .ne 13, 3, 48, 0, 0), (38, none, .aload_n 0, 1, 0, 0, 0), (39, none, .getfield 374, 3, 549, 129, 12), (42, none, .iload_n 1, 1, 0, 0, 0), (43, none, .iaload, 1, 0, 0, 0), (44, none, .i2l, 1, 0, 0, 0), (45, none, .goto 4, 3, 49, 0, 0)] := fq_of2 cd_677 ow_677 cl_677 rfl (pc := 33) (by decide +kernel)
          j_ildn (pc := 33) D rfl rfl rfl fun D =>
          j_ic (pc := 34) D rfl fun D =>
          j_ine (pc := 35) D rfl (fun q D =>
            j_aldn (pc := 38) D rfl rfl rfl fun D =>
            j_gfc (pc := 39) (a := 602) D rfl rfl (by decide) rfl (s0_602 H) rfl (sf_549_602 H) fun D =>
            j_ildn (pc := 42) D rfl rfl rfl fun D =>
            j_al (pc := 43) (a := 706) (e := 10) D rfl rfl rfl (by decide) (s0_706 H) (s1_706 H) ⟨rfl, rfl, rfl⟩ rfl gn fun qb5 D =>
            j_i2l (pc := 44) D rfl fun D =>
            j_goto (pc := 45) D rfl <|
            have D : fk_D 677 [(49, none, .lreturn, 1, 0, 0, 0)] := fq_of2 cd_677 ow_677 cl_677 rfl (pc := 49) (by decide +kernel)
            j_lret D rt_677) (fun q =>
            have D : fk_D 677 [(48, none, .lconst 0, 1, 0, 0, 0), (49, none, .lreturn, 1, 0, 0, 0)] := fq_of2 cd_677 ow_677 cl_677 rfl (pc := 48) (by decide +kernel)
            j_c0 (pc := 48) (v := (1, 0)) D rfl rfl (by decide +kernel) fun D =>
            j_lret D rt_677)))) (fun q3 h1 e1 =>
      j_tx (hx_677 _))
/-! 678 StatuteHouseModel.measure(IIII)I -/
theorem cd_678 : fi_code 678 = prog_69_method_196_code := rfl
theorem hx_678 : ∀ pc, fi_hat 678 pc = none := fun pc => by unfold fi_hat; rw [show fi_hh 678 = [] from rfl]; rfl
theorem rt_678 : fi_ret 678 = some .int := rfl
theorem nl_678 : fi_nl 678 = 9 := rfl
theorem ow_678 : fi_ow 678 = 29 := rfl
theorem cl_678 : fj_cutT.getD 678 [] = [(41, [0, 1, 2, 3, 4]), (89, [0, 1, 2, 3, 4]), (95, [0, 1, 2, 3, 4, 5]), (145, [0, 1, 2, 3, 4, 5, 7]), (149, [0, 1, 2, 3, 4, 5, 7]), (150, [0, 1, 2, 3, 4, 5, 7]), (220, [0, 1, 2, 3, 4, 5])] := rfl
theorem cut_678_41 : fj_cut 678 41 = some [0, 1, 2, 3, 4] := by decide +kernel
noncomputable def c_678_41 (d : Nat) (x1 x2 x3 x4 : Int) (h : fi_H) : fk_R := gG (fj_run d) 678 41 [(0, (4, 602)), (1, (0, x1)), (2, (0, x2)), (3, (0, x3)), (4, (0, x4))] [] h
theorem cut_678_89 : fj_cut 678 89 = some [0, 1, 2, 3, 4] := by decide +kernel
noncomputable def c_678_89 (d : Nat) (x1 x2 x3 x4 s0 s1 : Int) (h : fi_H) : fk_R := gG (fj_run d) 678 89 [(0, (4, 602)), (1, (0, x1)), (2, (0, x2)), (3, (0, x3)), (4, (0, x4))] [(0, s1), (4, s0)] h
theorem cut_678_95 : fj_cut 678 95 = some [0, 1, 2, 3, 4, 5] := by decide +kernel
noncomputable def c_678_95 (d : Nat) (x1 x2 x3 x4 x5 : Int) (h : fi_H) : fk_R := gG (fj_run d) 678 95 [(0, (4, 602)), (1, (0, x1)), (2, (0, x2)), (3, (0, x3)), (4, (0, x4)), (5, (0, x5))] [] h
theorem cut_678_145 : fj_cut 678 145 = some [0, 1, 2, 3, 4, 5, 7] := by decide +kernel
noncomputable def c_678_145 (d : Nat) (x1 x2 x3 x4 x5 x7 : Int) (h : fi_H) : fk_R := gG (fj_run d) 678 145 [(0, (4, 602)), (1, (0, x1)), (2, (0, x2)), (3, (0, x3)), (4, (0, x4)), (5, (0, x5)), (7, (1, x7))] [] h
theorem cut_678_149 : fj_cut 678 149 = some [0, 1, 2, 3, 4, 5, 7] := by decide +kernel
noncomputable def c_678_149 (d : Nat) (x1 x2 x3 x4 x5 x7 : Int) (h : fi_H) : fk_R := gG (fj_run d) 678 149 [(0, (4, 602)), (1, (0, x1)), (2, (0, x2)), (3, (0, x3)), (4, (0, x4)), (5, (0, x5)), (7, (1, x7))] [] h
theorem cut_678_150 : fj_cut 678 150 = some [0, 1, 2, 3, 4, 5, 7] := by decide +kernel
noncomputable def c_678_150 (d : Nat) (x1 x2 x3 x4 x5 x7 s0 : Int) (h : fi_H) : fk_R := gG (fj_run d) 678 150 [(0, (4, 602)), (1, (0, x1)), (2, (0, x2)), (3, (0, x3)), (4, (0, x4)), (5, (0, x5)), (7, (1, x7))] [(0, s0)] h
theorem cut_678_220 : fj_cut 678 220 = some [0, 1, 2, 3, 4, 5] := by decide +kernel
noncomputable def c_678_220 (d : Nat) (x1 x2 x3 x4 x5 : Int) (h : fi_H) : fk_R := gG (fj_run d) 678 220 [(0, (4, 602)), (1, (0, x1)), (2, (0, x2)), (3, (0, x3)), (4, (0, x4)), (5, (0, x5))] [] h
theorem e_678_41 (d : Nat) (x1 x2 x3 x4 : Int) {h : fi_H} (H : Shp h) : c_678_41 d x1 x2 x3 x4 h =
  ca_ (fj_run d 520 h [(1, wI x4)]) 0
    (fun v2 h1 =>
    if v2 = 0 then
      some (.inl (some (0, (-2))), h1)
    else
      lt_ (fi_upd h1 494 602 0 0) fun h4 =>
      lt_ (fi_upd h4 474 602 0 1) fun h5 =>
      lt_ (fi_upd h5 481 602 0 0) fun h6 =>
      lt_ (fi_upd h6 554 602 0 0) fun h7 =>
      lt_ (fi_upd h7 555 602 0 0) fun h8 =>
      if x2 = (-1) then
        c_678_89 d x1 x2 x3 x4 602 0 h8
      else
        c_678_89 d x1 x2 x3 x4 602 1 h8)
    (fun q3 h1 => tx_ q3 h1) := by
  unfold c_678_41
  exact
    have D : fk_D 678 [(41, some [0, 1, 2, 3, 4], .iload 4, 2, 0, 0, 0), (43, none, .i2l, 1, 0, 0, 0), (44, none, .invokestatic 456, 3, 1, 520, 1), (47, none, .ifCond .ne 6, 3, 53, 0, 0), (50, none, .bipush (-2), 2, 0, (-2), 0), (52, none, .ireturn, 1, 0, 0, 0)] := fq_of2 cd_678 ow_678 cl_678 rfl (pc := 41) (by decide +kernel)
    j_ild (pc := 41) D rfl rfl rfl fun D =>
    j_i2l (pc := 43) D rfl fun D =>
    j_is (pc := 44) (m := 520) (a := [(1, wI x4)]) (rest := []) D rfl rfl rfl rfl (fun v2 h1 e1 D =>
      have T := fj_run_ok _ _ _ _ _ _ H.1 e1
      have H := shp_st H T
      j_ifne (pc := 47) D rfl (fun q D =>
        j_bp (pc := 50) D rfl fun D =>
        j_iret D rt_678) (fun q =>
        have D : fk_D 678 [(53, none, .aload_n 0, 1, 0, 0, 0), (54, none, .iconst 0, 1, 0, 0, 0), (55, none, .putfield 857, 3, 494, 129, 4), (58, none, .aload_n 0, 1, 0, 0, 0), (59, none, .iconst 1, 1, 0, 1, 0), (60, none, .putfield 208, 3, 474, 129, 4), (63, none, .aload_n 0, 1, 0, 0, 0), (64, none, .iconst 0, 1, 0, 0, 0), (65, none, .putfield 851, 3, 481, 129, 10), (68, none, .aload_n 0, 1, 0, 0, 0), (69, none, .iconst 0, 1, 0, 0, 0), (70, none, .putfield 1218, 3, 554, 129, 10), (73, none, .aload_n 0, 1, 0, 0, 0), (74, none, .iconst 0, 1, 0, 0, 0), (75, none, .putfield 1221, 3, 555, 129, 10), (78, none, .aload_n 0, 1, 0, 0, 0), (79, none, .iload_n 2, 1, 0, 0, 0), (80, none, .iconst (-1), 1, 0, (-1), 0), (81, none, .if_icmp .eq 7, 3, 88, 0, 0), (84, none, .iconst 1, 1, 0, 1, 0)] := fq_of2 cd_678 ow_678 cl_678 rfl (pc := 53) (by decide +kernel)
        j_aldn (pc := 53) D rfl rfl rfl fun D =>
        j_ic (pc := 54) D rfl fun D =>
        j_pf (pc := 55) (a := 602) D rfl rfl rfl (s0_602 H) rfl rfl (gy (by decide)) (gy (by decide)) fun h4 eh4 S D =>
        have T := fj_hs_ok H.1 S
        have H := shp_st H T
        j_aldn (pc := 58) D rfl rfl rfl fun D =>
        j_ic (pc := 59) D rfl fun D =>
        j_pf (pc := 60) (a := 602) D rfl rfl rfl (s0_602 H) rfl rfl (gy (by decide)) (gy (by decide)) fun h5 eh5 S D =>
        have T := fj_hs_ok H.1 S
        have H := shp_st H T
        j_aldn (pc := 63) D rfl rfl rfl fun D =>
        j_ic (pc := 64) D rfl fun D =>
        j_pf (pc := 65) (a := 602) D rfl rfl rfl (s0_602 H) rfl rfl (gy (by decide)) (gy rfl) fun h6 eh6 S D =>
        have T := fj_hs_ok H.1 S
        have H := shp_st H T
        j_aldn (pc := 68) D rfl rfl rfl fun D =>
        j_ic (pc := 69) D rfl fun D =>
        j_pf (pc := 70) (a := 602) D rfl rfl rfl (s0_602 H) rfl rfl (gy (by decide)) (gy rfl) fun h7 eh7 S D =>
        have T := fj_hs_ok H.1 S
        have H := shp_st H T
        j_aldn (pc := 73) D rfl rfl rfl fun D =>
        j_ic (pc := 74) D rfl fun D =>
        j_pf (pc := 75) (a := 602) D rfl rfl rfl (s0_602 H) rfl rfl (gy (by decide)) (gy rfl) fun h8 eh8 S D =>
        have T := fj_hs_ok H.1 S
        have H := shp_st H T
        j_aldn (pc := 78) D rfl rfl rfl fun D =>
        j_ildn (pc := 79) D rfl rfl rfl fun D =>
        j_ic (pc := 80) D rfl fun D =>
        j_ieq (pc := 81) D rfl (fun q =>
          have D : fk_D 678 [(88, none, .iconst 0, 1, 0, 0, 0)] := fq_of2 cd_678 ow_678 cl_678 rfl (pc := 88) (by decide +kernel)
          j_ic (pc := 88) D rfl fun D =>
          fk_jump cut_678_89 rfl rfl) (fun q D =>
          j_ic (pc := 84) D rfl fun D =>
          have D : fk_D 678 [(85, none, .goto 4, 3, 89, 0, 0)] := fq_of2 cd_678 ow_678 cl_678 rfl (pc := 85) (by decide +kernel)
          j_goto (pc := 85) D rfl <|
          fk_jump cut_678_89 rfl rfl))) (fun q3 h1 e1 =>
      j_tx (hx_678 _))
theorem e_678_89 (d : Nat) (x1 x2 x3 x4 s0 s1 : Int) {h : fi_H} (H : Shp h) : c_678_89 d x1 x2 x3 x4 s0 s1 h =
  if h 0 s0.toNat 0 = 129 then
  if 302 < s0 then
  if fi_rg 4 s1 = true then
  lt_ (fi_upd h 556 s0.toNat 0 s1) fun h1 =>
  c_678_95 d x1 x2 x3 x4 1 h1
  else none
  else none
  else none := by
  unfold c_678_89
  exact
    have D : fk_D 678 [(89, some [0, 1, 2, 3, 4], .putfield 1224, 3, 556, (-129), 4), (92, none, .iconst 1, 1, 0, 1, 0), (93, none, .istore 5, 2, 0, 0, 0)] := fq_of2 cd_678 ow_678 cl_678 rfl (pc := 89) (by decide +kernel)
    j_pfo (pc := 89) D rfl rfl rfl rfl rfl gn gn gn fun h1 eh1 S kc2 D =>
    have T := fj_hs_ok H.1 S
    have H := shp_st H T
    j_ic (pc := 92) D rfl fun D =>
    j_ist (pc := 93) (L' := [(5, (0, 1)), (0, (4, 602)), (1, (0, x1)), (2, (0, x2)), (3, (0, x3)), (4, (0, x4))]) D rfl nl_678 rfl rfl fun D =>
    fk_jump cut_678_95 rfl rfl
theorem e_678_95 (d : Nat) (x1 x2 x3 x4 x5 : Int) {h : fi_H} (H : Shp h) : c_678_95 d x1 x2 x3 x4 x5 h =
  if x5 < h 459 602 0 then
    ca_ (fj_run d 676 h [(4, 602), (0, x1), (0, x3), (0, x5), (0, x4)]) 0
      (fun v2 h1 =>
      if v2 = 0 then
        c_678_149 d x1 x2 x3 x4 x5 (h1 492 602 0) h1
      else
        if x2 = (-1) then
          c_678_145 d x1 x2 x3 x4 x5 (h1 492 602 0) h1
        else
          ca_ (fj_run d 676 h1 [(4, 602), (0, x2), (0, x3), (0, x5), (0, x4)]) 0
            (fun v5 h4 =>
            if v5 = 0 then
              c_678_149 d x1 x2 x3 x4 x5 (h1 492 602 0) h4
            else
              c_678_145 d x1 x2 x3 x4 x5 (h1 492 602 0) h4)
            (fun q6 h4 => tx_ q6 h4))
      (fun q3 h1 => tx_ q3 h1)
  else
    some (.inl (some (0, h 554 602 0)), h) := by
  unfold c_678_95
  exact
    have D : fk_D 678 [(95, some [0, 1, 2, 3, 4, 5], .iload 5, 2, 0, 0, 0), (97, none, .aload_n 0, 1, 0, 0, 0), (98, none, .getfield 169, 3, 459, 129, 10), (101, none, .if_icmp .ge 125, 3, 226, 0, 0), (104, none, .aload_n 0, 1, 0, 0, 0), (105, none, .iload_n 1, 1, 0, 0, 0), (106, none, .iload_n 3, 1, 0, 0, 0), (107, none, .iload 5, 2, 0, 0, 0), (109, none, .iload 4, 2, 0, 0, 0), (111, none, .invokevirtual 1215, 3, 4, 464, 1), (114, none, .istore 6, 2, 0, 0, 0), (116, none, .aload_n 0, 1, 0, 0, 0), (117, none, .getfield 869, 3, 492, 129, 11), (120, none, .lstore 7, 2, 0, 0, 0), (122, none, .iload 6, 2, 0, 0, 0), (124, none, .ifCond .eq 25, 3, 149, 0, 0), (127, none, .iload_n 2, 1, 0, 0, 0), (128, none, .iconst (-1), 1, 0, (-1), 0), (129, none, .if_icmp .eq 16, 3, 145, 0, 0), (132, none, .aload_n 0, 1, 0, 0, 0)] := fq_of2 cd_678 ow_678 cl_678 rfl (pc := 95) (by decide +kernel)
    j_ild (pc := 95) D rfl rfl rfl fun D =>
    j_aldn (pc := 97) D rfl rfl rfl fun D =>
    j_gf (pc := 98) (a := 602) D rfl rfl (by decide) rfl (s0_602 H) rfl fun D =>
    j_ige (pc := 101) D rfl (fun q D =>
      j_aldn (pc := 104) D rfl rfl rfl fun D =>
      j_ildn (pc := 105) D rfl rfl rfl fun D =>
      j_ildn (pc := 106) D rfl rfl rfl fun D =>
      j_ild (pc := 107) D rfl rfl rfl fun D =>
      j_ild (pc := 109) D rfl rfl rfl fun D =>
      j_iv (pc := 111) (m := 676) (dd := 464) (a := [(0, x1), (0, x3), (0, x5), (0, x4)]) (rest := []) D rfl rfl rfl rfl rfl (by decide) (s0_602 H) (by decide +kernel) (fun v2 h1 e1 D =>
        have T := fj_run_ok _ _ _ _ _ _ H.1 e1
        have H := shp_st H T
        j_ist (pc := 114) (L' := [(6, (0, v2)), (0, (4, 602)), (1, (0, x1)), (2, (0, x2)), (3, (0, x3)), (4, (0, x4)), (5, (0, x5))]) D rfl nl_678 rfl rfl fun D =>
        j_aldn (pc := 116) D rfl rfl rfl fun D =>
        j_gf (pc := 117) (a := 602) D rfl rfl (by decide) rfl (s0_602 H) rfl fun D =>
        j_lst (pc := 120) (L' := [(7, (1, h1 492 602 0)), (6, (0, v2)), (0, (4, 602)), (1, (0, x1)), (2, (0, x2)), (3, (0, x3)), (4, (0, x4)), (5, (0, x5))]) D rfl nl_678 rfl rfl fun D =>
        j_ild (pc := 122) D rfl rfl rfl fun D =>
        j_ifeq (pc := 124) D rfl (fun q =>
          fk_jump cut_678_149 rfl rfl) (fun q D =>
          j_ildn (pc := 127) D rfl rfl rfl fun D =>
          j_ic (pc := 128) D rfl fun D =>
          j_ieq (pc := 129) D rfl (fun q =>
            fk_jump cut_678_145 rfl rfl) (fun q D =>
            j_aldn (pc := 132) D rfl rfl rfl fun D =>
            have D : fk_D 678 [(133, none, .iload_n 2, 1, 0, 0, 0), (134, none, .iload_n 3, 1, 0, 0, 0), (135, none, .iload 5, 2, 0, 0, 0), (137, none, .iload 4, 2, 0, 0, 0), (139, none, .invokevirtual 1215, 3, 4, 464, 1), (142, none, .ifCond .eq 7, 3, 149, 0, 0)] := fq_of2 cd_678 ow_678 cl_678 rfl (pc := 133) (by decide +kernel)
            j_ildn (pc := 133) D rfl rfl rfl fun D =>
            j_ildn (pc := 134) D rfl rfl rfl fun D =>
            j_ild (pc := 135) D rfl rfl rfl fun D =>
            j_ild (pc := 137) D rfl rfl rfl fun D =>
            j_iv (pc := 139) (m := 676) (dd := 464) (a := [(0, x2), (0, x3), (0, x5), (0, x4)]) (rest := []) D rfl rfl rfl rfl rfl (by decide) (s0_602 H) (by decide +kernel) (fun v5 h4 e1 D =>
              have T := fj_run_ok _ _ _ _ _ _ H.1 e1
              have H := shp_st H T
              j_ifeq (pc := 142) D rfl (fun q =>
                fk_jump cut_678_149 rfl rfl) (fun q D =>
                fk_jump cut_678_145 rfl rfl)) (fun q6 h4 e1 =>
              j_tx (hx_678 _))))) (fun q3 h1 e1 =>
        j_tx (hx_678 _))) (fun q =>
      have D : fk_D 678 [(226, none, .aload_n 0, 1, 0, 0, 0), (227, none, .getfield 1218, 3, 554, 129, 10), (230, none, .ireturn, 1, 0, 0, 0)] := fq_of2 cd_678 ow_678 cl_678 rfl (pc := 226) (by decide +kernel)
      j_aldn (pc := 226) D rfl rfl rfl fun D =>
      j_gf (pc := 227) (a := 602) D rfl rfl (by decide) rfl (s0_602 H) rfl fun D =>
      j_iret D rt_678)
theorem e_678_145 (d : Nat) (x1 x2 x3 x4 x5 x7 : Int) {h : fi_H} (H : Shp h) : c_678_145 d x1 x2 x3 x4 x5 x7 h =
  c_678_150 d x1 x2 x3 x4 x5 x7 1 h := by
  unfold c_678_145
  exact
    have D : fk_D 678 [(145, some [0, 1, 2, 3, 4, 5, 7], .iconst 1, 1, 0, 1, 0), (146, none, .goto 4, 3, 150, 0, 0)] := fq_of2 cd_678 ow_678 cl_678 rfl (pc := 145) (by decide +kernel)
    j_ic (pc := 145) D rfl fun D =>
    j_goto (pc := 146) D rfl <|
    fk_jump cut_678_150 rfl rfl
theorem e_678_149 (d : Nat) (x1 x2 x3 x4 x5 x7 : Int) {h : fi_H} (H : Shp h) : c_678_149 d x1 x2 x3 x4 x5 x7 h =
  c_678_150 d x1 x2 x3 x4 x5 x7 0 h := by
  unfold c_678_149
  exact
    have D : fk_D 678 [(149, some [0, 1, 2, 3, 4, 5, 7], .iconst 0, 1, 0, 0, 0)] := fq_of2 cd_678 ow_678 cl_678 rfl (pc := 149) (by decide +kernel)
    j_ic (pc := 149) D rfl fun D =>
    fk_jump cut_678_150 rfl rfl
theorem e_678_150 (d : Nat) (x1 x2 x3 x4 x5 x7 s0 : Int) {h : fi_H} (H : Shp h) : c_678_150 d x1 x2 x3 x4 x5 x7 s0 h =
  if s0 = 0 then
    lt_ (fi_upd h 555 602 0 (wI ((h 555 602 0) + 1))) fun h1 =>
    c_678_220 d x1 x2 x3 x4 x5 h1
  else
    if 0 ≤ h 554 602 0 ∧ h 554 602 0 < 30 then
    lt_ (fi_upd h 11 707 (h 554 602 0).toNat x7) fun h2 =>
    if 0 ≤ h2 554 602 0 ∧ h2 554 602 0 < 30 then
    lt_ (fi_upd h2 11 708 (h2 554 602 0).toNat (h2 492 602 0)) fun h4 =>
    if 0 ≤ x5 ∧ x5 < 30 then
    if 0 ≤ h4 554 602 0 ∧ h4 554 602 0 < 30 then
    lt_ (fi_upd h4 6 709 (h4 554 602 0).toNat (h4 6 650 x5.toNat)) fun h7 =>
    lt_ (fi_upd h7 554 602 0 (wI ((h7 554 602 0) + 1))) fun h9 =>
    c_678_220 d x1 x2 x3 x4 x5 h9
    else none
    else none
    else none
    else none := by
  unfold c_678_150
  exact
    have D : fk_D 678 [(150, some [0, 1, 2, 3, 4, 5, 7], .istore 6, 2, 0, 0, 0), (152, none, .iload 6, 2, 0, 0, 0), (154, none, .ifCond .ne 16, 3, 170, 0, 0), (157, none, .aload_n 0, 1, 0, 0, 0), (158, none, .dup, 1, 0, 0, 0), (159, none, .getfield 1221, 3, 555, 129, 10), (162, none, .iconst 1, 1, 0, 1, 0), (163, none, .iadd, 1, 0, 0, 0), (164, none, .putfield 1221, 3, 555, 129, 10), (167, none, .goto 53, 3, 220, 0, 0)] := fq_of2 cd_678 ow_678 cl_678 rfl (pc := 150) (by decide +kernel)
    j_ist (pc := 150) (L' := [(6, (0, s0)), (0, (4, 602)), (1, (0, x1)), (2, (0, x2)), (3, (0, x3)), (4, (0, x4)), (5, (0, x5)), (7, (1, x7))]) D rfl nl_678 rfl rfl fun D =>
    j_ild (pc := 152) D rfl rfl rfl fun D =>
    j_ifne (pc := 154) D rfl (fun q D =>
      j_aldn (pc := 157) D rfl rfl rfl fun D =>
      j_sh (pc := 158) D rfl rfl rfl fun D =>
      j_gf (pc := 159) (a := 602) D rfl rfl (by decide) rfl (s0_602 H) rfl fun D =>
      j_ic (pc := 162) D rfl fun D =>
      j_iadd (pc := 163) D rfl fun D =>
      j_pf (pc := 164) (a := 602) D rfl rfl rfl (s0_602 H) rfl rfl (gy (by decide)) (gy rfl) fun h1 eh1 S D =>
      have T := fj_hs_ok H.1 S
      have H := shp_st H T
      j_goto (pc := 167) D rfl <|
      fk_jump cut_678_220 rfl rfl) (fun q =>
      have D : fk_D 678 [(170, none, .aload_n 0, 1, 0, 0, 0), (171, none, .getfield 377, 3, 551, 129, 12), (174, none, .aload_n 0, 1, 0, 0, 0), (175, none, .getfield 1218, 3, 554, 129, 10), (178, none, .lload 7, 2, 0, 0, 0), (180, none, .lastore, 1, 0, 0, 0), (181, none, .aload_n 0, 1, 0, 0, 0), (182, none, .getfield 380, 3, 552, 129, 12), (185, none, .aload_n 0, 1, 0, 0, 0), (186, none, .getfield 1218, 3, 554, 129, 10), (189, none, .aload_n 0, 1, 0, 0, 0), (190, none, .getfield 869, 3, 492, 129, 11), (193, none, .lastore, 1, 0, 0, 0), (194, none, .aload_n 0, 1, 0, 0, 0), (195, none, .getfield 383, 3, 553, 129, 12), (198, none, .aload_n 0, 1, 0, 0, 0), (199, none, .getfield 1218, 3, 554, 129, 10), (202, none, .aload_n 0, 1, 0, 0, 0), (203, none, .getfield 165, 3, 458, 129, 12), (206, none, .iload 5, 2, 0, 0, 0)] := fq_of2 cd_678 ow_678 cl_678 rfl (pc := 170) (by decide +kernel)
      j_aldn (pc := 170) D rfl rfl rfl fun D =>
      j_gfc (pc := 171) (a := 602) D rfl rfl (by decide) rfl (s0_602 H) rfl (sf_551_602 H) fun D =>
      j_aldn (pc := 174) D rfl rfl rfl fun D =>
      j_gf (pc := 175) (a := 602) D rfl rfl (by decide) rfl (s0_602 H) rfl fun D =>
      j_lld (pc := 178) D rfl rfl rfl fun D =>
      j_as (pc := 180) (a := 707) (e := 11) D rfl ⟨rfl, rfl⟩ rfl (by decide) (s0_707 H) (s1_707 H) ⟨rfl, rfl, rfl⟩ rfl gn (gy rfl) fun h2 eh2 S qb3 D =>
      have T := fj_hs_ok H.1 S
      have H := shp_st H T
      j_aldn (pc := 181) D rfl rfl rfl fun D =>
      j_gfc (pc := 182) (a := 602) D rfl rfl (by decide) rfl (s0_602 H) rfl (sf_552_602 H) fun D =>
      j_aldn (pc := 185) D rfl rfl rfl fun D =>
      j_gf (pc := 186) (a := 602) D rfl rfl (by decide) rfl (s0_602 H) rfl fun D =>
      j_aldn (pc := 189) D rfl rfl rfl fun D =>
      j_gf (pc := 190) (a := 602) D rfl rfl (by decide) rfl (s0_602 H) rfl fun D =>
      j_as (pc := 193) (a := 708) (e := 11) D rfl ⟨rfl, rfl⟩ rfl (by decide) (s0_708 H) (s1_708 H) ⟨rfl, rfl, rfl⟩ rfl gn (gy rfl) fun h4 eh4 S qb5 D =>
      have T := fj_hs_ok H.1 S
      have H := shp_st H T
      j_aldn (pc := 194) D rfl rfl rfl fun D =>
      j_gfc (pc := 195) (a := 602) D rfl rfl (by decide) rfl (s0_602 H) rfl (sf_553_602 H) fun D =>
      j_aldn (pc := 198) D rfl rfl rfl fun D =>
      j_gf (pc := 199) (a := 602) D rfl rfl (by decide) rfl (s0_602 H) rfl fun D =>
      j_aldn (pc := 202) D rfl rfl rfl fun D =>
      j_gfc (pc := 203) (a := 602) D rfl rfl (by decide) rfl (s0_602 H) rfl (sf_458_602 H) fun D =>
      j_ild (pc := 206) D rfl rfl rfl fun D =>
      have D : fk_D 678 [(208, none, .faload, 1, 0, 0, 0), (209, none, .fastore, 1, 0, 0, 0), (210, none, .aload_n 0, 1, 0, 0, 0), (211, none, .dup, 1, 0, 0, 0), (212, none, .getfield 1218, 3, 554, 129, 10), (215, none, .iconst 1, 1, 0, 1, 0), (216, none, .iadd, 1, 0, 0, 0), (217, none, .putfield 1218, 3, 554, 129, 10)] := fq_of2 cd_678 ow_678 cl_678 rfl (pc := 208) (by decide +kernel)
      j_al (pc := 208) (a := 650) (e := 6) D rfl rfl rfl (by decide) (s0_650 H) (s1_650 H) ⟨rfl, rfl, rfl⟩ rfl gn fun qb6 D =>
      j_as (pc := 209) (a := 709) (e := 6) D rfl ⟨rfl, rfl⟩ rfl (by decide) (s0_709 H) (s1_709 H) ⟨rfl, rfl, rfl⟩ rfl gn (gy rfl) fun h7 eh7 S qb8 D =>
      have T := fj_hs_ok H.1 S
      have H := shp_st H T
      j_aldn (pc := 210) D rfl rfl rfl fun D =>
      j_sh (pc := 211) D rfl rfl rfl fun D =>
      j_gf (pc := 212) (a := 602) D rfl rfl (by decide) rfl (s0_602 H) rfl fun D =>
      j_ic (pc := 215) D rfl fun D =>
      j_iadd (pc := 216) D rfl fun D =>
      j_pf (pc := 217) (a := 602) D rfl rfl rfl (s0_602 H) rfl rfl (gy (by decide)) (gy rfl) fun h9 eh9 S D =>
      have T := fj_hs_ok H.1 S
      have H := shp_st H T
      fk_jump cut_678_220 rfl rfl)
theorem e_678_220 (d : Nat) (x1 x2 x3 x4 x5 : Int) {h : fi_H} (H : Shp h) : c_678_220 d x1 x2 x3 x4 x5 h =
  c_678_95 d x1 x2 x3 x4 (wI (x5 + 1)) h := by
  unfold c_678_220
  exact
    have D : fk_D 678 [(220, some [0, 1, 2, 3, 4, 5], .iinc 5 1, 3, 0, 1, 0), (223, none, .goto (-128), 3, 95, 0, 0)] := fq_of2 cd_678 ow_678 cl_678 rfl (pc := 220) (by decide +kernel)
    j_inc (pc := 220) (L' := [(5, (0, wI (x5 + 1))), (0, (4, 602)), (1, (0, x1)), (2, (0, x2)), (3, (0, x3)), (4, (0, x4))]) D rfl rfl rfl (by decide +kernel) rfl fun D =>
    j_goto (pc := 223) D rfl <|
    fk_jump cut_678_95 rfl rfl
theorem m_678 (d : Nat) (x1 x2 x3 x4 : Int) {h : fi_H} (H : Shp h) : fj_run (d + 1) 678 h [(4, 602), (0, x1), (0, x2), (0, x3), (0, x4)] =
  ca_ (fj_run d 641 h [(4, 602), (0, x3)]) 0
    (fun v2 h1 =>
    if v2 = 0 then
      some (.inl (some (0, (-1))), h1)
    else
      if 0 ≤ x3 ∧ x3 < 41 then
      if h1 10 611 x3.toNat = 2 then
        ca_ (fj_run d 525 h1 [(4, 602), (0, x1)]) 0
          (fun v6 h5 =>
          if v6 = 0 then
            some (.inl (some (0, (-2))), h5)
          else
            if x2 = (-1) then
              c_678_41 d x1 x2 x3 x4 h5
            else
              ca_ (fj_run d 525 h5 [(4, 602), (0, x2)]) 0
                (fun v9 h8 =>
                if v9 = 0 then
                  some (.inl (some (0, (-2))), h8)
                else
                  c_678_41 d x1 x2 x3 x4 h8)
                (fun q10 h8 => tx_ q10 h8))
          (fun q7 h5 => tx_ q7 h5)
      else
        some (.inl (some (0, (-1))), h1)
      else none)
    (fun q3 h1 => tx_ q3 h1) := by
  rw [fj_run_eq d (by decide) h [(4, 602), (0, x1), (0, x2), (0, x3), (0, x4)] (Nat.le_of_ble_eq_true (by rw [nl_678]; rfl))]
  show gG (fj_run d) 678 0 [(0, (4, 602)), (1, (0, x1)), (2, (0, x2)), (3, (0, x3)), (4, (0, x4))] [] h = _
  exact
    have D : fk_D 678 [(0, none, .aload_n 0, 1, 0, 0, 0), (1, none, .iload_n 3, 1, 0, 0, 0), (2, none, .invokevirtual 1148, 3, 1, 452, 1), (5, none, .ifCond .eq 13, 3, 18, 0, 0), (8, none, .aload_n 0, 1, 0, 0, 0), (9, none, .getfield 43, 3, 407, 129, 12), (12, none, .iload_n 3, 1, 0, 0, 0), (13, none, .iaload, 1, 0, 0, 0), (14, none, .iconst 2, 1, 0, 2, 0), (15, none, .if_icmp .eq 5, 3, 20, 0, 0), (18, none, .iconst (-1), 1, 0, (-1), 0), (19, none, .ireturn, 1, 0, 0, 0)] := fq_of2 cd_678 ow_678 cl_678 rfl (pc := 0) (by decide +kernel)
    j_aldn (pc := 0) D rfl rfl rfl fun D =>
    j_ildn (pc := 1) D rfl rfl rfl fun D =>
    j_iv (pc := 2) (m := 641) (dd := 452) (a := [(0, x3)]) (rest := []) D rfl rfl rfl rfl rfl (by decide) (s0_602 H) (by decide +kernel) (fun v2 h1 e1 D =>
      have T := fj_run_ok _ _ _ _ _ _ H.1 e1
      have H := shp_st H T
      j_ifeq (pc := 5) D rfl (fun q =>
        have D : fk_D 678 [(18, none, .iconst (-1), 1, 0, (-1), 0), (19, none, .ireturn, 1, 0, 0, 0)] := fq_of2 cd_678 ow_678 cl_678 rfl (pc := 18) (by decide +kernel)
        j_ic (pc := 18) D rfl fun D =>
        j_iret D rt_678) (fun q D =>
        j_aldn (pc := 8) D rfl rfl rfl fun D =>
        j_gfc (pc := 9) (a := 602) D rfl rfl (by decide) rfl (s0_602 H) rfl (sf_407_602 H) fun D =>
        j_ildn (pc := 12) D rfl rfl rfl fun D =>
        j_al (pc := 13) (a := 611) (e := 10) D rfl rfl rfl (by decide) (s0_611 H) (s1_611 H) ⟨rfl, rfl, rfl⟩ rfl gn fun qb4 D =>
        j_ic (pc := 14) D rfl fun D =>
        j_ieq (pc := 15) D rfl (fun q =>
          have D : fk_D 678 [(20, none, .aload_n 0, 1, 0, 0, 0), (21, none, .iload_n 1, 1, 0, 0, 0), (22, none, .invokevirtual 823, 3, 1, 399, 1), (25, none, .ifCond .eq 25, 3, 50, 0, 0), (28, none, .iload_n 2, 1, 0, 0, 0), (29, none, .iconst (-1), 1, 0, (-1), 0), (30, none, .if_icmp .eq 11, 3, 41, 0, 0), (33, none, .aload_n 0, 1, 0, 0, 0), (34, none, .iload_n 2, 1, 0, 0, 0), (35, none, .invokevirtual 823, 3, 1, 399, 1), (38, none, .ifCond .eq 12, 3, 50, 0, 0)] := fq_of2 cd_678 ow_678 cl_678 rfl (pc := 20) (by decide +kernel)
          j_aldn (pc := 20) D rfl rfl rfl fun D =>
          j_ildn (pc := 21) D rfl rfl rfl fun D =>
          j_iv (pc := 22) (m := 525) (dd := 399) (a := [(0, x1)]) (rest := []) D rfl rfl rfl rfl rfl (by decide) (s0_602 H) (by decide +kernel) (fun v6 h5 e1 D =>
            have T := fj_run_ok _ _ _ _ _ _ H.1 e1
            have H := shp_st H T
            j_ifeq (pc := 25) D rfl (fun q =>
              have D : fk_D 678 [(50, none, .bipush (-2), 2, 0, (-2), 0), (52, none, .ireturn, 1, 0, 0, 0)] := fq_of2 cd_678 ow_678 cl_678 rfl (pc := 50) (by decide +kernel)
              j_bp (pc := 50) D rfl fun D =>
              j_iret D rt_678) (fun q D =>
              j_ildn (pc := 28) D rfl rfl rfl fun D =>
              j_ic (pc := 29) D rfl fun D =>
              j_ieq (pc := 30) D rfl (fun q =>
                fk_jump cut_678_41 rfl rfl) (fun q D =>
                j_aldn (pc := 33) D rfl rfl rfl fun D =>
                j_ildn (pc := 34) D rfl rfl rfl fun D =>
                j_iv (pc := 35) (m := 525) (dd := 399) (a := [(0, x2)]) (rest := []) D rfl rfl rfl rfl rfl (by decide) (s0_602 H) (by decide +kernel) (fun v9 h8 e1 D =>
                  have T := fj_run_ok _ _ _ _ _ _ H.1 e1
                  have H := shp_st H T
                  j_ifeq (pc := 38) D rfl (fun q =>
                    have D : fk_D 678 [(50, none, .bipush (-2), 2, 0, (-2), 0), (52, none, .ireturn, 1, 0, 0, 0)] := fq_of2 cd_678 ow_678 cl_678 rfl (pc := 50) (by decide +kernel)
                    j_bp (pc := 50) D rfl fun D =>
                    j_iret D rt_678) (fun q D =>
                    fk_jump cut_678_41 rfl rfl)) (fun q10 h8 e1 =>
                  j_tx (hx_678 _))))) (fun q7 h5 e1 =>
            j_tx (hx_678 _))) (fun q D =>
          j_ic (pc := 18) D rfl fun D =>
          j_iret D rt_678))) (fun q3 h1 e1 =>
      j_tx (hx_678 _))
