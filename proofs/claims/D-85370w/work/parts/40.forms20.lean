/-! forms of methods 542..561, printed by gen/forms.py -/
set_option maxRecDepth 100000
/-! 542 StatuteHouseModel.readShift()I -/
theorem cd_542 : fi_code 542 = prog_69_method_64_code := rfl
theorem hx_542 : ∀ pc, fi_hat 542 pc = none := fun pc => by unfold fi_hat; rw [show fi_hh 542 = [] from rfl]; rfl
theorem rt_542 : fi_ret 542 = some .int := rfl
theorem nl_542 : fi_nl 542 = 4 := rfl
theorem ow_542 : fi_ow 542 = 29 := rfl
theorem cl_542 : fj_cutT.getD 542 [] = [(69, [1, 3])] := rfl
theorem cut_542_69 : fj_cut 542 69 = some [1, 3] := by decide +kernel
noncomputable def c_542_69 (d : Nat) (x1 x3 s0 s1 s2 s3 : Int) (h : fi_H) : fk_R := gG (fj_run d) 542 69 [(1, (0, x1)), (3, (0, x3))] [(0, s3), (0, s2), (0, s1), (4, s0)] h
theorem e_542_69 (d : Nat) (x1 x3 s0 s1 s2 s3 : Int) {h : fi_H} (H : Shp h) : c_542_69 d x1 x3 s0 s1 s2 s3 h =
  dv_ (fi_vt 368 (h 0 s0.toNat 0)) fun m4 => ca_ (fj_run d m4 h [(4, s0), (0, s1), (0, s2), (0, s3), (0, x1), (0, x3), (0, (-1))]) 0
    (fun v2 h1 =>
    some (.inl (some (0, v2)), h1))
    (fun q3 h1 => tx_ q3 h1) := by
  unfold c_542_69
  exact
    have D : fk_D 542 [(69, some [1, 3], .iload_n 1, 1, 0, 0, 0), (70, none, .iload_n 3, 1, 0, 0, 0), (71, none, .iconst (-1), 1, 0, (-1), 0), (72, none, .invokevirtual 683, 3, 6, 368, 1), (75, none, .ireturn, 1, 0, 0, 0)] := fq_of2 cd_542 ow_542 cl_542 rfl (pc := 69) (by decide +kernel)
    j_ildn (pc := 69) D rfl rfl rfl fun D =>
    j_ildn (pc := 70) D rfl rfl rfl fun D =>
    j_ic (pc := 71) D rfl fun D =>
    j_ivu (pc := 72) (dd := 368) (a := [(0, s1), (0, s2), (0, s3), (0, x1), (0, x3), (0, (-1))]) (rest := []) H.2.1 D rfl rfl rfl rfl rfl (fun m4 v2 h1 e1 D =>
      have T := fj_run_ok _ _ _ _ _ _ H.1 e1
      have H := shp_st H T
      j_iret D rt_542) (fun m4 q3 h1 e1 =>
      j_tx (hx_542 _))
theorem m_542 (d : Nat) {h : fi_H} (H : Shp h) : fj_run (d + 1) 542 h [(4, 602)] =
  ca_ (fj_run d 543 h [(4, 602)]) 0
    (fun v2 h1 =>
    ca_ (fj_run d 499 h1 [(4, 602), (0, 29)]) 0
      (fun v5 h4 =>
      if v5 = 0 then
        some (.inl (some (0, v2)), h4)
      else
        cv_ (fj_run d 549 h4 [(4, 602), (0, h4 396 602 0)])
          (fun h7 =>
          cv_ (fj_run d 502 h7 [(4, 602)])
            (fun h10 =>
            ca_ (fj_run d 543 h10 [(4, 602)]) 0
              (fun v14 h13 =>
              lt_ (fi_upd h13 427 602 0 (wI ((h13 427 602 0) - 1))) fun h16 =>
              if 0 ≤ v14 ∧ v14 < 9300 then
              if h16 10 618 v14.toNat = 4 then
                if 0 ≤ v2 ∧ v2 < 9300 then
                c_542_69 d v2 v14 602 17 (h4 396 602 0) (h16 10 618 v2.toNat) h16
                else none
              else
                c_542_69 d v2 v14 602 17 (h4 396 602 0) (-1) h16
              else none)
              (fun q15 h13 => tx_ q15 h13))
            (fun q12 h10 => tx_ q12 h10))
          (fun q9 h7 => tx_ q9 h7))
      (fun q6 h4 => tx_ q6 h4))
    (fun q3 h1 => tx_ q3 h1) := by
  rw [fj_run_eq d (by decide) h [(4, 602)] (Nat.le_of_ble_eq_true (by rw [nl_542]; rfl))]
  show gG (fj_run d) 542 0 [(0, (4, 602))] [] h = _
  exact
    have D : fk_D 542 [(0, none, .aload_n 0, 1, 0, 0, 0), (1, none, .invokevirtual 718, 3, 0, 379, 1), (4, none, .istore_n 1, 1, 0, 0, 0), (5, none, .aload_n 0, 1, 0, 0, 0), (6, none, .bipush 29, 2, 0, 29, 0), (8, none, .invokevirtual 570, 3, 1, 352, 1), (11, none, .ifCond .ne 5, 3, 16, 0, 0), (14, none, .iload_n 1, 1, 0, 0, 0), (15, none, .ireturn, 1, 0, 0, 0)] := fq_of2 cd_542 ow_542 cl_542 rfl (pc := 0) (by decide +kernel)
    j_aldn (pc := 0) D rfl rfl rfl fun D =>
    j_iv (pc := 1) (m := 543) (dd := 379) (a := []) (rest := []) D rfl rfl rfl rfl rfl (by decide) (s0_602 H) (by decide +kernel) (fun v2 h1 e1 D =>
      have T := fj_run_ok _ _ _ _ _ _ H.1 e1
      have H := shp_st H T
      j_istn (pc := 4) (L' := [(1, (0, v2)), (0, (4, 602))]) D rfl nl_542 rfl rfl fun D =>
      j_aldn (pc := 5) D rfl rfl rfl fun D =>
      j_bp (pc := 6) D rfl fun D =>
      j_iv (pc := 8) (m := 499) (dd := 352) (a := [(0, 29)]) (rest := []) D rfl rfl rfl rfl rfl (by decide) (s0_602 H) (by decide +kernel) (fun v5 h4 e1 D =>
        have T := fj_run_ok _ _ _ _ _ _ H.1 e1
        have H := shp_st H T
        j_ifne (pc := 11) D rfl (fun q D =>
          j_ildn (pc := 14) D rfl rfl rfl fun D =>
          j_iret D rt_542) (fun q =>
          have D : fk_D 542 [(16, none, .aload_n 0, 1, 0, 0, 0), (17, none, .getfield 507, 3, 396, 129, 10), (20, none, .istore_n 2, 1, 0, 0, 0), (21, none, .aload_n 0, 1, 0, 0, 0), (22, none, .iload_n 2, 1, 0, 0, 0), (23, none, .invokevirtual 700, 3, 1, 373, 0), (26, none, .aload_n 0, 1, 0, 0, 0), (27, none, .invokevirtual 567, 3, 0, 351, 0), (30, none, .aload_n 0, 1, 0, 0, 0), (31, none, .invokevirtual 718, 3, 0, 379, 1), (34, none, .istore_n 3, 1, 0, 0, 0), (35, none, .aload_n 0, 1, 0, 0, 0), (36, none, .dup, 1, 0, 0, 0), (37, none, .getfield 576, 3, 427, 129, 10), (40, none, .iconst 1, 1, 0, 1, 0), (41, none, .isub, 1, 0, 0, 0), (42, none, .putfield 576, 3, 427, 129, 10), (45, none, .aload_n 0, 1, 0, 0, 0), (46, none, .bipush 17, 2, 0, 17, 0), (48, none, .iload_n 2, 1, 0, 0, 0)] := fq_of2 cd_542 ow_542 cl_542 rfl (pc := 16) (by decide +kernel)
          j_aldn (pc := 16) D rfl rfl rfl fun D =>
          j_gf (pc := 17) (a := 602) D rfl rfl (by decide) rfl (s0_602 H) rfl fun D =>
          j_istn (pc := 20) (L' := [(2, (0, h4 396 602 0)), (1, (0, v2)), (0, (4, 602))]) D rfl nl_542 rfl rfl fun D =>
          j_aldn (pc := 21) D rfl rfl rfl fun D =>
          j_ildn (pc := 22) D rfl rfl rfl fun D =>
          j_ivv (pc := 23) (m := 549) (dd := 373) (a := [(0, h4 396 602 0)]) (rest := []) D rfl rfl rfl rfl rfl (by decide) (s0_602 H) (by decide +kernel) (fun h7 e1 D =>
            have T := fj_run_ok _ _ _ _ _ _ H.1 e1
            have H := shp_st H T
            j_aldn (pc := 26) D rfl rfl rfl fun D =>
            j_ivv (pc := 27) (m := 502) (dd := 351) (a := []) (rest := []) D rfl rfl rfl rfl rfl (by decide) (s0_602 H) (by decide +kernel) (fun h10 e1 D =>
              have T := fj_run_ok _ _ _ _ _ _ H.1 e1
              have H := shp_st H T
              j_aldn (pc := 30) D rfl rfl rfl fun D =>
              j_iv (pc := 31) (m := 543) (dd := 379) (a := []) (rest := []) D rfl rfl rfl rfl rfl (by decide) (s0_602 H) (by decide +kernel) (fun v14 h13 e1 D =>
                have T := fj_run_ok _ _ _ _ _ _ H.1 e1
                have H := shp_st H T
                j_istn (pc := 34) (L' := [(3, (0, v14)), (2, (0, h4 396 602 0)), (1, (0, v2)), (0, (4, 602))]) D rfl nl_542 rfl rfl fun D =>
                j_aldn (pc := 35) D rfl rfl rfl fun D =>
                j_sh (pc := 36) D rfl rfl rfl fun D =>
                j_gf (pc := 37) (a := 602) D rfl rfl (by decide) rfl (s0_602 H) rfl fun D =>
                j_ic (pc := 40) D rfl fun D =>
                j_isub (pc := 41) D rfl fun D =>
                j_pf (pc := 42) (a := 602) D rfl rfl rfl (s0_602 H) rfl rfl (gy (by decide)) (gy rfl) fun h16 eh16 S D =>
                have T := fj_hs_ok H.1 S
                have H := shp_st H T
                j_aldn (pc := 45) D rfl rfl rfl fun D =>
                j_bp (pc := 46) D rfl fun D =>
                j_ildn (pc := 48) D rfl rfl rfl fun D =>
                have D : fk_D 542 [(49, none, .aload_n 0, 1, 0, 0, 0), (50, none, .getfield 65, 3, 419, 129, 12), (53, none, .iload_n 3, 1, 0, 0, 0), (54, none, .iaload, 1, 0, 0, 0), (55, none, .iconst 4, 1, 0, 4, 0), (56, none, .if_icmp .ne 12, 3, 68, 0, 0), (59, none, .aload_n 0, 1, 0, 0, 0), (60, none, .getfield 65, 3, 419, 129, 12), (63, none, .iload_n 1, 1, 0, 0, 0), (64, none, .iaload, 1, 0, 0, 0), (65, none, .goto 4, 3, 69, 0, 0)] := fq_of2 cd_542 ow_542 cl_542 rfl (pc := 49) (by decide +kernel)
                j_aldn (pc := 49) D rfl rfl rfl fun D =>
                j_gfc (pc := 50) (a := 602) D rfl rfl (by decide) rfl (s0_602 H) rfl (sf_419_602 H) fun D =>
                j_ildn (pc := 53) D rfl rfl rfl fun D =>
                j_al (pc := 54) (a := 618) (e := 10) D rfl rfl rfl (by decide) (s0_618 H) (s1_618 H) ⟨rfl, rfl, rfl⟩ rfl gn fun qb17 D =>
                j_ic (pc := 55) D rfl fun D =>
                j_ine (pc := 56) D rfl (fun q D =>
                  j_aldn (pc := 59) D rfl rfl rfl fun D =>
                  j_gfc (pc := 60) (a := 602) D rfl rfl (by decide) rfl (s0_602 H) rfl (sf_419_602 H) fun D =>
                  j_ildn (pc := 63) D rfl rfl rfl fun D =>
                  j_al (pc := 64) (a := 618) (e := 10) D rfl rfl rfl (by decide) (s0_618 H) (s1_618 H) ⟨rfl, rfl, rfl⟩ rfl gn fun qb18 D =>
                  j_goto (pc := 65) D rfl <|
                  fk_jump cut_542_69 rfl rfl) (fun q =>
                  have D : fk_D 542 [(68, none, .iconst (-1), 1, 0, (-1), 0)] := fq_of2 cd_542 ow_542 cl_542 rfl (pc := 68) (by decide +kernel)
                  j_ic (pc := 68) D rfl fun D =>
                  fk_jump cut_542_69 rfl rfl)) (fun q15 h13 e1 =>
                j_tx (hx_542 _))) (fun q12 h10 e1 =>
              j_tx (hx_542 _))) (fun q9 h7 e1 =>
            j_tx (hx_542 _)))) (fun q6 h4 e1 =>
        j_tx (hx_542 _))) (fun q3 h1 e1 =>
      j_tx (hx_542 _))
/-! 543 StatuteHouseModel.readPost()I -/
theorem cd_543 : fi_code 543 = prog_69_method_65_code := rfl
theorem hx_543 : ∀ pc, fi_hat 543 pc = none := fun pc => by unfold fi_hat; rw [show fi_hh 543 = [] from rfl]; rfl
theorem rt_543 : fi_ret 543 = some .int := rfl
theorem nl_543 : fi_nl 543 = 4 := rfl
theorem ow_543 : fi_ow 543 = 29 := rfl
theorem cl_543 : fj_cutT.getD 543 [] = [(70, [1, 3])] := rfl
theorem cut_543_70 : fj_cut 543 70 = some [1, 3] := by decide +kernel
noncomputable def c_543_70 (d : Nat) (x1 x3 s0 s1 s2 s3 : Int) (h : fi_H) : fk_R := gG (fj_run d) 543 70 [(1, (0, x1)), (3, (0, x3))] [(0, s3), (0, s2), (0, s1), (4, s0)] h
theorem e_543_70 (d : Nat) (x1 x3 s0 s1 s2 s3 : Int) {h : fi_H} (H : Shp h) : c_543_70 d x1 x3 s0 s1 s2 s3 h =
  dv_ (fi_vt 368 (h 0 s0.toNat 0)) fun m4 => ca_ (fj_run d m4 h [(4, s0), (0, s1), (0, s2), (0, s3), (0, x1), (0, x3), (0, (-1))]) 0
    (fun v2 h1 =>
    some (.inl (some (0, v2)), h1))
    (fun q3 h1 => tx_ q3 h1) := by
  unfold c_543_70
  exact
    have D : fk_D 543 [(70, some [1, 3], .iload_n 1, 1, 0, 0, 0), (71, none, .iload_n 3, 1, 0, 0, 0), (72, none, .iconst (-1), 1, 0, (-1), 0), (73, none, .invokevirtual 683, 3, 6, 368, 1), (76, none, .ireturn, 1, 0, 0, 0)] := fq_of2 cd_543 ow_543 cl_543 rfl (pc := 70) (by decide +kernel)
    j_ildn (pc := 70) D rfl rfl rfl fun D =>
    j_ildn (pc := 71) D rfl rfl rfl fun D =>
    j_ic (pc := 72) D rfl fun D =>
    j_ivu (pc := 73) (dd := 368) (a := [(0, s1), (0, s2), (0, s3), (0, x1), (0, x3), (0, (-1))]) (rest := []) H.2.1 D rfl rfl rfl rfl rfl (fun m4 v2 h1 e1 D =>
      have T := fj_run_ok _ _ _ _ _ _ H.1 e1
      have H := shp_st H T
      j_iret D rt_543) (fun m4 q3 h1 e1 =>
      j_tx (hx_543 _))
theorem m_543 (d : Nat) {h : fi_H} (H : Shp h) : fj_run (d + 1) 543 h [(4, 602)] =
  ca_ (fj_run d 544 h [(4, 602)]) 0
    (fun v2 h1 =>
    ca_ (fj_run d 499 h1 [(4, 602), (0, 30)]) 0
      (fun v5 h4 =>
      if v5 = 0 then
        some (.inl (some (0, v2)), h4)
      else
        cv_ (fj_run d 549 h4 [(4, 602), (0, h4 396 602 0)])
          (fun h7 =>
          cv_ (fj_run d 502 h7 [(4, 602)])
            (fun h10 =>
            ca_ (fj_run d 543 h10 [(4, 602)]) 0
              (fun v14 h13 =>
              lt_ (fi_upd h13 427 602 0 (wI ((h13 427 602 0) - 1))) fun h16 =>
              if 0 ≤ v14 ∧ v14 < 9300 then
              if h16 10 618 v14.toNat = 7 then
                if 0 ≤ v2 ∧ v2 < 9300 then
                c_543_70 d v2 v14 602 16 (h4 396 602 0) (h16 10 618 v2.toNat) h16
                else none
              else
                c_543_70 d v2 v14 602 16 (h4 396 602 0) (-1) h16
              else none)
              (fun q15 h13 => tx_ q15 h13))
            (fun q12 h10 => tx_ q12 h10))
          (fun q9 h7 => tx_ q9 h7))
      (fun q6 h4 => tx_ q6 h4))
    (fun q3 h1 => tx_ q3 h1) := by
  rw [fj_run_eq d (by decide) h [(4, 602)] (Nat.le_of_ble_eq_true (by rw [nl_543]; rfl))]
  show gG (fj_run d) 543 0 [(0, (4, 602))] [] h = _
  exact
    have D : fk_D 543 [(0, none, .aload_n 0, 1, 0, 0, 0), (1, none, .invokevirtual 721, 3, 0, 380, 1), (4, none, .istore_n 1, 1, 0, 0, 0), (5, none, .aload_n 0, 1, 0, 0, 0), (6, none, .bipush 30, 2, 0, 30, 0), (8, none, .invokevirtual 570, 3, 1, 352, 1), (11, none, .ifCond .ne 5, 3, 16, 0, 0), (14, none, .iload_n 1, 1, 0, 0, 0), (15, none, .ireturn, 1, 0, 0, 0)] := fq_of2 cd_543 ow_543 cl_543 rfl (pc := 0) (by decide +kernel)
    j_aldn (pc := 0) D rfl rfl rfl fun D =>
    j_iv (pc := 1) (m := 544) (dd := 380) (a := []) (rest := []) D rfl rfl rfl rfl rfl (by decide) (s0_602 H) (by decide +kernel) (fun v2 h1 e1 D =>
      have T := fj_run_ok _ _ _ _ _ _ H.1 e1
      have H := shp_st H T
      j_istn (pc := 4) (L' := [(1, (0, v2)), (0, (4, 602))]) D rfl nl_543 rfl rfl fun D =>
      j_aldn (pc := 5) D rfl rfl rfl fun D =>
      j_bp (pc := 6) D rfl fun D =>
      j_iv (pc := 8) (m := 499) (dd := 352) (a := [(0, 30)]) (rest := []) D rfl rfl rfl rfl rfl (by decide) (s0_602 H) (by decide +kernel) (fun v5 h4 e1 D =>
        have T := fj_run_ok _ _ _ _ _ _ H.1 e1
        have H := shp_st H T
        j_ifne (pc := 11) D rfl (fun q D =>
          j_ildn (pc := 14) D rfl rfl rfl fun D =>
          j_iret D rt_543) (fun q =>
          have D : fk_D 543 [(16, none, .aload_n 0, 1, 0, 0, 0), (17, none, .getfield 507, 3, 396, 129, 10), (20, none, .istore_n 2, 1, 0, 0, 0), (21, none, .aload_n 0, 1, 0, 0, 0), (22, none, .iload_n 2, 1, 0, 0, 0), (23, none, .invokevirtual 700, 3, 1, 373, 0), (26, none, .aload_n 0, 1, 0, 0, 0), (27, none, .invokevirtual 567, 3, 0, 351, 0), (30, none, .aload_n 0, 1, 0, 0, 0), (31, none, .invokevirtual 718, 3, 0, 379, 1), (34, none, .istore_n 3, 1, 0, 0, 0), (35, none, .aload_n 0, 1, 0, 0, 0), (36, none, .dup, 1, 0, 0, 0), (37, none, .getfield 576, 3, 427, 129, 10), (40, none, .iconst 1, 1, 0, 1, 0), (41, none, .isub, 1, 0, 0, 0), (42, none, .putfield 576, 3, 427, 129, 10), (45, none, .aload_n 0, 1, 0, 0, 0), (46, none, .bipush 16, 2, 0, 16, 0), (48, none, .iload_n 2, 1, 0, 0, 0)] := fq_of2 cd_543 ow_543 cl_543 rfl (pc := 16) (by decide +kernel)
          j_aldn (pc := 16) D rfl rfl rfl fun D =>
          j_gf (pc := 17) (a := 602) D rfl rfl (by decide) rfl (s0_602 H) rfl fun D =>
          j_istn (pc := 20) (L' := [(2, (0, h4 396 602 0)), (1, (0, v2)), (0, (4, 602))]) D rfl nl_543 rfl rfl fun D =>
          j_aldn (pc := 21) D rfl rfl rfl fun D =>
          j_ildn (pc := 22) D rfl rfl rfl fun D =>
          j_ivv (pc := 23) (m := 549) (dd := 373) (a := [(0, h4 396 602 0)]) (rest := []) D rfl rfl rfl rfl rfl (by decide) (s0_602 H) (by decide +kernel) (fun h7 e1 D =>
            have T := fj_run_ok _ _ _ _ _ _ H.1 e1
            have H := shp_st H T
            j_aldn (pc := 26) D rfl rfl rfl fun D =>
            j_ivv (pc := 27) (m := 502) (dd := 351) (a := []) (rest := []) D rfl rfl rfl rfl rfl (by decide) (s0_602 H) (by decide +kernel) (fun h10 e1 D =>
              have T := fj_run_ok _ _ _ _ _ _ H.1 e1
              have H := shp_st H T
              j_aldn (pc := 30) D rfl rfl rfl fun D =>
              j_iv (pc := 31) (m := 543) (dd := 379) (a := []) (rest := []) D rfl rfl rfl rfl rfl (by decide) (s0_602 H) (by decide +kernel) (fun v14 h13 e1 D =>
                have T := fj_run_ok _ _ _ _ _ _ H.1 e1
                have H := shp_st H T
                j_istn (pc := 34) (L' := [(3, (0, v14)), (2, (0, h4 396 602 0)), (1, (0, v2)), (0, (4, 602))]) D rfl nl_543 rfl rfl fun D =>
                j_aldn (pc := 35) D rfl rfl rfl fun D =>
                j_sh (pc := 36) D rfl rfl rfl fun D =>
                j_gf (pc := 37) (a := 602) D rfl rfl (by decide) rfl (s0_602 H) rfl fun D =>
                j_ic (pc := 40) D rfl fun D =>
                j_isub (pc := 41) D rfl fun D =>
                j_pf (pc := 42) (a := 602) D rfl rfl rfl (s0_602 H) rfl rfl (gy (by decide)) (gy rfl) fun h16 eh16 S D =>
                have T := fj_hs_ok H.1 S
                have H := shp_st H T
                j_aldn (pc := 45) D rfl rfl rfl fun D =>
                j_bp (pc := 46) D rfl fun D =>
                j_ildn (pc := 48) D rfl rfl rfl fun D =>
                have D : fk_D 543 [(49, none, .aload_n 0, 1, 0, 0, 0), (50, none, .getfield 65, 3, 419, 129, 12), (53, none, .iload_n 3, 1, 0, 0, 0), (54, none, .iaload, 1, 0, 0, 0), (55, none, .bipush 7, 2, 0, 7, 0), (57, none, .if_icmp .ne 12, 3, 69, 0, 0), (60, none, .aload_n 0, 1, 0, 0, 0), (61, none, .getfield 65, 3, 419, 129, 12), (64, none, .iload_n 1, 1, 0, 0, 0), (65, none, .iaload, 1, 0, 0, 0), (66, none, .goto 4, 3, 70, 0, 0)] := fq_of2 cd_543 ow_543 cl_543 rfl (pc := 49) (by decide +kernel)
                j_aldn (pc := 49) D rfl rfl rfl fun D =>
                j_gfc (pc := 50) (a := 602) D rfl rfl (by decide) rfl (s0_602 H) rfl (sf_419_602 H) fun D =>
                j_ildn (pc := 53) D rfl rfl rfl fun D =>
                j_al (pc := 54) (a := 618) (e := 10) D rfl rfl rfl (by decide) (s0_618 H) (s1_618 H) ⟨rfl, rfl, rfl⟩ rfl gn fun qb17 D =>
                j_bp (pc := 55) D rfl fun D =>
                j_ine (pc := 57) D rfl (fun q D =>
                  j_aldn (pc := 60) D rfl rfl rfl fun D =>
                  j_gfc (pc := 61) (a := 602) D rfl rfl (by decide) rfl (s0_602 H) rfl (sf_419_602 H) fun D =>
                  j_ildn (pc := 64) D rfl rfl rfl fun D =>
                  j_al (pc := 65) (a := 618) (e := 10) D rfl rfl rfl (by decide) (s0_618 H) (s1_618 H) ⟨rfl, rfl, rfl⟩ rfl gn fun qb18 D =>
                  j_goto (pc := 66) D rfl <|
                  fk_jump cut_543_70 rfl rfl) (fun q =>
                  have D : fk_D 543 [(69, none, .iconst (-1), 1, 0, (-1), 0)] := fq_of2 cd_543 ow_543 cl_543 rfl (pc := 69) (by decide +kernel)
                  j_ic (pc := 69) D rfl fun D =>
                  fk_jump cut_543_70 rfl rfl)) (fun q15 h13 e1 =>
                j_tx (hx_543 _))) (fun q12 h10 e1 =>
              j_tx (hx_543 _))) (fun q9 h7 e1 =>
            j_tx (hx_543 _)))) (fun q6 h4 e1 =>
        j_tx (hx_543 _))) (fun q3 h1 e1 =>
      j_tx (hx_543 _))
/-! 544 StatuteHouseModel.readOne()I -/
theorem cd_544 : fi_code 544 = prog_69_method_69_code := rfl
theorem hx_544 : ∀ pc, fi_hat 544 pc = none := fun pc => by unfold fi_hat; rw [show fi_hh 544 = [] from rfl]; rfl
theorem rt_544 : fi_ret 544 = some .int := rfl
theorem nl_544 : fi_nl 544 = 4 := rfl
theorem ow_544 : fi_ow 544 = 29 := rfl
theorem cl_544 : fj_cutT.getD 544 [] = [(146, [0, 1, 2]), (147, [0, 1, 2]), (214, [0, 1]), (316, []), (354, [1]), (445, [0, 1, 2]), (468, [0, 1, 3])] := rfl
theorem cut_544_146 : fj_cut 544 146 = some [0, 1, 2] := by decide +kernel
noncomputable def c_544_146 (d : Nat) (x1 x2 s0 : Int) (h : fi_H) : fk_R := gG (fj_run d) 544 146 [(0, (4, 602)), (1, (0, x1)), (2, (0, x2))] [(4, s0)] h
theorem cut_544_147 : fj_cut 544 147 = some [0, 1, 2] := by decide +kernel
noncomputable def c_544_147 (d : Nat) (x1 x2 s0 s1 : Int) (h : fi_H) : fk_R := gG (fj_run d) 544 147 [(0, (4, 602)), (1, (0, x1)), (2, (0, x2))] [(0, s1), (4, s0)] h
theorem cut_544_214 : fj_cut 544 214 = some [0, 1] := by decide +kernel
noncomputable def c_544_214 (d : Nat) (x1 s0 s1 : Int) (h : fi_H) : fk_R := gG (fj_run d) 544 214 [(0, (4, 602)), (1, (0, x1))] [(0, s1), (4, s0)] h
theorem cut_544_316 : fj_cut 544 316 = some [] := by decide +kernel
noncomputable def c_544_316 (d : Nat) (s0 s1 s2 s3 s4 : Int) (h : fi_H) : fk_R := gG (fj_run d) 544 316 [] [(1, s4), (0, s3), (0, s2), (0, s1), (4, s0)] h
theorem cut_544_354 : fj_cut 544 354 = some [1] := by decide +kernel
noncomputable def c_544_354 (d : Nat) (x1 s0 s1 : Int) (h : fi_H) : fk_R := gG (fj_run d) 544 354 [(1, (0, x1))] [(0, s1), (4, s0)] h
theorem cut_544_445 : fj_cut 544 445 = some [0, 1, 2] := by decide +kernel
noncomputable def c_544_445 (d : Nat) (x1 x2 : Int) (h : fi_H) : fk_R := gG (fj_run d) 544 445 [(0, (4, 602)), (1, (0, x1)), (2, (0, x2))] [] h
theorem cut_544_468 : fj_cut 544 468 = some [0, 1, 3] := by decide +kernel
noncomputable def c_544_468 (d : Nat) (x1 x3 s0 s1 : Int) (h : fi_H) : fk_R := gG (fj_run d) 544 468 [(0, (4, 602)), (1, (0, x1)), (3, (0, x3))] [(0, s1), (4, s0)] h
theorem e_544_146 (d : Nat) (x1 x2 s0 : Int) {h : fi_H} (H : Shp h) : c_544_146 d x1 x2 s0 h =
  c_544_147 d x1 x2 s0 0 h := by
  unfold c_544_146
  exact
    have D : fk_D 544 [(146, some [0, 1, 2], .iconst 0, 1, 0, 0, 0)] := fq_of2 cd_544 ow_544 cl_544 rfl (pc := 146) (by decide +kernel)
    j_ic (pc := 146) D rfl fun D =>
    fk_jump cut_544_147 rfl rfl
theorem e_544_147 (d : Nat) (x1 x2 s0 s1 : Int) {h : fi_H} (H : Shp h) : c_544_147 d x1 x2 s0 s1 h =
  dv_ (fi_vt 348 (h 0 s0.toNat 0)) fun m4 => cv_ (fj_run d m4 h [(4, s0), (0, s1), (0, 2), (0, h 396 602 0)])
    (fun h1 =>
    cv_ (fj_run d 502 h1 [(4, 602)])
      (fun h5 =>
      if 0 ≤ x2 ∧ x2 < 41 then
      ca_ (fj_run d 545 h5 [(4, 602), (0, 22), (0, x1), (0, h5 10 611 x2.toNat), (1, wI x2), (1, 0)]) 0
        (fun v10 h9 =>
        some (.inl (some (0, v10)), h9))
        (fun q11 h9 => tx_ q11 h9)
      else none)
      (fun q7 h5 => tx_ q7 h5))
    (fun q3 h1 => tx_ q3 h1) := by
  unfold c_544_147
  exact
    have D : fk_D 544 [(147, some [0, 1, 2], .iconst 2, 1, 0, 2, 0), (148, none, .aload_n 0, 1, 0, 0, 0), (149, none, .getfield 507, 3, 396, 129, 10), (152, none, .invokevirtual 557, 3, 3, 348, 0), (155, none, .aload_n 0, 1, 0, 0, 0), (156, none, .invokevirtual 567, 3, 0, 351, 0), (159, none, .aload_n 0, 1, 0, 0, 0), (160, none, .bipush 22, 2, 0, 22, 0), (162, none, .iload_n 1, 1, 0, 0, 0), (163, none, .aload_n 0, 1, 0, 0, 0), (164, none, .getfield 43, 3, 407, 129, 12), (167, none, .iload_n 2, 1, 0, 0, 0), (168, none, .iaload, 1, 0, 0, 0), (169, none, .iload_n 2, 1, 0, 0, 0), (170, none, .i2l, 1, 0, 0, 0), (171, none, .lconst 0, 1, 0, 0, 0), (172, none, .invokevirtual 724, 3, 5, 381, 1), (175, none, .ireturn, 1, 0, 0, 0)] := fq_of2 cd_544 ow_544 cl_544 rfl (pc := 147) (by decide +kernel)
    j_ic (pc := 147) D rfl fun D =>
    j_aldn (pc := 148) D rfl rfl rfl fun D =>
    j_gf (pc := 149) (a := 602) D rfl rfl (by decide) rfl (s0_602 H) rfl fun D =>
    j_ivuv (pc := 152) (dd := 348) (a := [(0, s1), (0, 2), (0, h 396 602 0)]) (rest := []) H.2.1 D rfl rfl rfl rfl rfl (fun m4 h1 e1 D =>
      have T := fj_run_ok _ _ _ _ _ _ H.1 e1
      have H := shp_st H T
      j_aldn (pc := 155) D rfl rfl rfl fun D =>
      j_ivv (pc := 156) (m := 502) (dd := 351) (a := []) (rest := []) D rfl rfl rfl rfl rfl (by decide) (s0_602 H) (by decide +kernel) (fun h5 e1 D =>
        have T := fj_run_ok _ _ _ _ _ _ H.1 e1
        have H := shp_st H T
        j_aldn (pc := 159) D rfl rfl rfl fun D =>
        j_bp (pc := 160) D rfl fun D =>
        j_ildn (pc := 162) D rfl rfl rfl fun D =>
        j_aldn (pc := 163) D rfl rfl rfl fun D =>
        j_gfc (pc := 164) (a := 602) D rfl rfl (by decide) rfl (s0_602 H) rfl (sf_407_602 H) fun D =>
        j_ildn (pc := 167) D rfl rfl rfl fun D =>
        j_al (pc := 168) (a := 611) (e := 10) D rfl rfl rfl (by decide) (s0_611 H) (s1_611 H) ⟨rfl, rfl, rfl⟩ rfl gn fun qb8 D =>
        j_ildn (pc := 169) D rfl rfl rfl fun D =>
        j_i2l (pc := 170) D rfl fun D =>
        j_c0 (pc := 171) (v := (1, 0)) D rfl rfl (by decide +kernel) fun D =>
        j_iv (pc := 172) (m := 545) (dd := 381) (a := [(0, 22), (0, x1), (0, h5 10 611 x2.toNat), (1, wI x2), (1, 0)]) (rest := []) D rfl rfl rfl rfl rfl (by decide) (s0_602 H) (by decide +kernel) (fun v10 h9 e1 D =>
          have T := fj_run_ok _ _ _ _ _ _ H.1 e1
          have H := shp_st H T
          j_iret D rt_544) (fun q11 h9 e1 =>
          j_tx (hx_544 _))) (fun q7 h5 e1 =>
        j_tx (hx_544 _))) (fun m4 q3 h1 e1 =>
      j_tx (hx_544 _))
theorem e_544_214 (d : Nat) (x1 s0 s1 : Int) {h : fi_H} (H : Shp h) : c_544_214 d x1 s0 s1 h =
  dv_ (fi_vt 348 (h 0 s0.toNat 0)) fun m4 => cv_ (fj_run d m4 h [(4, s0), (0, s1), (0, 1), (0, h 396 602 0)])
    (fun h1 =>
    if h1 395 602 0 = 18 then
      cv_ (fj_run d 502 h1 [(4, 602)])
        (fun h5 =>
        if h1 395 602 0 = 18 then
          c_544_316 d 602 18 x1 0 1 h5
        else
          c_544_316 d 602 18 x1 0 0 h5)
        (fun q7 h5 => tx_ q7 h5)
    else if h1 395 602 0 = 19 then
      cv_ (fj_run d 502 h1 [(4, 602)])
        (fun h8 =>
        if h1 395 602 0 = 18 then
          c_544_316 d 602 18 x1 0 1 h8
        else
          c_544_316 d 602 18 x1 0 0 h8)
        (fun q10 h8 => tx_ q10 h8)
    else if h1 395 602 0 = 31 then
      cv_ (fj_run d 502 h1 [(4, 602)])
        (fun h11 =>
        ca_ (fj_run d 545 h11 [(4, 602), (0, 19), (0, x1), (0, 4), (1, 0), (1, 0)]) 0
          (fun v15 h14 =>
          some (.inl (some (0, v15)), h14))
          (fun q16 h14 => tx_ q16 h14))
        (fun q13 h11 => tx_ q13 h11)
    else if h1 395 602 0 = 32 then
      cv_ (fj_run d 502 h1 [(4, 602)])
        (fun h17 =>
        if h1 395 602 0 = 32 then
          c_544_354 d x1 602 20 h17
        else
          c_544_354 d x1 602 21 h17)
        (fun q19 h17 => tx_ q19 h17)
    else if h1 395 602 0 = 33 then
      cv_ (fj_run d 502 h1 [(4, 602)])
        (fun h20 =>
        if h1 395 602 0 = 32 then
          c_544_354 d x1 602 20 h20
        else
          c_544_354 d x1 602 21 h20)
        (fun q22 h20 => tx_ q22 h20)
    else if h1 395 602 0 = 57 then
      ca_ (fj_run d 553 h1 [(4, 602), (0, x1)]) 0
        (fun v24 h23 =>
        some (.inl (some (0, v24)), h23))
        (fun q25 h23 => tx_ q25 h23)
    else if h1 395 602 0 = 58 then
      cv_ (fj_run d 502 h1 [(4, 602)])
        (fun h26 =>
        cv_ (fj_run d 548 h26 [(4, 602)])
          (fun h29 =>
          ca_ (fj_run d 551 h29 [(4, 602), (0, 0)]) 0
            (fun v33 h32 =>
            cv_ (fj_run d 550 h32 [(4, 602)])
              (fun h35 =>
              ca_ (fj_run d 545 h35 [(4, 602), (0, 23), (0, x1), (0, 0), (1, wI v33), (1, 0)]) 0
                (fun v39 h38 =>
                some (.inl (some (0, v39)), h38))
                (fun q40 h38 => tx_ q40 h38))
              (fun q37 h35 => tx_ q37 h35))
            (fun q34 h32 => tx_ q34 h32))
          (fun q31 h29 => tx_ q31 h29))
        (fun q28 h26 => tx_ q28 h26)
    else 
      ca_ (fj_run d 508 h1 [(1, wI (h1 395 602 0)), (1, 77), (1, 79)]) 0
        (fun v42 h41 =>
        if v42 = 0 then
          ca_ (fj_run d 508 h41 [(1, wI (h1 395 602 0)), (1, 52), (1, 56)]) 0
            (fun v45 h44 =>
            if v45 = 0 then
              if h1 395 602 0 = 3 then
                c_544_445 d x1 (h1 395 602 0) h44
              else
                ca_ (fj_run d 557 h44 [(0, h1 395 602 0)]) 0
                  (fun v48 h47 =>
                  if v48 = (-1) then
                    c_544_468 d x1 v48 602 0 h47
                  else
                    c_544_468 d x1 v48 602 1 h47)
                  (fun q49 h47 => tx_ q49 h47)
            else
              c_544_445 d x1 (h1 395 602 0) h44)
            (fun q46 h44 => tx_ q46 h44)
        else
          ca_ (fj_run d 554 h41 [(4, 602), (0, x1), (0, wI ((wI (25 + (h1 395 602 0))) - 77))]) 0
            (fun v51 h50 =>
            some (.inl (some (0, v51)), h50))
            (fun q52 h50 => tx_ q52 h50))
        (fun q43 h41 => tx_ q43 h41))
    (fun q3 h1 => tx_ q3 h1) := by
  unfold c_544_214
  exact
    have D : fk_D 544 [(214, some [0, 1], .iconst 1, 1, 0, 1, 0), (215, none, .aload_n 0, 1, 0, 0, 0), (216, none, .getfield 507, 3, 396, 129, 10), (219, none, .invokevirtual 557, 3, 3, 348, 0), (222, none, .aload_n 0, 1, 0, 0, 0), (223, none, .getfield 531, 3, 395, 129, 10), (226, none, .istore_n 2, 1, 0, 0, 0), (227, none, .iload_n 2, 1, 0, 0, 0), (228, none, .lookupswitch 171 #[(18, 68), (19, 68), (31, 93), (32, 108), (33, 108), (57, 165), (58, 135)], 68, 0, 0, 0)] := fq_of3 cd_544 ow_544 cl_544 rfl (pc := 214) (by decide +kernel)
    j_ic (pc := 214) D rfl fun D =>
    j_aldn (pc := 215) D rfl rfl rfl fun D =>
    j_gf (pc := 216) (a := 602) D rfl rfl (by decide) rfl (s0_602 H) rfl fun D =>
    j_ivuv (pc := 219) (dd := 348) (a := [(0, s1), (0, 1), (0, h 396 602 0)]) (rest := []) H.2.1 D rfl rfl rfl rfl rfl (fun m4 h1 e1 D =>
      have T := fj_run_ok _ _ _ _ _ _ H.1 e1
      have H := shp_st H T
      j_aldn (pc := 222) D rfl rfl rfl fun D =>
      j_gf (pc := 223) (a := 602) D rfl rfl (by decide) rfl (s0_602 H) rfl fun D =>
      j_istn (pc := 226) (L' := [(2, (0, h1 395 602 0)), (0, (4, 602)), (1, (0, x1))]) D rfl nl_544 rfl rfl fun D =>
      j_ildn (pc := 227) D rfl rfl rfl fun D =>
      have N : fk_ni (h1 395 602 0) [] := trivial
      j_lc (pc := 228) 18 (t := 296) D N rfl (by decide +kernel) (by decide +kernel) (fun q =>
        have D : fk_D 544 [(296, none, .aload_n 0, 1, 0, 0, 0), (297, none, .invokevirtual 567, 3, 0, 351, 0), (300, none, .aload_n 0, 1, 0, 0, 0), (301, none, .bipush 18, 2, 0, 18, 0), (303, none, .iload_n 1, 1, 0, 0, 0), (304, none, .iconst 0, 1, 0, 0, 0), (305, none, .iload_n 2, 1, 0, 0, 0), (306, none, .bipush 18, 2, 0, 18, 0), (308, none, .if_icmp .ne 7, 3, 315, 0, 0), (311, none, .lconst 1, 1, 0, 0, 0), (312, none, .goto 4, 3, 316, 0, 0)] := fq_of2 cd_544 ow_544 cl_544 rfl (pc := 296) (by decide +kernel)
        j_aldn (pc := 296) D rfl rfl rfl fun D =>
        j_ivv (pc := 297) (m := 502) (dd := 351) (a := []) (rest := []) D rfl rfl rfl rfl rfl (by decide) (s0_602 H) (by decide +kernel) (fun h5 e1 D =>
          have T := fj_run_ok _ _ _ _ _ _ H.1 e1
          have H := shp_st H T
          j_aldn (pc := 300) D rfl rfl rfl fun D =>
          j_bp (pc := 301) D rfl fun D =>
          j_ildn (pc := 303) D rfl rfl rfl fun D =>
          j_ic (pc := 304) D rfl fun D =>
          j_ildn (pc := 305) D rfl rfl rfl fun D =>
          j_bp (pc := 306) D rfl fun D =>
          j_ine (pc := 308) D rfl (fun q D =>
            j_c0 (pc := 311) (v := (1, 1)) D rfl rfl (by decide +kernel) fun D =>
            j_goto (pc := 312) D rfl <|
            fk_jump cut_544_316 rfl rfl) (fun q =>
            have D : fk_D 544 [(315, none, .lconst 0, 1, 0, 0, 0)] := fq_of2 cd_544 ow_544 cl_544 rfl (pc := 315) (by decide +kernel)
            j_c0 (pc := 315) (v := (1, 0)) D rfl rfl (by decide +kernel) fun D =>
            fk_jump cut_544_316 rfl rfl)) (fun q7 h5 e1 =>
          j_tx (hx_544 _))) (fun N =>
        j_lc 19 (t := 296) D N rfl (by decide +kernel) (by decide +kernel) (fun q =>
          have D : fk_D 544 [(296, none, .aload_n 0, 1, 0, 0, 0), (297, none, .invokevirtual 567, 3, 0, 351, 0), (300, none, .aload_n 0, 1, 0, 0, 0), (301, none, .bipush 18, 2, 0, 18, 0), (303, none, .iload_n 1, 1, 0, 0, 0), (304, none, .iconst 0, 1, 0, 0, 0), (305, none, .iload_n 2, 1, 0, 0, 0), (306, none, .bipush 18, 2, 0, 18, 0), (308, none, .if_icmp .ne 7, 3, 315, 0, 0), (311, none, .lconst 1, 1, 0, 0, 0), (312, none, .goto 4, 3, 316, 0, 0)] := fq_of2 cd_544 ow_544 cl_544 rfl (pc := 296) (by decide +kernel)
          j_aldn (pc := 296) D rfl rfl rfl fun D =>
          j_ivv (pc := 297) (m := 502) (dd := 351) (a := []) (rest := []) D rfl rfl rfl rfl rfl (by decide) (s0_602 H) (by decide +kernel) (fun h8 e1 D =>
            have T := fj_run_ok _ _ _ _ _ _ H.1 e1
            have H := shp_st H T
            j_aldn (pc := 300) D rfl rfl rfl fun D =>
            j_bp (pc := 301) D rfl fun D =>
            j_ildn (pc := 303) D rfl rfl rfl fun D =>
            j_ic (pc := 304) D rfl fun D =>
            j_ildn (pc := 305) D rfl rfl rfl fun D =>
            j_bp (pc := 306) D rfl fun D =>
            j_ine (pc := 308) D rfl (fun q D =>
              j_c0 (pc := 311) (v := (1, 1)) D rfl rfl (by decide +kernel) fun D =>
              j_goto (pc := 312) D rfl <|
              fk_jump cut_544_316 rfl rfl) (fun q =>
              have D : fk_D 544 [(315, none, .lconst 0, 1, 0, 0, 0)] := fq_of2 cd_544 ow_544 cl_544 rfl (pc := 315) (by decide +kernel)
              j_c0 (pc := 315) (v := (1, 0)) D rfl rfl (by decide +kernel) fun D =>
              fk_jump cut_544_316 rfl rfl)) (fun q10 h8 e1 =>
            j_tx (hx_544 _))) (fun N =>
          j_lc 31 (t := 321) D N rfl (by decide +kernel) (by decide +kernel) (fun q =>
            have D : fk_D 544 [(321, none, .aload_n 0, 1, 0, 0, 0), (322, none, .invokevirtual 567, 3, 0, 351, 0), (325, none, .aload_n 0, 1, 0, 0, 0), (326, none, .bipush 19, 2, 0, 19, 0), (328, none, .iload_n 1, 1, 0, 0, 0), (329, none, .iconst 4, 1, 0, 4, 0), (330, none, .lconst 0, 1, 0, 0, 0), (331, none, .lconst 0, 1, 0, 0, 0), (332, none, .invokevirtual 724, 3, 5, 381, 1), (335, none, .ireturn, 1, 0, 0, 0)] := fq_of2 cd_544 ow_544 cl_544 rfl (pc := 321) (by decide +kernel)
            j_aldn (pc := 321) D rfl rfl rfl fun D =>
            j_ivv (pc := 322) (m := 502) (dd := 351) (a := []) (rest := []) D rfl rfl rfl rfl rfl (by decide) (s0_602 H) (by decide +kernel) (fun h11 e1 D =>
              have T := fj_run_ok _ _ _ _ _ _ H.1 e1
              have H := shp_st H T
              j_aldn (pc := 325) D rfl rfl rfl fun D =>
              j_bp (pc := 326) D rfl fun D =>
              j_ildn (pc := 328) D rfl rfl rfl fun D =>
              j_ic (pc := 329) D rfl fun D =>
              j_c0 (pc := 330) (v := (1, 0)) D rfl rfl (by decide +kernel) fun D =>
              j_c0 (pc := 331) (v := (1, 0)) D rfl rfl (by decide +kernel) fun D =>
              j_iv (pc := 332) (m := 545) (dd := 381) (a := [(0, 19), (0, x1), (0, 4), (1, 0), (1, 0)]) (rest := []) D rfl rfl rfl rfl rfl (by decide) (s0_602 H) (by decide +kernel) (fun v15 h14 e1 D =>
                have T := fj_run_ok _ _ _ _ _ _ H.1 e1
                have H := shp_st H T
                j_iret D rt_544) (fun q16 h14 e1 =>
                j_tx (hx_544 _))) (fun q13 h11 e1 =>
              j_tx (hx_544 _))) (fun N =>
            j_lc 32 (t := 336) D N rfl (by decide +kernel) (by decide +kernel) (fun q =>
              have D : fk_D 544 [(336, none, .aload_n 0, 1, 0, 0, 0), (337, none, .invokevirtual 567, 3, 0, 351, 0), (340, none, .aload_n 0, 1, 0, 0, 0), (341, none, .iload_n 2, 1, 0, 0, 0), (342, none, .bipush 32, 2, 0, 32, 0), (344, none, .if_icmp .ne 8, 3, 352, 0, 0), (347, none, .bipush 20, 2, 0, 20, 0), (349, none, .goto 5, 3, 354, 0, 0)] := fq_of2 cd_544 ow_544 cl_544 rfl (pc := 336) (by decide +kernel)
              j_aldn (pc := 336) D rfl rfl rfl fun D =>
              j_ivv (pc := 337) (m := 502) (dd := 351) (a := []) (rest := []) D rfl rfl rfl rfl rfl (by decide) (s0_602 H) (by decide +kernel) (fun h17 e1 D =>
                have T := fj_run_ok _ _ _ _ _ _ H.1 e1
                have H := shp_st H T
                j_aldn (pc := 340) D rfl rfl rfl fun D =>
                j_ildn (pc := 341) D rfl rfl rfl fun D =>
                j_bp (pc := 342) D rfl fun D =>
                j_ine (pc := 344) D rfl (fun q D =>
                  j_bp (pc := 347) D rfl fun D =>
                  j_goto (pc := 349) D rfl <|
                  fk_jump cut_544_354 rfl rfl) (fun q =>
                  have D : fk_D 544 [(352, none, .bipush 21, 2, 0, 21, 0)] := fq_of2 cd_544 ow_544 cl_544 rfl (pc := 352) (by decide +kernel)
                  j_bp (pc := 352) D rfl fun D =>
                  fk_jump cut_544_354 rfl rfl)) (fun q19 h17 e1 =>
                j_tx (hx_544 _))) (fun N =>
              j_lc 33 (t := 336) D N rfl (by decide +kernel) (by decide +kernel) (fun q =>
                have D : fk_D 544 [(336, none, .aload_n 0, 1, 0, 0, 0), (337, none, .invokevirtual 567, 3, 0, 351, 0), (340, none, .aload_n 0, 1, 0, 0, 0), (341, none, .iload_n 2, 1, 0, 0, 0), (342, none, .bipush 32, 2, 0, 32, 0), (344, none, .if_icmp .ne 8, 3, 352, 0, 0), (347, none, .bipush 20, 2, 0, 20, 0), (349, none, .goto 5, 3, 354, 0, 0)] := fq_of2 cd_544 ow_544 cl_544 rfl (pc := 336) (by decide +kernel)
                j_aldn (pc := 336) D rfl rfl rfl fun D =>
                j_ivv (pc := 337) (m := 502) (dd := 351) (a := []) (rest := []) D rfl rfl rfl rfl rfl (by decide) (s0_602 H) (by decide +kernel) (fun h20 e1 D =>
                  have T := fj_run_ok _ _ _ _ _ _ H.1 e1
                  have H := shp_st H T
                  j_aldn (pc := 340) D rfl rfl rfl fun D =>
                  j_ildn (pc := 341) D rfl rfl rfl fun D =>
                  j_bp (pc := 342) D rfl fun D =>
                  j_ine (pc := 344) D rfl (fun q D =>
                    j_bp (pc := 347) D rfl fun D =>
                    j_goto (pc := 349) D rfl <|
                    fk_jump cut_544_354 rfl rfl) (fun q =>
                    have D : fk_D 544 [(352, none, .bipush 21, 2, 0, 21, 0)] := fq_of2 cd_544 ow_544 cl_544 rfl (pc := 352) (by decide +kernel)
                    j_bp (pc := 352) D rfl fun D =>
                    fk_jump cut_544_354 rfl rfl)) (fun q22 h20 e1 =>
                  j_tx (hx_544 _))) (fun N =>
                j_lc 57 (t := 393) D N rfl (by decide +kernel) (by decide +kernel) (fun q =>
                  have D : fk_D 544 [(393, none, .aload_n 0, 1, 0, 0, 0), (394, none, .iload_n 1, 1, 0, 0, 0), (395, none, .invokevirtual 741, 3, 1, 386, 1), (398, none, .ireturn, 1, 0, 0, 0)] := fq_of2 cd_544 ow_544 cl_544 rfl (pc := 393) (by decide +kernel)
                  j_aldn (pc := 393) D rfl rfl rfl fun D =>
                  j_ildn (pc := 394) D rfl rfl rfl fun D =>
                  j_iv (pc := 395) (m := 553) (dd := 386) (a := [(0, x1)]) (rest := []) D rfl rfl rfl rfl rfl (by decide) (s0_602 H) (by decide +kernel) (fun v24 h23 e1 D =>
                    have T := fj_run_ok _ _ _ _ _ _ H.1 e1
                    have H := shp_st H T
                    j_iret D rt_544) (fun q25 h23 e1 =>
                    j_tx (hx_544 _))) (fun N =>
                  j_lc 58 (t := 363) D N rfl (by decide +kernel) (by decide +kernel) (fun q =>
                    have D : fk_D 544 [(363, none, .aload_n 0, 1, 0, 0, 0), (364, none, .invokevirtual 567, 3, 0, 351, 0), (367, none, .aload_n 0, 1, 0, 0, 0), (368, none, .invokevirtual 728, 3, 0, 382, 0), (371, none, .aload_n 0, 1, 0, 0, 0), (372, none, .iconst 0, 1, 0, 0, 0), (373, none, .invokevirtual 737, 3, 1, 385, 1), (376, none, .istore_n 3, 1, 0, 0, 0), (377, none, .aload_n 0, 1, 0, 0, 0), (378, none, .invokevirtual 734, 3, 0, 384, 0), (381, none, .aload_n 0, 1, 0, 0, 0), (382, none, .bipush 23, 2, 0, 23, 0), (384, none, .iload_n 1, 1, 0, 0, 0), (385, none, .iconst 0, 1, 0, 0, 0), (386, none, .iload_n 3, 1, 0, 0, 0), (387, none, .i2l, 1, 0, 0, 0), (388, none, .lconst 0, 1, 0, 0, 0), (389, none, .invokevirtual 724, 3, 5, 381, 1), (392, none, .ireturn, 1, 0, 0, 0)] := fq_of2 cd_544 ow_544 cl_544 rfl (pc := 363) (by decide +kernel)
                    j_aldn (pc := 363) D rfl rfl rfl fun D =>
                    j_ivv (pc := 364) (m := 502) (dd := 351) (a := []) (rest := []) D rfl rfl rfl rfl rfl (by decide) (s0_602 H) (by decide +kernel) (fun h26 e1 D =>
                      have T := fj_run_ok _ _ _ _ _ _ H.1 e1
                      have H := shp_st H T
                      j_aldn (pc := 367) D rfl rfl rfl fun D =>
                      j_ivv (pc := 368) (m := 548) (dd := 382) (a := []) (rest := []) D rfl rfl rfl rfl rfl (by decide) (s0_602 H) (by decide +kernel) (fun h29 e1 D =>
                        have T := fj_run_ok _ _ _ _ _ _ H.1 e1
                        have H := shp_st H T
                        j_aldn (pc := 371) D rfl rfl rfl fun D =>
                        j_ic (pc := 372) D rfl fun D =>
                        j_iv (pc := 373) (m := 551) (dd := 385) (a := [(0, 0)]) (rest := []) D rfl rfl rfl rfl rfl (by decide) (s0_602 H) (by decide +kernel) (fun v33 h32 e1 D =>
                          have T := fj_run_ok _ _ _ _ _ _ H.1 e1
                          have H := shp_st H T
                          j_istn (pc := 376) (L' := [(3, (0, v33)), (2, (0, h1 395 602 0)), (0, (4, 602)), (1, (0, x1))]) D rfl nl_544 rfl rfl fun D =>
                          j_aldn (pc := 377) D rfl rfl rfl fun D =>
                          j_ivv (pc := 378) (m := 550) (dd := 384) (a := []) (rest := []) D rfl rfl rfl rfl rfl (by decide) (s0_602 H) (by decide +kernel) (fun h35 e1 D =>
                            have T := fj_run_ok _ _ _ _ _ _ H.1 e1
                            have H := shp_st H T
                            j_aldn (pc := 381) D rfl rfl rfl fun D =>
                            j_bp (pc := 382) D rfl fun D =>
                            j_ildn (pc := 384) D rfl rfl rfl fun D =>
                            j_ic (pc := 385) D rfl fun D =>
                            j_ildn (pc := 386) D rfl rfl rfl fun D =>
                            j_i2l (pc := 387) D rfl fun D =>
                            j_c0 (pc := 388) (v := (1, 0)) D rfl rfl (by decide +kernel) fun D =>
                            j_iv (pc := 389) (m := 545) (dd := 381) (a := [(0, 23), (0, x1), (0, 0), (1, wI v33), (1, 0)]) (rest := []) D rfl rfl rfl rfl rfl (by decide) (s0_602 H) (by decide +kernel) (fun v39 h38 e1 D =>
                              have T := fj_run_ok _ _ _ _ _ _ H.1 e1
                              have H := shp_st H T
                              j_iret D rt_544) (fun q40 h38 e1 =>
                              j_tx (hx_544 _))) (fun q37 h35 e1 =>
                            j_tx (hx_544 _))) (fun q34 h32 e1 =>
                          j_tx (hx_544 _))) (fun q31 h29 e1 =>
                        j_tx (hx_544 _))) (fun q28 h26 e1 =>
                      j_tx (hx_544 _))) (fun N =>
                    j_ldf (t := 399) D N rfl (by decide +kernel) (by decide +kernel) (by decide +kernel) <|
                    have D : fk_D 544 [(399, none, .iload_n 2, 1, 0, 0, 0), (400, none, .i2l, 1, 0, 0, 0), (401, none, .ldc2_w 744, 3, 1, 77, 0), (404, none, .ldc2_w 746, 3, 1, 79, 0), (407, none, .invokestatic 434, 3, 3, 508, 1), (410, none, .ifCond .eq 16, 3, 426, 0, 0), (413, none, .aload_n 0, 1, 0, 0, 0), (414, none, .iload_n 1, 1, 0, 0, 0), (415, none, .bipush 25, 2, 0, 25, 0), (417, none, .iload_n 2, 1, 0, 0, 0), (418, none, .iadd, 1, 0, 0, 0), (419, none, .bipush 77, 2, 0, 77, 0), (421, none, .isub, 1, 0, 0, 0), (422, none, .invokevirtual 748, 3, 2, 387, 1), (425, none, .ireturn, 1, 0, 0, 0)] := fq_of2 cd_544 ow_544 cl_544 rfl (pc := 399) (by decide +kernel)
                    j_ildn (pc := 399) D rfl rfl rfl fun D =>
                    j_i2l (pc := 400) D rfl fun D =>
                    j_ldc2 (pc := 401) D rfl fun D =>
                    j_ldc2 (pc := 404) D rfl fun D =>
                    j_is (pc := 407) (m := 508) (a := [(1, wI (h1 395 602 0)), (1, 77), (1, 79)]) (rest := []) D rfl rfl rfl rfl (fun v42 h41 e1 D =>
                      have T := fj_run_ok _ _ _ _ _ _ H.1 e1
                      have H := shp_st H T
                      j_ifeq (pc := 410) D rfl (fun q =>
                        have D : fk_D 544 [(426, none, .iload_n 2, 1, 0, 0, 0), (427, none, .i2l, 1, 0, 0, 0), (428, none, .ldc2_w 751, 3, 1, 52, 0), (431, none, .ldc2_w 753, 3, 1, 56, 0), (434, none, .invokestatic 434, 3, 3, 508, 1), (437, none, .ifCond .ne 8, 3, 445, 0, 0), (440, none, .iload_n 2, 1, 0, 0, 0), (441, none, .iconst 3, 1, 0, 3, 0), (442, none, .if_icmp .ne 10, 3, 452, 0, 0)] := fq_of2 cd_544 ow_544 cl_544 rfl (pc := 426) (by decide +kernel)
                        j_ildn (pc := 426) D rfl rfl rfl fun D =>
                        j_i2l (pc := 427) D rfl fun D =>
                        j_ldc2 (pc := 428) D rfl fun D =>
                        j_ldc2 (pc := 431) D rfl fun D =>
                        j_is (pc := 434) (m := 508) (a := [(1, wI (h1 395 602 0)), (1, 52), (1, 56)]) (rest := []) D rfl rfl rfl rfl (fun v45 h44 e1 D =>
                          have T := fj_run_ok _ _ _ _ _ _ H.1 e1
                          have H := shp_st H T
                          j_ifne (pc := 437) D rfl (fun q D =>
                            j_ildn (pc := 440) D rfl rfl rfl fun D =>
                            j_ic (pc := 441) D rfl fun D =>
                            j_ine (pc := 442) D rfl (fun q D =>
                              fk_jump cut_544_445 rfl rfl) (fun q =>
                              have D : fk_D 544 [(452, none, .iload_n 2, 1, 0, 0, 0), (453, none, .invokestatic 758, 3, 1, 557, 1), (456, none, .istore_n 3, 1, 0, 0, 0), (457, none, .aload_n 0, 1, 0, 0, 0), (458, none, .iload_n 3, 1, 0, 0, 0), (459, none, .iconst (-1), 1, 0, (-1), 0), (460, none, .if_icmp .eq 7, 3, 467, 0, 0), (463, none, .iconst 1, 1, 0, 1, 0), (464, none, .goto 4, 3, 468, 0, 0)] := fq_of2 cd_544 ow_544 cl_544 rfl (pc := 452) (by decide +kernel)
                              j_ildn (pc := 452) D rfl rfl rfl fun D =>
                              j_is (pc := 453) (m := 557) (a := [(0, h1 395 602 0)]) (rest := []) D rfl rfl rfl rfl (fun v48 h47 e1 D =>
                                have T := fj_run_ok _ _ _ _ _ _ H.1 e1
                                have H := shp_st H T
                                j_istn (pc := 456) (L' := [(3, (0, v48)), (2, (0, h1 395 602 0)), (0, (4, 602)), (1, (0, x1))]) D rfl nl_544 rfl rfl fun D =>
                                j_aldn (pc := 457) D rfl rfl rfl fun D =>
                                j_ildn (pc := 458) D rfl rfl rfl fun D =>
                                j_ic (pc := 459) D rfl fun D =>
                                j_ieq (pc := 460) D rfl (fun q =>
                                  have D : fk_D 544 [(467, none, .iconst 0, 1, 0, 0, 0)] := fq_of2 cd_544 ow_544 cl_544 rfl (pc := 467) (by decide +kernel)
                                  j_ic (pc := 467) D rfl fun D =>
                                  fk_jump cut_544_468 rfl rfl) (fun q D =>
                                  j_ic (pc := 463) D rfl fun D =>
                                  j_goto (pc := 464) D rfl <|
                                  fk_jump cut_544_468 rfl rfl)) (fun q49 h47 e1 =>
                                j_tx (hx_544 _)))) (fun q =>
                            fk_jump cut_544_445 rfl rfl)) (fun q46 h44 e1 =>
                          j_tx (hx_544 _))) (fun q D =>
                        j_aldn (pc := 413) D rfl rfl rfl fun D =>
                        j_ildn (pc := 414) D rfl rfl rfl fun D =>
                        j_bp (pc := 415) D rfl fun D =>
                        j_ildn (pc := 417) D rfl rfl rfl fun D =>
                        j_iadd (pc := 418) D rfl fun D =>
                        j_bp (pc := 419) D rfl fun D =>
                        j_isub (pc := 421) D rfl fun D =>
                        j_iv (pc := 422) (m := 554) (dd := 387) (a := [(0, x1), (0, wI ((wI (25 + (h1 395 602 0))) - 77))]) (rest := []) D rfl rfl rfl rfl rfl (by decide) (s0_602 H) (by decide +kernel) (fun v51 h50 e1 D =>
                          have T := fj_run_ok _ _ _ _ _ _ H.1 e1
                          have H := shp_st H T
                          j_iret D rt_544) (fun q52 h50 e1 =>
                          j_tx (hx_544 _)))) (fun q43 h41 e1 =>
                      j_tx (hx_544 _)))))))))) (fun m4 q3 h1 e1 =>
      j_tx (hx_544 _))
theorem e_544_316 (d : Nat) (s0 s1 s2 s3 s4 : Int) {h : fi_H} (H : Shp h) : c_544_316 d s0 s1 s2 s3 s4 h =
  dv_ (fi_vt 381 (h 0 s0.toNat 0)) fun m4 => ca_ (fj_run d m4 h [(4, s0), (0, s1), (0, s2), (0, s3), (1, s4), (1, 0)]) 0
    (fun v2 h1 =>
    some (.inl (some (0, v2)), h1))
    (fun q3 h1 => tx_ q3 h1) := by
  unfold c_544_316
  exact
    have D : fk_D 544 [(316, some [], .lconst 0, 1, 0, 0, 0), (317, none, .invokevirtual 724, 3, 5, 381, 1), (320, none, .ireturn, 1, 0, 0, 0)] := fq_of2 cd_544 ow_544 cl_544 rfl (pc := 316) (by decide +kernel)
    j_c0 (pc := 316) (v := (1, 0)) D rfl rfl (by decide +kernel) fun D =>
    j_ivu (pc := 317) (dd := 381) (a := [(0, s1), (0, s2), (0, s3), (1, s4), (1, 0)]) (rest := []) H.2.1 D rfl rfl rfl rfl rfl (fun m4 v2 h1 e1 D =>
      have T := fj_run_ok _ _ _ _ _ _ H.1 e1
      have H := shp_st H T
      j_iret D rt_544) (fun m4 q3 h1 e1 =>
      j_tx (hx_544 _))
theorem e_544_354 (d : Nat) (x1 s0 s1 : Int) {h : fi_H} (H : Shp h) : c_544_354 d x1 s0 s1 h =
  dv_ (fi_vt 381 (h 0 s0.toNat 0)) fun m4 => ca_ (fj_run d m4 h [(4, s0), (0, s1), (0, x1), (0, 7), (1, 0), (1, 0)]) 0
    (fun v2 h1 =>
    some (.inl (some (0, v2)), h1))
    (fun q3 h1 => tx_ q3 h1) := by
  unfold c_544_354
  exact
    have D : fk_D 544 [(354, some [1], .iload_n 1, 1, 0, 0, 0), (355, none, .bipush 7, 2, 0, 7, 0), (357, none, .lconst 0, 1, 0, 0, 0), (358, none, .lconst 0, 1, 0, 0, 0), (359, none, .invokevirtual 724, 3, 5, 381, 1), (362, none, .ireturn, 1, 0, 0, 0)] := fq_of2 cd_544 ow_544 cl_544 rfl (pc := 354) (by decide +kernel)
    j_ildn (pc := 354) D rfl rfl rfl fun D =>
    j_bp (pc := 355) D rfl fun D =>
    j_c0 (pc := 357) (v := (1, 0)) D rfl rfl (by decide +kernel) fun D =>
    j_c0 (pc := 358) (v := (1, 0)) D rfl rfl (by decide +kernel) fun D =>
    j_ivu (pc := 359) (dd := 381) (a := [(0, s1), (0, x1), (0, 7), (1, 0), (1, 0)]) (rest := []) H.2.1 D rfl rfl rfl rfl rfl (fun m4 v2 h1 e1 D =>
      have T := fj_run_ok _ _ _ _ _ _ H.1 e1
      have H := shp_st H T
      j_iret D rt_544) (fun m4 q3 h1 e1 =>
      j_tx (hx_544 _))
theorem e_544_445 (d : Nat) (x1 x2 : Int) {h : fi_H} (H : Shp h) : c_544_445 d x1 x2 h =
  ca_ (fj_run d 555 h [(4, 602), (0, x1), (0, x2)]) 0
    (fun v2 h1 =>
    some (.inl (some (0, v2)), h1))
    (fun q3 h1 => tx_ q3 h1) := by
  unfold c_544_445
  exact
    have D : fk_D 544 [(445, some [0, 1, 2], .aload_n 0, 1, 0, 0, 0), (446, none, .iload_n 1, 1, 0, 0, 0), (447, none, .iload_n 2, 1, 0, 0, 0), (448, none, .invokevirtual 755, 3, 2, 388, 1), (451, none, .ireturn, 1, 0, 0, 0)] := fq_of2 cd_544 ow_544 cl_544 rfl (pc := 445) (by decide +kernel)
    j_aldn (pc := 445) D rfl rfl rfl fun D =>
    j_ildn (pc := 446) D rfl rfl rfl fun D =>
    j_ildn (pc := 447) D rfl rfl rfl fun D =>
    j_iv (pc := 448) (m := 555) (dd := 388) (a := [(0, x1), (0, x2)]) (rest := []) D rfl rfl rfl rfl rfl (by decide) (s0_602 H) (by decide +kernel) (fun v2 h1 e1 D =>
      have T := fj_run_ok _ _ _ _ _ _ H.1 e1
      have H := shp_st H T
      j_iret D rt_544) (fun q3 h1 e1 =>
      j_tx (hx_544 _))
theorem e_544_468 (d : Nat) (x1 x3 s0 s1 : Int) {h : fi_H} (H : Shp h) : c_544_468 d x1 x3 s0 s1 h =
  dv_ (fi_vt 348 (h 0 s0.toNat 0)) fun m4 => cv_ (fj_run d m4 h [(4, s0), (0, s1), (0, 1), (0, h 396 602 0)])
    (fun h1 =>
    ca_ (fj_run d 558 h1 [(4, 602), (0, x1), (0, x3)]) 0
      (fun v6 h5 =>
      some (.inl (some (0, v6)), h5))
      (fun q7 h5 => tx_ q7 h5))
    (fun q3 h1 => tx_ q3 h1) := by
  unfold c_544_468
  exact
    have D : fk_D 544 [(468, some [0, 1, 3], .iconst 1, 1, 0, 1, 0), (469, none, .aload_n 0, 1, 0, 0, 0), (470, none, .getfield 507, 3, 396, 129, 10), (473, none, .invokevirtual 557, 3, 3, 348, 0), (476, none, .aload_n 0, 1, 0, 0, 0), (477, none, .iload_n 1, 1, 0, 0, 0), (478, none, .iload_n 3, 1, 0, 0, 0), (479, none, .invokevirtual 761, 3, 2, 389, 1), (482, none, .ireturn, 1, 0, 0, 0)] := fq_of2 cd_544 ow_544 cl_544 rfl (pc := 468) (by decide +kernel)
    j_ic (pc := 468) D rfl fun D =>
    j_aldn (pc := 469) D rfl rfl rfl fun D =>
    j_gf (pc := 470) (a := 602) D rfl rfl (by decide) rfl (s0_602 H) rfl fun D =>
    j_ivuv (pc := 473) (dd := 348) (a := [(0, s1), (0, 1), (0, h 396 602 0)]) (rest := []) H.2.1 D rfl rfl rfl rfl rfl (fun m4 h1 e1 D =>
      have T := fj_run_ok _ _ _ _ _ _ H.1 e1
      have H := shp_st H T
      j_aldn (pc := 476) D rfl rfl rfl fun D =>
      j_ildn (pc := 477) D rfl rfl rfl fun D =>
      j_ildn (pc := 478) D rfl rfl rfl fun D =>
      j_iv (pc := 479) (m := 558) (dd := 389) (a := [(0, x1), (0, x3)]) (rest := []) D rfl rfl rfl rfl rfl (by decide) (s0_602 H) (by decide +kernel) (fun v6 h5 e1 D =>
        have T := fj_run_ok _ _ _ _ _ _ H.1 e1
        have H := shp_st H T
        j_iret D rt_544) (fun q7 h5 e1 =>
        j_tx (hx_544 _))) (fun m4 q3 h1 e1 =>
      j_tx (hx_544 _))
theorem m_544 (d : Nat) {h : fi_H} (H : Shp h) : fj_run (d + 1) 544 h [(4, 602)] =
  if h 394 602 0 = 3 then
    cv_ (fj_run d 513 h [(4, 602)])
      (fun h1 =>
      ca_ (fj_run d 545 h1 [(4, 602), (0, 18), (0, h 396 602 0), (0, h1 414 602 0), (1, h1 415 602 0), (1, h1 416 602 0)]) 0
        (fun v5 h4 =>
        if h4 414 602 0 = 3 then
          if 0 ≤ v5 ∧ v5 < 9300 then
          lt_ (fi_upd h4 10 619 v5.toNat (wI ((-2) - (wI (h4 417 602 0))))) fun h7 =>
          some (.inl (some (0, v5)), h7)
          else none
        else
          some (.inl (some (0, v5)), h4))
        (fun q6 h4 => tx_ q6 h4))
      (fun q3 h1 => tx_ q3 h1)
  else
    if h 394 602 0 = 4 then
      cv_ (fj_run d 502 h [(4, 602)])
        (fun h9 =>
        ca_ (fj_run d 545 h9 [(4, 602), (0, 18), (0, h 396 602 0), (0, 2), (1, h 399 602 0), (1, 0)]) 0
          (fun v13 h12 =>
          some (.inl (some (0, v13)), h12))
          (fun q14 h12 => tx_ q14 h12))
        (fun q11 h9 => tx_ q11 h9)
    else
      if h 394 602 0 = 5 then
        ca_ (fj_run d 515 h [(4, 602)]) 1
          (fun v16 h15 =>
          ca_ (fj_run d 545 h15 [(4, 602), (0, 18), (0, h 396 602 0), (0, 4), (1, v16), (1, 0)]) 0
            (fun v19 h18 =>
            some (.inl (some (0, v19)), h18))
            (fun q20 h18 => tx_ q20 h18))
          (fun q17 h15 => tx_ q17 h15)
      else
        if h 394 602 0 = 1 then
          ca_ (fj_run d 504 h [(4, 602)]) 0
            (fun v22 h21 =>
            if v22 = (-1) then
              c_544_146 d (h 396 602 0) v22 602 h21
            else
              if 0 ≤ v22 ∧ v22 < 41 then
              if h21 10 610 v22.toNat = 2 then
                c_544_146 d (h 396 602 0) v22 602 h21
              else
                c_544_147 d (h 396 602 0) v22 602 1 h21
              else none)
            (fun q23 h21 => tx_ q23 h21)
        else
          ca_ (fj_run d 506 h [(4, 602), (0, 40)]) 0
            (fun v26 h25 =>
            if v26 = 0 then
              if h25 394 602 0 = 2 then
                c_544_214 d (h 396 602 0) 602 1 h25
              else
                c_544_214 d (h 396 602 0) 602 0 h25
            else
              cv_ (fj_run d 548 h25 [(4, 602)])
                (fun h28 =>
                ca_ (fj_run d 535 h28 [(4, 602)]) 0
                  (fun v32 h31 =>
                  cv_ (fj_run d 550 h31 [(4, 602)])
                    (fun h34 =>
                    some (.inl (some (0, v32)), h34))
                    (fun q36 h34 => tx_ q36 h34))
                  (fun q33 h31 => tx_ q33 h31))
                (fun q30 h28 => tx_ q30 h28))
            (fun q27 h25 => tx_ q27 h25) := by
  rw [fj_run_eq d (by decide) h [(4, 602)] (Nat.le_of_ble_eq_true (by rw [nl_544]; rfl))]
  show gG (fj_run d) 544 0 [(0, (4, 602))] [] h = _
  exact
    have D : fk_D 544 [(0, none, .aload_n 0, 1, 0, 0, 0), (1, none, .getfield 507, 3, 396, 129, 10), (4, none, .istore_n 1, 1, 0, 0, 0), (5, none, .aload_n 0, 1, 0, 0, 0), (6, none, .getfield 513, 3, 394, 129, 10), (9, none, .iconst 3, 1, 0, 3, 0), (10, none, .if_icmp .ne 51, 3, 61, 0, 0), (13, none, .aload_n 0, 1, 0, 0, 0), (14, none, .invokevirtual 614, 3, 0, 353, 0), (17, none, .aload_n 0, 1, 0, 0, 0), (18, none, .bipush 18, 2, 0, 18, 0), (20, none, .iload_n 1, 1, 0, 0, 0), (21, none, .aload_n 0, 1, 0, 0, 0), (22, none, .getfield 592, 3, 414, 129, 10), (25, none, .aload_n 0, 1, 0, 0, 0), (26, none, .getfield 595, 3, 415, 129, 11), (29, none, .aload_n 0, 1, 0, 0, 0), (30, none, .getfield 598, 3, 416, 129, 11), (33, none, .invokevirtual 724, 3, 5, 381, 1), (36, none, .istore_n 2, 1, 0, 0, 0)] := fq_of2 cd_544 ow_544 cl_544 rfl (pc := 0) (by decide +kernel)
    j_aldn (pc := 0) D rfl rfl rfl fun D =>
    j_gf (pc := 1) (a := 602) D rfl rfl (by decide) rfl (s0_602 H) rfl fun D =>
    j_istn (pc := 4) (L' := [(1, (0, h 396 602 0)), (0, (4, 602))]) D rfl nl_544 rfl rfl fun D =>
    j_aldn (pc := 5) D rfl rfl rfl fun D =>
    j_gf (pc := 6) (a := 602) D rfl rfl (by decide) rfl (s0_602 H) rfl fun D =>
    j_ic (pc := 9) D rfl fun D =>
    j_ine (pc := 10) D rfl (fun q D =>
      j_aldn (pc := 13) D rfl rfl rfl fun D =>
      j_ivv (pc := 14) (m := 513) (dd := 353) (a := []) (rest := []) D rfl rfl rfl rfl rfl (by decide) (s0_602 H) (by decide +kernel) (fun h1 e1 D =>
        have T := fj_run_ok _ _ _ _ _ _ H.1 e1
        have H := shp_st H T
        j_aldn (pc := 17) D rfl rfl rfl fun D =>
        j_bp (pc := 18) D rfl fun D =>
        j_ildn (pc := 20) D rfl rfl rfl fun D =>
        j_aldn (pc := 21) D rfl rfl rfl fun D =>
        j_gf (pc := 22) (a := 602) D rfl rfl (by decide) rfl (s0_602 H) rfl fun D =>
        j_aldn (pc := 25) D rfl rfl rfl fun D =>
        j_gf (pc := 26) (a := 602) D rfl rfl (by decide) rfl (s0_602 H) rfl fun D =>
        j_aldn (pc := 29) D rfl rfl rfl fun D =>
        j_gf (pc := 30) (a := 602) D rfl rfl (by decide) rfl (s0_602 H) rfl fun D =>
        j_iv (pc := 33) (m := 545) (dd := 381) (a := [(0, 18), (0, h 396 602 0), (0, h1 414 602 0), (1, h1 415 602 0), (1, h1 416 602 0)]) (rest := []) D rfl rfl rfl rfl rfl (by decide) (s0_602 H) (by decide +kernel) (fun v5 h4 e1 D =>
          have T := fj_run_ok _ _ _ _ _ _ H.1 e1
          have H := shp_st H T
          j_istn (pc := 36) (L' := [(2, (0, v5)), (1, (0, h 396 602 0)), (0, (4, 602))]) D rfl nl_544 rfl rfl fun D =>
          have D : fk_D 544 [(37, none, .aload_n 0, 1, 0, 0, 0), (38, none, .getfield 592, 3, 414, 129, 10), (41, none, .iconst 3, 1, 0, 3, 0), (42, none, .if_icmp .ne 17, 3, 59, 0, 0), (45, none, .aload_n 0, 1, 0, 0, 0), (46, none, .getfield 68, 3, 420, 129, 12), (49, none, .iload_n 2, 1, 0, 0, 0), (50, none, .bipush (-2), 2, 0, (-2), 0), (52, none, .aload_n 0, 1, 0, 0, 0), (53, none, .getfield 601, 3, 417, 129, 11), (56, none, .l2i, 1, 0, 0, 0), (57, none, .isub, 1, 0, 0, 0), (58, none, .iastore, 1, 0, 0, 0), (59, none, .iload_n 2, 1, 0, 0, 0), (60, none, .ireturn, 1, 0, 0, 0)] := fq_of2 cd_544 ow_544 cl_544 rfl (pc := 37) (by decide +kernel)
          j_aldn (pc := 37) D rfl rfl rfl fun D =>
          j_gf (pc := 38) (a := 602) D rfl rfl (by decide) rfl (s0_602 H) rfl fun D =>
          j_ic (pc := 41) D rfl fun D =>
          j_ine (pc := 42) D rfl (fun q D =>
            j_aldn (pc := 45) D rfl rfl rfl fun D =>
            j_gfc (pc := 46) (a := 602) D rfl rfl (by decide) rfl (s0_602 H) rfl (sf_420_602 H) fun D =>
            j_ildn (pc := 49) D rfl rfl rfl fun D =>
            j_bp (pc := 50) D rfl fun D =>
            j_aldn (pc := 52) D rfl rfl rfl fun D =>
            j_gf (pc := 53) (a := 602) D rfl rfl (by decide) rfl (s0_602 H) rfl fun D =>
            j_l2i (pc := 56) D rfl fun D =>
            j_isub (pc := 57) D rfl fun D =>
            j_as (pc := 58) (a := 619) (e := 10) D rfl ⟨rfl, rfl⟩ rfl (by decide) (s0_619 H) (s1_619 H) ⟨rfl, rfl, rfl⟩ rfl gn (gy rfl) fun h7 eh7 S qb8 D =>
            have T := fj_hs_ok H.1 S
            have H := shp_st H T
            j_ildn (pc := 59) D rfl rfl rfl fun D =>
            j_iret D rt_544) (fun q =>
            have D : fk_D 544 [(59, none, .iload_n 2, 1, 0, 0, 0), (60, none, .ireturn, 1, 0, 0, 0)] := fq_of2 cd_544 ow_544 cl_544 rfl (pc := 59) (by decide +kernel)
            j_ildn (pc := 59) D rfl rfl rfl fun D =>
            j_iret D rt_544)) (fun q6 h4 e1 =>
          j_tx (hx_544 _))) (fun q3 h1 e1 =>
        j_tx (hx_544 _))) (fun q =>
      have D : fk_D 544 [(61, none, .aload_n 0, 1, 0, 0, 0), (62, none, .getfield 513, 3, 394, 129, 10), (65, none, .iconst 4, 1, 0, 4, 0), (66, none, .if_icmp .ne 23, 3, 89, 0, 0), (69, none, .aload_n 0, 1, 0, 0, 0), (70, none, .getfield 550, 3, 399, 129, 11), (73, none, .lstore_n 2, 1, 0, 0, 0), (74, none, .aload_n 0, 1, 0, 0, 0), (75, none, .invokevirtual 567, 3, 0, 351, 0), (78, none, .aload_n 0, 1, 0, 0, 0), (79, none, .bipush 18, 2, 0, 18, 0), (81, none, .iload_n 1, 1, 0, 0, 0), (82, none, .iconst 2, 1, 0, 2, 0), (83, none, .lload_n 2, 1, 0, 0, 0), (84, none, .lconst 0, 1, 0, 0, 0), (85, none, .invokevirtual 724, 3, 5, 381, 1), (88, none, .ireturn, 1, 0, 0, 0)] := fq_of2 cd_544 ow_544 cl_544 rfl (pc := 61) (by decide +kernel)
      j_aldn (pc := 61) D rfl rfl rfl fun D =>
      j_gf (pc := 62) (a := 602) D rfl rfl (by decide) rfl (s0_602 H) rfl fun D =>
      j_ic (pc := 65) D rfl fun D =>
      j_ine (pc := 66) D rfl (fun q D =>
        j_aldn (pc := 69) D rfl rfl rfl fun D =>
        j_gf (pc := 70) (a := 602) D rfl rfl (by decide) rfl (s0_602 H) rfl fun D =>
        j_lstn (pc := 73) (L' := [(2, (1, h 399 602 0)), (1, (0, h 396 602 0)), (0, (4, 602))]) D rfl nl_544 rfl rfl fun D =>
        j_aldn (pc := 74) D rfl rfl rfl fun D =>
        j_ivv (pc := 75) (m := 502) (dd := 351) (a := []) (rest := []) D rfl rfl rfl rfl rfl (by decide) (s0_602 H) (by decide +kernel) (fun h9 e1 D =>
          have T := fj_run_ok _ _ _ _ _ _ H.1 e1
          have H := shp_st H T
          j_aldn (pc := 78) D rfl rfl rfl fun D =>
          j_bp (pc := 79) D rfl fun D =>
          j_ildn (pc := 81) D rfl rfl rfl fun D =>
          j_ic (pc := 82) D rfl fun D =>
          j_lldn (pc := 83) D rfl rfl rfl fun D =>
          j_c0 (pc := 84) (v := (1, 0)) D rfl rfl (by decide +kernel) fun D =>
          j_iv (pc := 85) (m := 545) (dd := 381) (a := [(0, 18), (0, h 396 602 0), (0, 2), (1, h 399 602 0), (1, 0)]) (rest := []) D rfl rfl rfl rfl rfl (by decide) (s0_602 H) (by decide +kernel) (fun v13 h12 e1 D =>
            have T := fj_run_ok _ _ _ _ _ _ H.1 e1
            have H := shp_st H T
            j_iret D rt_544) (fun q14 h12 e1 =>
            j_tx (hx_544 _))) (fun q11 h9 e1 =>
          j_tx (hx_544 _))) (fun q =>
        have D : fk_D 544 [(89, none, .aload_n 0, 1, 0, 0, 0), (90, none, .getfield 513, 3, 394, 129, 10), (93, none, .iconst 5, 1, 0, 5, 0), (94, none, .if_icmp .ne 19, 3, 113, 0, 0), (97, none, .aload_n 0, 1, 0, 0, 0), (98, none, .invokevirtual 617, 3, 0, 354, 2), (101, none, .lstore_n 2, 1, 0, 0, 0), (102, none, .aload_n 0, 1, 0, 0, 0), (103, none, .bipush 18, 2, 0, 18, 0), (105, none, .iload_n 1, 1, 0, 0, 0), (106, none, .iconst 4, 1, 0, 4, 0), (107, none, .lload_n 2, 1, 0, 0, 0), (108, none, .lconst 0, 1, 0, 0, 0), (109, none, .invokevirtual 724, 3, 5, 381, 1), (112, none, .ireturn, 1, 0, 0, 0)] := fq_of2 cd_544 ow_544 cl_544 rfl (pc := 89) (by decide +kernel)
        j_aldn (pc := 89) D rfl rfl rfl fun D =>
        j_gf (pc := 90) (a := 602) D rfl rfl (by decide) rfl (s0_602 H) rfl fun D =>
        j_ic (pc := 93) D rfl fun D =>
        j_ine (pc := 94) D rfl (fun q D =>
          j_aldn (pc := 97) D rfl rfl rfl fun D =>
          j_iv (pc := 98) (m := 515) (dd := 354) (a := []) (rest := []) D rfl rfl rfl rfl rfl (by decide) (s0_602 H) (by decide +kernel) (fun v16 h15 e1 D =>
            have T := fj_run_ok _ _ _ _ _ _ H.1 e1
            have H := shp_st H T
            j_lstn (pc := 101) (L' := [(2, (1, v16)), (1, (0, h 396 602 0)), (0, (4, 602))]) D rfl nl_544 rfl rfl fun D =>
            j_aldn (pc := 102) D rfl rfl rfl fun D =>
            j_bp (pc := 103) D rfl fun D =>
            j_ildn (pc := 105) D rfl rfl rfl fun D =>
            j_ic (pc := 106) D rfl fun D =>
            j_lldn (pc := 107) D rfl rfl rfl fun D =>
            j_c0 (pc := 108) (v := (1, 0)) D rfl rfl (by decide +kernel) fun D =>
            j_iv (pc := 109) (m := 545) (dd := 381) (a := [(0, 18), (0, h 396 602 0), (0, 4), (1, v16), (1, 0)]) (rest := []) D rfl rfl rfl rfl rfl (by decide) (s0_602 H) (by decide +kernel) (fun v19 h18 e1 D =>
              have T := fj_run_ok _ _ _ _ _ _ H.1 e1
              have H := shp_st H T
              j_iret D rt_544) (fun q20 h18 e1 =>
              j_tx (hx_544 _))) (fun q17 h15 e1 =>
            j_tx (hx_544 _))) (fun q =>
          have D : fk_D 544 [(113, none, .aload_n 0, 1, 0, 0, 0), (114, none, .getfield 513, 3, 394, 129, 10), (117, none, .iconst 1, 1, 0, 1, 0), (118, none, .if_icmp .ne 58, 3, 176, 0, 0), (121, none, .aload_n 0, 1, 0, 0, 0), (122, none, .invokevirtual 621, 3, 0, 355, 1), (125, none, .istore_n 2, 1, 0, 0, 0), (126, none, .aload_n 0, 1, 0, 0, 0), (127, none, .iload_n 2, 1, 0, 0, 0), (128, none, .iconst (-1), 1, 0, (-1), 0), (129, none, .if_icmp .eq 17, 3, 146, 0, 0), (132, none, .aload_n 0, 1, 0, 0, 0), (133, none, .getfield 40, 3, 406, 129, 12), (136, none, .iload_n 2, 1, 0, 0, 0), (137, none, .iaload, 1, 0, 0, 0), (138, none, .iconst 2, 1, 0, 2, 0), (139, none, .if_icmp .eq 7, 3, 146, 0, 0), (142, none, .iconst 1, 1, 0, 1, 0), (143, none, .goto 4, 3, 147, 0, 0)] := fq_of2 cd_544 ow_544 cl_544 rfl (pc := 113) (by decide +kernel)
          j_aldn (pc := 113) D rfl rfl rfl fun D =>
          j_gf (pc := 114) (a := 602) D rfl rfl (by decide) rfl (s0_602 H) rfl fun D =>
          j_ic (pc := 117) D rfl fun D =>
          j_ine (pc := 118) D rfl (fun q D =>
            j_aldn (pc := 121) D rfl rfl rfl fun D =>
            j_iv (pc := 122) (m := 504) (dd := 355) (a := []) (rest := []) D rfl rfl rfl rfl rfl (by decide) (s0_602 H) (by decide +kernel) (fun v22 h21 e1 D =>
              have T := fj_run_ok _ _ _ _ _ _ H.1 e1
              have H := shp_st H T
              j_istn (pc := 125) (L' := [(2, (0, v22)), (1, (0, h 396 602 0)), (0, (4, 602))]) D rfl nl_544 rfl rfl fun D =>
              j_aldn (pc := 126) D rfl rfl rfl fun D =>
              j_ildn (pc := 127) D rfl rfl rfl fun D =>
              j_ic (pc := 128) D rfl fun D =>
              j_ieq (pc := 129) D rfl (fun q =>
                fk_jump cut_544_146 rfl rfl) (fun q D =>
                j_aldn (pc := 132) D rfl rfl rfl fun D =>
                j_gfc (pc := 133) (a := 602) D rfl rfl (by decide) rfl (s0_602 H) rfl (sf_406_602 H) fun D =>
                j_ildn (pc := 136) D rfl rfl rfl fun D =>
                j_al (pc := 137) (a := 610) (e := 10) D rfl rfl rfl (by decide) (s0_610 H) (s1_610 H) ⟨rfl, rfl, rfl⟩ rfl gn fun qb24 D =>
                j_ic (pc := 138) D rfl fun D =>
                j_ieq (pc := 139) D rfl (fun q =>
                  fk_jump cut_544_146 rfl rfl) (fun q D =>
                  j_ic (pc := 142) D rfl fun D =>
                  j_goto (pc := 143) D rfl <|
                  fk_jump cut_544_147 rfl rfl))) (fun q23 h21 e1 =>
              j_tx (hx_544 _))) (fun q =>
            have D : fk_D 544 [(176, none, .aload_n 0, 1, 0, 0, 0), (177, none, .bipush 40, 2, 0, 40, 0), (179, none, .invokevirtual 564, 3, 1, 350, 1), (182, none, .ifCond .eq 18, 3, 200, 0, 0), (185, none, .aload_n 0, 1, 0, 0, 0), (186, none, .invokevirtual 728, 3, 0, 382, 0), (189, none, .aload_n 0, 1, 0, 0, 0), (190, none, .invokevirtual 731, 3, 0, 383, 1), (193, none, .istore_n 2, 1, 0, 0, 0), (194, none, .aload_n 0, 1, 0, 0, 0), (195, none, .invokevirtual 734, 3, 0, 384, 0), (198, none, .iload_n 2, 1, 0, 0, 0), (199, none, .ireturn, 1, 0, 0, 0)] := fq_of2 cd_544 ow_544 cl_544 rfl (pc := 176) (by decide +kernel)
            j_aldn (pc := 176) D rfl rfl rfl fun D =>
            j_bp (pc := 177) D rfl fun D =>
            j_iv (pc := 179) (m := 506) (dd := 350) (a := [(0, 40)]) (rest := []) D rfl rfl rfl rfl rfl (by decide) (s0_602 H) (by decide +kernel) (fun v26 h25 e1 D =>
              have T := fj_run_ok _ _ _ _ _ _ H.1 e1
              have H := shp_st H T
              j_ifeq (pc := 182) D rfl (fun q =>
                have D : fk_D 544 [(200, none, .aload_n 0, 1, 0, 0, 0), (201, none, .aload_n 0, 1, 0, 0, 0), (202, none, .getfield 513, 3, 394, 129, 10), (205, none, .iconst 2, 1, 0, 2, 0), (206, none, .if_icmp .ne 7, 3, 213, 0, 0), (209, none, .iconst 1, 1, 0, 1, 0), (210, none, .goto 4, 3, 214, 0, 0)] := fq_of2 cd_544 ow_544 cl_544 rfl (pc := 200) (by decide +kernel)
                j_aldn (pc := 200) D rfl rfl rfl fun D =>
                j_aldn (pc := 201) D rfl rfl rfl fun D =>
                j_gf (pc := 202) (a := 602) D rfl rfl (by decide) rfl (s0_602 H) rfl fun D =>
                j_ic (pc := 205) D rfl fun D =>
                j_ine (pc := 206) D rfl (fun q D =>
                  j_ic (pc := 209) D rfl fun D =>
                  j_goto (pc := 210) D rfl <|
                  fk_jump cut_544_214 rfl rfl) (fun q =>
                  have D : fk_D 544 [(213, none, .iconst 0, 1, 0, 0, 0)] := fq_of2 cd_544 ow_544 cl_544 rfl (pc := 213) (by decide +kernel)
                  j_ic (pc := 213) D rfl fun D =>
                  fk_jump cut_544_214 rfl rfl)) (fun q D =>
                j_aldn (pc := 185) D rfl rfl rfl fun D =>
                j_ivv (pc := 186) (m := 548) (dd := 382) (a := []) (rest := []) D rfl rfl rfl rfl rfl (by decide) (s0_602 H) (by decide +kernel) (fun h28 e1 D =>
                  have T := fj_run_ok _ _ _ _ _ _ H.1 e1
                  have H := shp_st H T
                  j_aldn (pc := 189) D rfl rfl rfl fun D =>
                  j_iv (pc := 190) (m := 535) (dd := 383) (a := []) (rest := []) D rfl rfl rfl rfl rfl (by decide) (s0_602 H) (by decide +kernel) (fun v32 h31 e1 D =>
                    have T := fj_run_ok _ _ _ _ _ _ H.1 e1
                    have H := shp_st H T
                    j_istn (pc := 193) (L' := [(2, (0, v32)), (1, (0, h 396 602 0)), (0, (4, 602))]) D rfl nl_544 rfl rfl fun D =>
                    j_aldn (pc := 194) D rfl rfl rfl fun D =>
                    j_ivv (pc := 195) (m := 550) (dd := 384) (a := []) (rest := []) D rfl rfl rfl rfl rfl (by decide) (s0_602 H) (by decide +kernel) (fun h34 e1 D =>
                      have T := fj_run_ok _ _ _ _ _ _ H.1 e1
                      have H := shp_st H T
                      j_ildn (pc := 198) D rfl rfl rfl fun D =>
                      j_iret D rt_544) (fun q36 h34 e1 =>
                      j_tx (hx_544 _))) (fun q33 h31 e1 =>
                    j_tx (hx_544 _))) (fun q30 h28 e1 =>
                  j_tx (hx_544 _)))) (fun q27 h25 e1 =>
              j_tx (hx_544 _))))))
/-! 545 StatuteHouseModel.leaf(IIIJJ)I -/
theorem cd_545 : fi_code 545 = prog_69_method_66_code := rfl
theorem hx_545 : ∀ pc, fi_hat 545 pc = none := fun pc => by unfold fi_hat; rw [show fi_hh 545 = [] from rfl]; rfl
theorem rt_545 : fi_ret 545 = some .int := rfl
theorem nl_545 : fi_nl 545 = 9 := rfl
theorem ow_545 : fi_ow 545 = 29 := rfl
theorem cl_545 : fj_cutT.getD 545 [] = [] := rfl
theorem m_545 (d : Nat) (x1 x2 x3 x4 x6 : Int) {h : fi_H} (H : Shp h) : fj_run (d + 1) 545 h [(4, 602), (0, x1), (0, x2), (0, x3), (1, x4), (1, x6)] =
  ca_ (fj_run d 546 h [(4, 602), (0, x1), (0, x2), (0, x3), (0, (-1)), (0, (-1)), (0, (-1))]) 0
    (fun v2 h1 =>
    if 0 ≤ v2 ∧ v2 < 9300 then
    lt_ (fi_upd h1 11 623 v2.toNat x4) fun h4 =>
    lt_ (fi_upd h4 11 624 v2.toNat x6) fun h6 =>
    some (.inl (some (0, v2)), h6)
    else none)
    (fun q3 h1 => tx_ q3 h1) := by
  rw [fj_run_eq d (by decide) h [(4, 602), (0, x1), (0, x2), (0, x3), (1, x4), (1, x6)] (Nat.le_of_ble_eq_true (by rw [nl_545]; rfl))]
  show gG (fj_run d) 545 0 [(0, (4, 602)), (1, (0, x1)), (2, (0, x2)), (3, (0, x3)), (4, (1, x4)), (6, (1, x6))] [] h = _
  exact
    have D : fk_D 545 [(0, none, .aload_n 0, 1, 0, 0, 0), (1, none, .iload_n 1, 1, 0, 0, 0), (2, none, .iload_n 2, 1, 0, 0, 0), (3, none, .iload_n 3, 1, 0, 0, 0), (4, none, .iconst (-1), 1, 0, (-1), 0), (5, none, .iconst (-1), 1, 0, (-1), 0), (6, none, .iconst (-1), 1, 0, (-1), 0), (7, none, .invokevirtual 683, 3, 6, 368, 1), (10, none, .istore 8, 2, 0, 0, 0), (12, none, .aload_n 0, 1, 0, 0, 0), (13, none, .getfield 80, 3, 424, 129, 12), (16, none, .iload 8, 2, 0, 0, 0), (18, none, .lload 4, 2, 0, 0, 0), (20, none, .lastore, 1, 0, 0, 0), (21, none, .aload_n 0, 1, 0, 0, 0), (22, none, .getfield 83, 3, 425, 129, 12), (25, none, .iload 8, 2, 0, 0, 0), (27, none, .lload 6, 2, 0, 0, 0), (29, none, .lastore, 1, 0, 0, 0), (30, none, .iload 8, 2, 0, 0, 0)] := fq_of2 cd_545 ow_545 cl_545 rfl (pc := 0) (by decide +kernel)
    j_aldn (pc := 0) D rfl rfl rfl fun D =>
    j_ildn (pc := 1) D rfl rfl rfl fun D =>
    j_ildn (pc := 2) D rfl rfl rfl fun D =>
    j_ildn (pc := 3) D rfl rfl rfl fun D =>
    j_ic (pc := 4) D rfl fun D =>
    j_ic (pc := 5) D rfl fun D =>
    j_ic (pc := 6) D rfl fun D =>
    j_iv (pc := 7) (m := 546) (dd := 368) (a := [(0, x1), (0, x2), (0, x3), (0, (-1)), (0, (-1)), (0, (-1))]) (rest := []) D rfl rfl rfl rfl rfl (by decide) (s0_602 H) (by decide +kernel) (fun v2 h1 e1 D =>
      have T := fj_run_ok _ _ _ _ _ _ H.1 e1
      have H := shp_st H T
      j_ist (pc := 10) (L' := [(8, (0, v2)), (0, (4, 602)), (1, (0, x1)), (2, (0, x2)), (3, (0, x3)), (4, (1, x4)), (6, (1, x6))]) D rfl nl_545 rfl rfl fun D =>
      j_aldn (pc := 12) D rfl rfl rfl fun D =>
      j_gfc (pc := 13) (a := 602) D rfl rfl (by decide) rfl (s0_602 H) rfl (sf_424_602 H) fun D =>
      j_ild (pc := 16) D rfl rfl rfl fun D =>
      j_lld (pc := 18) D rfl rfl rfl fun D =>
      j_as (pc := 20) (a := 623) (e := 11) D rfl ⟨rfl, rfl⟩ rfl (by decide) (s0_623 H) (s1_623 H) ⟨rfl, rfl, rfl⟩ rfl gn (gy rfl) fun h4 eh4 S qb5 D =>
      have T := fj_hs_ok H.1 S
      have H := shp_st H T
      j_aldn (pc := 21) D rfl rfl rfl fun D =>
      j_gfc (pc := 22) (a := 602) D rfl rfl (by decide) rfl (s0_602 H) rfl (sf_425_602 H) fun D =>
      j_ild (pc := 25) D rfl rfl rfl fun D =>
      j_lld (pc := 27) D rfl rfl rfl fun D =>
      j_as (pc := 29) (a := 624) (e := 11) D rfl ⟨rfl, rfl⟩ rfl (by decide) (s0_624 H) (s1_624 H) ⟨rfl, rfl, rfl⟩ rfl (gy qb5) (gy rfl) fun h6 eh6 S q D =>
      have T := fj_hs_ok H.1 S
      have H := shp_st H T
      j_ild (pc := 30) D rfl rfl rfl fun D =>
      have D : fk_D 545 [(32, none, .ireturn, 1, 0, 0, 0)] := fq_of2 cd_545 ow_545 cl_545 rfl (pc := 32) (by decide +kernel)
      j_iret D rt_545) (fun q3 h1 e1 =>
      j_tx (hx_545 _))
/-! 546 StatuteHouseModel.part(IIIIII)I -/
theorem cd_546 : fi_code 546 = prog_69_method_51_code := rfl
theorem hx_546 : ∀ pc, fi_hat 546 pc = none := fun pc => by unfold fi_hat; rw [show fi_hh 546 = [] from rfl]; rfl
theorem rt_546 : fi_ret 546 = some .int := rfl
theorem nl_546 : fi_nl 546 = 9 := rfl
theorem ow_546 : fi_ow 546 = 29 := rfl
theorem cl_546 : fj_cutT.getD 546 [] = [(11, [0, 1, 2, 3, 4, 5, 6]), (46, [0, 1, 2, 3, 4, 5, 6]), (71, [0, 1, 2, 3, 4, 5, 6]), (96, [0, 1, 2, 3, 4, 5, 6, 7]), (97, [0, 1, 2, 3, 4, 5, 6, 7]), (161, [0, 8])] := rfl
theorem cut_546_11 : fj_cut 546 11 = some [0, 1, 2, 3, 4, 5, 6] := by decide +kernel
noncomputable def c_546_11 (d : Nat) (x1 x2 x3 x4 x5 x6 s0 s1 : Int) (h : fi_H) : fk_R := gG (fj_run d) 546 11 [(0, (4, 602)), (1, (0, x1)), (2, (0, x2)), (3, (0, x3)), (4, (0, x4)), (5, (0, x5)), (6, (0, x6))] [(0, s1), (4, s0)] h
theorem cut_546_46 : fj_cut 546 46 = some [0, 1, 2, 3, 4, 5, 6] := by decide +kernel
noncomputable def c_546_46 (d : Nat) (x1 x2 x3 x4 x5 x6 s0 : Int) (h : fi_H) : fk_R := gG (fj_run d) 546 46 [(0, (4, 602)), (1, (0, x1)), (2, (0, x2)), (3, (0, x3)), (4, (0, x4)), (5, (0, x5)), (6, (0, x6))] [(0, s0)] h
theorem cut_546_71 : fj_cut 546 71 = some [0, 1, 2, 3, 4, 5, 6] := by decide +kernel
noncomputable def c_546_71 (d : Nat) (x1 x2 x3 x4 x5 x6 s0 s1 : Int) (h : fi_H) : fk_R := gG (fj_run d) 546 71 [(0, (4, 602)), (1, (0, x1)), (2, (0, x2)), (3, (0, x3)), (4, (0, x4)), (5, (0, x5)), (6, (0, x6))] [(0, s1), (0, s0)] h
theorem cut_546_96 : fj_cut 546 96 = some [0, 1, 2, 3, 4, 5, 6, 7] := by decide +kernel
noncomputable def c_546_96 (d : Nat) (x1 x2 x3 x4 x5 x6 x7 s0 : Int) (h : fi_H) : fk_R := gG (fj_run d) 546 96 [(0, (4, 602)), (1, (0, x1)), (2, (0, x2)), (3, (0, x3)), (4, (0, x4)), (5, (0, x5)), (6, (0, x6)), (7, (0, x7))] [(4, s0)] h
theorem cut_546_97 : fj_cut 546 97 = some [0, 1, 2, 3, 4, 5, 6, 7] := by decide +kernel
noncomputable def c_546_97 (d : Nat) (x1 x2 x3 x4 x5 x6 x7 s0 s1 : Int) (h : fi_H) : fk_R := gG (fj_run d) 546 97 [(0, (4, 602)), (1, (0, x1)), (2, (0, x2)), (3, (0, x3)), (4, (0, x4)), (5, (0, x5)), (6, (0, x6)), (7, (0, x7))] [(0, s1), (4, s0)] h
theorem cut_546_161 : fj_cut 546 161 = some [0, 8] := by decide +kernel
noncomputable def c_546_161 (d : Nat) (x8 : Int) (h : fi_H) : fk_R := gG (fj_run d) 546 161 [(0, (4, 602)), (8, (0, x8))] [] h
theorem e_546_11 (d : Nat) (x1 x2 x3 x4 x5 x6 s0 s1 : Int) {h : fi_H} (H : Shp h) : c_546_11 d x1 x2 x3 x4 x5 x6 s0 s1 h =
  dv_ (fi_vt 348 (h 0 s0.toNat 0)) fun m4 => cv_ (fj_run d m4 h [(4, s0), (0, s1), (0, 5), (0, x2)])
    (fun h1 =>
    ca_ (fj_run d 547 h1 [(4, 602), (0, x4)]) 0
      (fun v6 h5 =>
      ca_ (fj_run d 547 h5 [(4, 602), (0, x5)]) 0
        (fun v9 h8 =>
        if v9 < v6 then
          ca_ (fj_run d 547 h8 [(4, 602), (0, x4)]) 0
            (fun v12 h11 =>
            c_546_46 d x1 x2 x3 x4 x5 x6 v12 h11)
            (fun q13 h11 => tx_ q13 h11)
        else
          ca_ (fj_run d 547 h8 [(4, 602), (0, x5)]) 0
            (fun v15 h14 =>
            c_546_46 d x1 x2 x3 x4 x5 x6 v15 h14)
            (fun q16 h14 => tx_ q16 h14))
        (fun q10 h8 => tx_ q10 h8))
      (fun q7 h5 => tx_ q7 h5))
    (fun q3 h1 => tx_ q3 h1) := by
  unfold c_546_11
  exact
    have D : fk_D 546 [(11, some [0, 1, 2, 3, 4, 5, 6], .iconst 5, 1, 0, 5, 0), (12, none, .iload_n 2, 1, 0, 0, 0), (13, none, .invokevirtual 557, 3, 3, 348, 0), (16, none, .aload_n 0, 1, 0, 0, 0), (17, none, .iload 4, 2, 0, 0, 0), (19, none, .invokevirtual 667, 3, 1, 367, 1), (22, none, .aload_n 0, 1, 0, 0, 0), (23, none, .iload 5, 2, 0, 0, 0), (25, none, .invokevirtual 667, 3, 1, 367, 1), (28, none, .if_icmp .le 12, 3, 40, 0, 0), (31, none, .aload_n 0, 1, 0, 0, 0), (32, none, .iload 4, 2, 0, 0, 0), (34, none, .invokevirtual 667, 3, 1, 367, 1), (37, none, .goto 9, 3, 46, 0, 0)] := fq_of2 cd_546 ow_546 cl_546 rfl (pc := 11) (by decide +kernel)
    j_ic (pc := 11) D rfl fun D =>
    j_ildn (pc := 12) D rfl rfl rfl fun D =>
    j_ivuv (pc := 13) (dd := 348) (a := [(0, s1), (0, 5), (0, x2)]) (rest := []) H.2.1 D rfl rfl rfl rfl rfl (fun m4 h1 e1 D =>
      have T := fj_run_ok _ _ _ _ _ _ H.1 e1
      have H := shp_st H T
      j_aldn (pc := 16) D rfl rfl rfl fun D =>
      j_ild (pc := 17) D rfl rfl rfl fun D =>
      j_iv (pc := 19) (m := 547) (dd := 367) (a := [(0, x4)]) (rest := []) D rfl rfl rfl rfl rfl (by decide) (s0_602 H) (by decide +kernel) (fun v6 h5 e1 D =>
        have T := fj_run_ok _ _ _ _ _ _ H.1 e1
        have H := shp_st H T
        j_aldn (pc := 22) D rfl rfl rfl fun D =>
        j_ild (pc := 23) D rfl rfl rfl fun D =>
        j_iv (pc := 25) (m := 547) (dd := 367) (a := [(0, x5)]) (rest := [(0, v6)]) D rfl rfl rfl rfl rfl (by decide) (s0_602 H) (by decide +kernel) (fun v9 h8 e1 D =>
          have T := fj_run_ok _ _ _ _ _ _ H.1 e1
          have H := shp_st H T
          j_ile (pc := 28) D rfl (fun q D =>
            j_aldn (pc := 31) D rfl rfl rfl fun D =>
            j_ild (pc := 32) D rfl rfl rfl fun D =>
            j_iv (pc := 34) (m := 547) (dd := 367) (a := [(0, x4)]) (rest := []) D rfl rfl rfl rfl rfl (by decide) (s0_602 H) (by decide +kernel) (fun v12 h11 e1 D =>
              have T := fj_run_ok _ _ _ _ _ _ H.1 e1
              have H := shp_st H T
              j_goto (pc := 37) D rfl <|
              fk_jump cut_546_46 rfl rfl) (fun q13 h11 e1 =>
              j_tx (hx_546 _))) (fun q =>
            have D : fk_D 546 [(40, none, .aload_n 0, 1, 0, 0, 0), (41, none, .iload 5, 2, 0, 0, 0), (43, none, .invokevirtual 667, 3, 1, 367, 1)] := fq_of2 cd_546 ow_546 cl_546 rfl (pc := 40) (by decide +kernel)
            j_aldn (pc := 40) D rfl rfl rfl fun D =>
            j_ild (pc := 41) D rfl rfl rfl fun D =>
            j_iv (pc := 43) (m := 547) (dd := 367) (a := [(0, x5)]) (rest := []) D rfl rfl rfl rfl rfl (by decide) (s0_602 H) (by decide +kernel) (fun v15 h14 e1 D =>
              have T := fj_run_ok _ _ _ _ _ _ H.1 e1
              have H := shp_st H T
              fk_jump cut_546_46 rfl rfl) (fun q16 h14 e1 =>
              j_tx (hx_546 _)))) (fun q10 h8 e1 =>
          j_tx (hx_546 _))) (fun q7 h5 e1 =>
        j_tx (hx_546 _))) (fun m4 q3 h1 e1 =>
      j_tx (hx_546 _))
theorem e_546_46 (d : Nat) (x1 x2 x3 x4 x5 x6 s0 : Int) {h : fi_H} (H : Shp h) : c_546_46 d x1 x2 x3 x4 x5 x6 s0 h =
  ca_ (fj_run d 547 h [(4, 602), (0, x6)]) 0
    (fun v2 h1 =>
    if s0 < v2 then
      ca_ (fj_run d 547 h1 [(4, 602), (0, x6)]) 0
        (fun v5 h4 =>
        c_546_71 d x1 x2 x3 x4 x5 x6 1 v5 h4)
        (fun q6 h4 => tx_ q6 h4)
    else
      c_546_71 d x1 x2 x3 x4 x5 x6 1 s0 h1)
    (fun q3 h1 => tx_ q3 h1) := by
  unfold c_546_46
  exact
    have D : fk_D 546 [(46, some [0, 1, 2, 3, 4, 5, 6], .istore 7, 2, 0, 0, 0), (48, none, .iconst 1, 1, 0, 1, 0), (49, none, .aload_n 0, 1, 0, 0, 0), (50, none, .iload 6, 2, 0, 0, 0), (52, none, .invokevirtual 667, 3, 1, 367, 1), (55, none, .iload 7, 2, 0, 0, 0), (57, none, .if_icmp .le 12, 3, 69, 0, 0), (60, none, .aload_n 0, 1, 0, 0, 0), (61, none, .iload 6, 2, 0, 0, 0), (63, none, .invokevirtual 667, 3, 1, 367, 1), (66, none, .goto 5, 3, 71, 0, 0)] := fq_of2 cd_546 ow_546 cl_546 rfl (pc := 46) (by decide +kernel)
    j_ist (pc := 46) (L' := [(7, (0, s0)), (0, (4, 602)), (1, (0, x1)), (2, (0, x2)), (3, (0, x3)), (4, (0, x4)), (5, (0, x5)), (6, (0, x6))]) D rfl nl_546 rfl rfl fun D =>
    j_ic (pc := 48) D rfl fun D =>
    j_aldn (pc := 49) D rfl rfl rfl fun D =>
    j_ild (pc := 50) D rfl rfl rfl fun D =>
    j_iv (pc := 52) (m := 547) (dd := 367) (a := [(0, x6)]) (rest := [(0, 1)]) D rfl rfl rfl rfl rfl (by decide) (s0_602 H) (by decide +kernel) (fun v2 h1 e1 D =>
      have T := fj_run_ok _ _ _ _ _ _ H.1 e1
      have H := shp_st H T
      j_ild (pc := 55) D rfl rfl rfl fun D =>
      j_ile (pc := 57) D rfl (fun q D =>
        j_aldn (pc := 60) D rfl rfl rfl fun D =>
        j_ild (pc := 61) D rfl rfl rfl fun D =>
        j_iv (pc := 63) (m := 547) (dd := 367) (a := [(0, x6)]) (rest := [(0, 1)]) D rfl rfl rfl rfl rfl (by decide) (s0_602 H) (by decide +kernel) (fun v5 h4 e1 D =>
          have T := fj_run_ok _ _ _ _ _ _ H.1 e1
          have H := shp_st H T
          j_goto (pc := 66) D rfl <|
          fk_jump cut_546_71 rfl rfl) (fun q6 h4 e1 =>
          j_tx (hx_546 _))) (fun q =>
        have D : fk_D 546 [(69, none, .iload 7, 2, 0, 0, 0)] := fq_of2 cd_546 ow_546 cl_546 rfl (pc := 69) (by decide +kernel)
        j_ild (pc := 69) D rfl rfl rfl fun D =>
        fk_jump cut_546_71 rfl rfl)) (fun q3 h1 e1 =>
      j_tx (hx_546 _))
theorem e_546_71 (d : Nat) (x1 x2 x3 x4 x5 x6 s0 s1 : Int) {h : fi_H} (H : Shp h) : c_546_71 d x1 x2 x3 x4 x5 x6 s0 s1 h =
  if 16 < wI (s0 + s1) then
    c_546_96 d x1 x2 x3 x4 x5 x6 (wI (s0 + s1)) 602 h
  else
    if h 426 602 0 < 8000 then
      c_546_97 d x1 x2 x3 x4 x5 x6 (wI (s0 + s1)) 602 1 h
    else
      c_546_96 d x1 x2 x3 x4 x5 x6 (wI (s0 + s1)) 602 h := by
  unfold c_546_71
  exact
    have D : fk_D 546 [(71, some [0, 1, 2, 3, 4, 5, 6], .iadd, 1, 0, 0, 0), (72, none, .istore 7, 2, 0, 0, 0), (74, none, .aload_n 0, 1, 0, 0, 0), (75, none, .iload 7, 2, 0, 0, 0), (77, none, .bipush 16, 2, 0, 16, 0), (79, none, .if_icmp .gt 17, 3, 96, 0, 0), (82, none, .aload_n 0, 1, 0, 0, 0), (83, none, .getfield 670, 3, 426, 129, 10), (86, none, .sipush 8000, 3, 0, 8000, 0), (89, none, .if_icmp .ge 7, 3, 96, 0, 0), (92, none, .iconst 1, 1, 0, 1, 0), (93, none, .goto 4, 3, 97, 0, 0)] := fq_of2 cd_546 ow_546 cl_546 rfl (pc := 71) (by decide +kernel)
    j_iadd (pc := 71) D rfl fun D =>
    j_ist (pc := 72) (L' := [(7, (0, wI (s0 + s1))), (0, (4, 602)), (1, (0, x1)), (2, (0, x2)), (3, (0, x3)), (4, (0, x4)), (5, (0, x5)), (6, (0, x6))]) D rfl nl_546 rfl rfl fun D =>
    j_aldn (pc := 74) D rfl rfl rfl fun D =>
    j_ild (pc := 75) D rfl rfl rfl fun D =>
    j_bp (pc := 77) D rfl fun D =>
    j_igt (pc := 79) D rfl (fun q =>
      fk_jump cut_546_96 rfl rfl) (fun q D =>
      j_aldn (pc := 82) D rfl rfl rfl fun D =>
      j_gf (pc := 83) (a := 602) D rfl rfl (by decide) rfl (s0_602 H) rfl fun D =>
      j_sp (pc := 86) D rfl fun D =>
      j_ige (pc := 89) D rfl (fun q D =>
        j_ic (pc := 92) D rfl fun D =>
        j_goto (pc := 93) D rfl <|
        fk_jump cut_546_97 rfl rfl) (fun q =>
        fk_jump cut_546_96 rfl rfl))
theorem e_546_96 (d : Nat) (x1 x2 x3 x4 x5 x6 x7 s0 : Int) {h : fi_H} (H : Shp h) : c_546_96 d x1 x2 x3 x4 x5 x6 x7 s0 h =
  c_546_97 d x1 x2 x3 x4 x5 x6 x7 s0 0 h := by
  unfold c_546_96
  exact
    have D : fk_D 546 [(96, some [0, 1, 2, 3, 4, 5, 6, 7], .iconst 0, 1, 0, 0, 0)] := fq_of2 cd_546 ow_546 cl_546 rfl (pc := 96) (by decide +kernel)
    j_ic (pc := 96) D rfl fun D =>
    fk_jump cut_546_97 rfl rfl
theorem e_546_97 (d : Nat) (x1 x2 x3 x4 x5 x6 x7 s0 s1 : Int) {h : fi_H} (H : Shp h) : c_546_97 d x1 x2 x3 x4 x5 x6 x7 s0 s1 h =
  dv_ (fi_vt 348 (h 0 s0.toNat 0)) fun m4 => cv_ (fj_run d m4 h [(4, s0), (0, s1), (0, 6), (0, x2)])
    (fun h1 =>
    if 0 ≤ h1 426 602 0 ∧ h1 426 602 0 < 9300 then
    lt_ (fi_upd h1 10 617 (h1 426 602 0).toNat x1) fun h5 =>
    lt_ (fi_upd h5 10 618 (h1 426 602 0).toNat x3) fun h7 =>
    lt_ (fi_upd h7 10 619 (h1 426 602 0).toNat x4) fun h8 =>
    lt_ (fi_upd h8 10 620 (h1 426 602 0).toNat x5) fun h9 =>
    lt_ (fi_upd h9 10 621 (h1 426 602 0).toNat x6) fun h10 =>
    lt_ (fi_upd h10 10 622 (h1 426 602 0).toNat x7) fun h11 =>
    c_546_161 d (h1 426 602 0) h11
    else none)
    (fun q3 h1 => tx_ q3 h1) := by
  unfold c_546_97
  exact
    have D : fk_D 546 [(97, some [0, 1, 2, 3, 4, 5, 6, 7], .bipush 6, 2, 0, 6, 0), (99, none, .iload_n 2, 1, 0, 0, 0), (100, none, .invokevirtual 557, 3, 3, 348, 0), (103, none, .aload_n 0, 1, 0, 0, 0), (104, none, .getfield 670, 3, 426, 129, 10), (107, none, .istore 8, 2, 0, 0, 0), (109, none, .aload_n 0, 1, 0, 0, 0), (110, none, .getfield 62, 3, 418, 129, 12), (113, none, .iload 8, 2, 0, 0, 0), (115, none, .iload_n 1, 1, 0, 0, 0), (116, none, .iastore, 1, 0, 0, 0), (117, none, .aload_n 0, 1, 0, 0, 0), (118, none, .getfield 65, 3, 419, 129, 12), (121, none, .iload 8, 2, 0, 0, 0), (123, none, .iload_n 3, 1, 0, 0, 0), (124, none, .iastore, 1, 0, 0, 0), (125, none, .aload_n 0, 1, 0, 0, 0), (126, none, .getfield 68, 3, 420, 129, 12), (129, none, .iload 8, 2, 0, 0, 0), (131, none, .iload 4, 2, 0, 0, 0)] := fq_of2 cd_546 ow_546 cl_546 rfl (pc := 97) (by decide +kernel)
    j_bp (pc := 97) D rfl fun D =>
    j_ildn (pc := 99) D rfl rfl rfl fun D =>
    j_ivuv (pc := 100) (dd := 348) (a := [(0, s1), (0, 6), (0, x2)]) (rest := []) H.2.1 D rfl rfl rfl rfl rfl (fun m4 h1 e1 D =>
      have T := fj_run_ok _ _ _ _ _ _ H.1 e1
      have H := shp_st H T
      j_aldn (pc := 103) D rfl rfl rfl fun D =>
      j_gf (pc := 104) (a := 602) D rfl rfl (by decide) rfl (s0_602 H) rfl fun D =>
      j_ist (pc := 107) (L' := [(8, (0, h1 426 602 0)), (0, (4, 602)), (1, (0, x1)), (2, (0, x2)), (3, (0, x3)), (4, (0, x4)), (5, (0, x5)), (6, (0, x6)), (7, (0, x7))]) D rfl nl_546 rfl rfl fun D =>
      j_aldn (pc := 109) D rfl rfl rfl fun D =>
      j_gfc (pc := 110) (a := 602) D rfl rfl (by decide) rfl (s0_602 H) rfl (sf_418_602 H) fun D =>
      j_ild (pc := 113) D rfl rfl rfl fun D =>
      j_ildn (pc := 115) D rfl rfl rfl fun D =>
      j_as (pc := 116) (a := 617) (e := 10) D rfl ⟨rfl, rfl⟩ rfl (by decide) (s0_617 H) (s1_617 H) ⟨rfl, rfl, rfl⟩ rfl gn (gy rfl) fun h5 eh5 S qb6 D =>
      have T := fj_hs_ok H.1 S
      have H := shp_st H T
      j_aldn (pc := 117) D rfl rfl rfl fun D =>
      j_gfc (pc := 118) (a := 602) D rfl rfl (by decide) rfl (s0_602 H) rfl (sf_419_602 H) fun D =>
      j_ild (pc := 121) D rfl rfl rfl fun D =>
      j_ildn (pc := 123) D rfl rfl rfl fun D =>
      j_as (pc := 124) (a := 618) (e := 10) D rfl ⟨rfl, rfl⟩ rfl (by decide) (s0_618 H) (s1_618 H) ⟨rfl, rfl, rfl⟩ rfl (gy qb6) (gy rfl) fun h7 eh7 S q D =>
      have T := fj_hs_ok H.1 S
      have H := shp_st H T
      j_aldn (pc := 125) D rfl rfl rfl fun D =>
      j_gfc (pc := 126) (a := 602) D rfl rfl (by decide) rfl (s0_602 H) rfl (sf_420_602 H) fun D =>
      j_ild (pc := 129) D rfl rfl rfl fun D =>
      j_ild (pc := 131) D rfl rfl rfl fun D =>
      have D : fk_D 546 [(133, none, .iastore, 1, 0, 0, 0), (134, none, .aload_n 0, 1, 0, 0, 0), (135, none, .getfield 71, 3, 421, 129, 12), (138, none, .iload 8, 2, 0, 0, 0), (140, none, .iload 5, 2, 0, 0, 0), (142, none, .iastore, 1, 0, 0, 0), (143, none, .aload_n 0, 1, 0, 0, 0), (144, none, .getfield 74, 3, 422, 129, 12), (147, none, .iload 8, 2, 0, 0, 0), (149, none, .iload 6, 2, 0, 0, 0), (151, none, .iastore, 1, 0, 0, 0), (152, none, .aload_n 0, 1, 0, 0, 0), (153, none, .getfield 77, 3, 423, 129, 12), (156, none, .iload 8, 2, 0, 0, 0), (158, none, .iload 7, 2, 0, 0, 0), (160, none, .iastore, 1, 0, 0, 0)] := fq_of2 cd_546 ow_546 cl_546 rfl (pc := 133) (by decide +kernel)
      j_as (pc := 133) (a := 619) (e := 10) D rfl ⟨rfl, rfl⟩ rfl (by decide) (s0_619 H) (s1_619 H) ⟨rfl, rfl, rfl⟩ rfl (gy qb6) (gy rfl) fun h8 eh8 S q D =>
      have T := fj_hs_ok H.1 S
      have H := shp_st H T
      j_aldn (pc := 134) D rfl rfl rfl fun D =>
      j_gfc (pc := 135) (a := 602) D rfl rfl (by decide) rfl (s0_602 H) rfl (sf_421_602 H) fun D =>
      j_ild (pc := 138) D rfl rfl rfl fun D =>
      j_ild (pc := 140) D rfl rfl rfl fun D =>
      j_as (pc := 142) (a := 620) (e := 10) D rfl ⟨rfl, rfl⟩ rfl (by decide) (s0_620 H) (s1_620 H) ⟨rfl, rfl, rfl⟩ rfl (gy qb6) (gy rfl) fun h9 eh9 S q D =>
      have T := fj_hs_ok H.1 S
      have H := shp_st H T
      j_aldn (pc := 143) D rfl rfl rfl fun D =>
      j_gfc (pc := 144) (a := 602) D rfl rfl (by decide) rfl (s0_602 H) rfl (sf_422_602 H) fun D =>
      j_ild (pc := 147) D rfl rfl rfl fun D =>
      j_ild (pc := 149) D rfl rfl rfl fun D =>
      j_as (pc := 151) (a := 621) (e := 10) D rfl ⟨rfl, rfl⟩ rfl (by decide) (s0_621 H) (s1_621 H) ⟨rfl, rfl, rfl⟩ rfl (gy qb6) (gy rfl) fun h10 eh10 S q D =>
      have T := fj_hs_ok H.1 S
      have H := shp_st H T
      j_aldn (pc := 152) D rfl rfl rfl fun D =>
      j_gfc (pc := 153) (a := 602) D rfl rfl (by decide) rfl (s0_602 H) rfl (sf_423_602 H) fun D =>
      j_ild (pc := 156) D rfl rfl rfl fun D =>
      j_ild (pc := 158) D rfl rfl rfl fun D =>
      j_as (pc := 160) (a := 622) (e := 10) D rfl ⟨rfl, rfl⟩ rfl (by decide) (s0_622 H) (s1_622 H) ⟨rfl, rfl, rfl⟩ rfl (gy qb6) (gy rfl) fun h11 eh11 S q D =>
      have T := fj_hs_ok H.1 S
      have H := shp_st H T
      fk_jump cut_546_161 rfl rfl) (fun m4 q3 h1 e1 =>
      j_tx (hx_546 _))
theorem e_546_161 (d : Nat) (x8 : Int) {h : fi_H} (H : Shp h) : c_546_161 d x8 h =
  if 0 ≤ x8 ∧ x8 < 9300 then
  lt_ (fi_upd h 11 623 x8.toNat 0) fun h1 =>
  lt_ (fi_upd h1 11 624 x8.toNat 0) fun h3 =>
  lt_ (fi_upd h3 426 602 0 (wI ((h3 426 602 0) + 1))) fun h4 =>
  some (.inl (some (0, x8)), h4)
  else none := by
  unfold c_546_161
  exact
    have D : fk_D 546 [(161, some [0, 8], .aload_n 0, 1, 0, 0, 0), (162, none, .getfield 80, 3, 424, 129, 12), (165, none, .iload 8, 2, 0, 0, 0), (167, none, .lconst 0, 1, 0, 0, 0), (168, none, .lastore, 1, 0, 0, 0), (169, none, .aload_n 0, 1, 0, 0, 0), (170, none, .getfield 83, 3, 425, 129, 12), (173, none, .iload 8, 2, 0, 0, 0), (175, none, .lconst 0, 1, 0, 0, 0), (176, none, .lastore, 1, 0, 0, 0), (177, none, .aload_n 0, 1, 0, 0, 0), (178, none, .dup, 1, 0, 0, 0), (179, none, .getfield 670, 3, 426, 129, 10), (182, none, .iconst 1, 1, 0, 1, 0), (183, none, .iadd, 1, 0, 0, 0), (184, none, .putfield 670, 3, 426, 129, 10), (187, none, .iload 8, 2, 0, 0, 0), (189, none, .ireturn, 1, 0, 0, 0)] := fq_of2 cd_546 ow_546 cl_546 rfl (pc := 161) (by decide +kernel)
    j_aldn (pc := 161) D rfl rfl rfl fun D =>
    j_gfc (pc := 162) (a := 602) D rfl rfl (by decide) rfl (s0_602 H) rfl (sf_424_602 H) fun D =>
    j_ild (pc := 165) D rfl rfl rfl fun D =>
    j_c0 (pc := 167) (v := (1, 0)) D rfl rfl (by decide +kernel) fun D =>
    j_as (pc := 168) (a := 623) (e := 11) D rfl ⟨rfl, rfl⟩ rfl (by decide) (s0_623 H) (s1_623 H) ⟨rfl, rfl, rfl⟩ rfl gn (gy rfl) fun h1 eh1 S qb2 D =>
    have T := fj_hs_ok H.1 S
    have H := shp_st H T
    j_aldn (pc := 169) D rfl rfl rfl fun D =>
    j_gfc (pc := 170) (a := 602) D rfl rfl (by decide) rfl (s0_602 H) rfl (sf_425_602 H) fun D =>
    j_ild (pc := 173) D rfl rfl rfl fun D =>
    j_c0 (pc := 175) (v := (1, 0)) D rfl rfl (by decide +kernel) fun D =>
    j_as (pc := 176) (a := 624) (e := 11) D rfl ⟨rfl, rfl⟩ rfl (by decide) (s0_624 H) (s1_624 H) ⟨rfl, rfl, rfl⟩ rfl (gy qb2) (gy rfl) fun h3 eh3 S q D =>
    have T := fj_hs_ok H.1 S
    have H := shp_st H T
    j_aldn (pc := 177) D rfl rfl rfl fun D =>
    j_sh (pc := 178) D rfl rfl rfl fun D =>
    j_gf (pc := 179) (a := 602) D rfl rfl (by decide) rfl (s0_602 H) rfl fun D =>
    j_ic (pc := 182) D rfl fun D =>
    j_iadd (pc := 183) D rfl fun D =>
    j_pf (pc := 184) (a := 602) D rfl rfl rfl (s0_602 H) rfl rfl (gy (by decide)) (gy rfl) fun h4 eh4 S D =>
    have T := fj_hs_ok H.1 S
    have H := shp_st H T
    j_ild (pc := 187) D rfl rfl rfl fun D =>
    j_iret D rt_546
theorem m_546 (d : Nat) (x1 x2 x3 x4 x5 x6 : Int) {h : fi_H} (H : Shp h) : fj_run (d + 1) 546 h [(4, 602), (0, x1), (0, x2), (0, x3), (0, x4), (0, x5), (0, x6)] =
  if x3 = (-1) then
    c_546_11 d x1 x2 x3 x4 x5 x6 602 0 h
  else
    c_546_11 d x1 x2 x3 x4 x5 x6 602 1 h := by
  rw [fj_run_eq d (by decide) h [(4, 602), (0, x1), (0, x2), (0, x3), (0, x4), (0, x5), (0, x6)] (Nat.le_of_ble_eq_true (by rw [nl_546]; rfl))]
  show gG (fj_run d) 546 0 [(0, (4, 602)), (1, (0, x1)), (2, (0, x2)), (3, (0, x3)), (4, (0, x4)), (5, (0, x5)), (6, (0, x6))] [] h = _
  exact
    have D : fk_D 546 [(0, none, .aload_n 0, 1, 0, 0, 0), (1, none, .iload_n 3, 1, 0, 0, 0), (2, none, .iconst (-1), 1, 0, (-1), 0), (3, none, .if_icmp .eq 7, 3, 10, 0, 0), (6, none, .iconst 1, 1, 0, 1, 0), (7, none, .goto 4, 3, 11, 0, 0)] := fq_of2 cd_546 ow_546 cl_546 rfl (pc := 0) (by decide +kernel)
    j_aldn (pc := 0) D rfl rfl rfl fun D =>
    j_ildn (pc := 1) D rfl rfl rfl fun D =>
    j_ic (pc := 2) D rfl fun D =>
    j_ieq (pc := 3) D rfl (fun q =>
      have D : fk_D 546 [(10, none, .iconst 0, 1, 0, 0, 0)] := fq_of2 cd_546 ow_546 cl_546 rfl (pc := 10) (by decide +kernel)
      j_ic (pc := 10) D rfl fun D =>
      fk_jump cut_546_11 rfl rfl) (fun q D =>
      j_ic (pc := 6) D rfl fun D =>
      j_goto (pc := 7) D rfl <|
      fk_jump cut_546_11 rfl rfl)
/-! 547 StatuteHouseModel.high(I)I -/
theorem cd_547 : fi_code 547 = prog_69_method_50_code := rfl
theorem hx_547 : ∀ pc, fi_hat 547 pc = none := fun pc => by unfold fi_hat; rw [show fi_hh 547 = [] from rfl]; rfl
theorem rt_547 : fi_ret 547 = some .int := rfl
theorem nl_547 : fi_nl 547 = 2 := rfl
theorem ow_547 : fi_ow 547 = 29 := rfl
theorem cl_547 : fj_cutT.getD 547 [] = [] := rfl
theorem m_547 (d : Nat) (x1 : Int) {h : fi_H} (H : Shp h) : fj_run (d + 1) 547 h [(4, 602), (0, x1)] =
  if x1 = (-1) then
    some (.inl (some (0, 0)), h)
  else
    if 0 ≤ x1 ∧ x1 < 9300 then
    some (.inl (some (0, h 10 622 x1.toNat)), h)
    else none := by
  rw [fj_run_eq d (by decide) h [(4, 602), (0, x1)] (Nat.le_of_ble_eq_true (by rw [nl_547]; rfl))]
  show gG (fj_run d) 547 0 [(0, (4, 602)), (1, (0, x1))] [] h = _
  exact
    have D : fk_D 547 [(0, none, .iload_n 1, 1, 0, 0, 0), (1, none, .iconst (-1), 1, 0, (-1), 0), (2, none, .if_icmp .ne 7, 3, 9, 0, 0), (5, none, .iconst 0, 1, 0, 0, 0), (6, none, .goto 9, 3, 15, 0, 0)] := fq_of2 cd_547 ow_547 cl_547 rfl (pc := 0) (by decide +kernel)
    j_ildn (pc := 0) D rfl rfl rfl fun D =>
    j_ic (pc := 1) D rfl fun D =>
    j_ine (pc := 2) D rfl (fun q D =>
      j_ic (pc := 5) D rfl fun D =>
      j_goto (pc := 6) D rfl <|
      have D : fk_D 547 [(15, none, .ireturn, 1, 0, 0, 0)] := fq_of2 cd_547 ow_547 cl_547 rfl (pc := 15) (by decide +kernel)
      j_iret D rt_547) (fun q =>
      have D : fk_D 547 [(9, none, .aload_n 0, 1, 0, 0, 0), (10, none, .getfield 77, 3, 423, 129, 12), (13, none, .iload_n 1, 1, 0, 0, 0), (14, none, .iaload, 1, 0, 0, 0), (15, none, .ireturn, 1, 0, 0, 0)] := fq_of2 cd_547 ow_547 cl_547 rfl (pc := 9) (by decide +kernel)
      j_aldn (pc := 9) D rfl rfl rfl fun D =>
      j_gfc (pc := 10) (a := 602) D rfl rfl (by decide) rfl (s0_602 H) rfl (sf_423_602 H) fun D =>
      j_ildn (pc := 13) D rfl rfl rfl fun D =>
      j_al (pc := 14) (a := 622) (e := 10) D rfl rfl rfl (by decide) (s0_622 H) (s1_622 H) ⟨rfl, rfl, rfl⟩ rfl gn fun qb1 D =>
      j_iret D rt_547)
/-! 548 StatuteHouseModel.opening()V -/
theorem cd_548 : fi_code 548 = prog_69_method_67_code := rfl
theorem hx_548 : ∀ pc, fi_hat 548 pc = none := fun pc => by unfold fi_hat; rw [show fi_hh 548 = [] from rfl]; rfl
theorem rt_548 : fi_ret 548 = none := rfl
theorem nl_548 : fi_nl 548 = 1 := rfl
theorem ow_548 : fi_ow 548 = 29 := rfl
theorem cl_548 : fj_cutT.getD 548 [] = [] := rfl
theorem m_548 (d : Nat) {h : fi_H} (H : Shp h) : fj_run (d + 1) 548 h [(4, 602)] =
  ca_ (fj_run d 506 h [(4, 602), (0, 40)]) 0
    (fun v2 h1 =>
    cv_ (fj_run d 500 h1 [(4, 602), (0, v2), (0, 1), (0, h1 396 602 0)])
      (fun h4 =>
      cv_ (fj_run d 549 h4 [(4, 602), (0, h4 396 602 0)])
        (fun h7 =>
        cv_ (fj_run d 502 h7 [(4, 602)])
          (fun h10 =>
          some (.inl none, h10))
          (fun q12 h10 => tx_ q12 h10))
        (fun q9 h7 => tx_ q9 h7))
      (fun q6 h4 => tx_ q6 h4))
    (fun q3 h1 => tx_ q3 h1) := by
  rw [fj_run_eq d (by decide) h [(4, 602)] (Nat.le_of_ble_eq_true (by rw [nl_548]; rfl))]
  show gG (fj_run d) 548 0 [(0, (4, 602))] [] h = _
  exact
    have D : fk_D 548 [(0, none, .aload_n 0, 1, 0, 0, 0), (1, none, .aload_n 0, 1, 0, 0, 0), (2, none, .bipush 40, 2, 0, 40, 0), (4, none, .invokevirtual 564, 3, 1, 350, 1), (7, none, .iconst 1, 1, 0, 1, 0), (8, none, .aload_n 0, 1, 0, 0, 0), (9, none, .getfield 507, 3, 396, 129, 10), (12, none, .invokevirtual 557, 3, 3, 348, 0), (15, none, .aload_n 0, 1, 0, 0, 0), (16, none, .aload_n 0, 1, 0, 0, 0), (17, none, .getfield 507, 3, 396, 129, 10), (20, none, .invokevirtual 700, 3, 1, 373, 0), (23, none, .aload_n 0, 1, 0, 0, 0), (24, none, .invokevirtual 567, 3, 0, 351, 0), (27, none, .return_, 1, 0, 0, 0)] := fq_of2 cd_548 ow_548 cl_548 rfl (pc := 0) (by decide +kernel)
    j_aldn (pc := 0) D rfl rfl rfl fun D =>
    j_aldn (pc := 1) D rfl rfl rfl fun D =>
    j_bp (pc := 2) D rfl fun D =>
    j_iv (pc := 4) (m := 506) (dd := 350) (a := [(0, 40)]) (rest := [(4, 602)]) D rfl rfl rfl rfl rfl (by decide) (s0_602 H) (by decide +kernel) (fun v2 h1 e1 D =>
      have T := fj_run_ok _ _ _ _ _ _ H.1 e1
      have H := shp_st H T
      j_ic (pc := 7) D rfl fun D =>
      j_aldn (pc := 8) D rfl rfl rfl fun D =>
      j_gf (pc := 9) (a := 602) D rfl rfl (by decide) rfl (s0_602 H) rfl fun D =>
      j_ivv (pc := 12) (m := 500) (dd := 348) (a := [(0, v2), (0, 1), (0, h1 396 602 0)]) (rest := []) D rfl rfl rfl rfl rfl (by decide) (s0_602 H) (by decide +kernel) (fun h4 e1 D =>
        have T := fj_run_ok _ _ _ _ _ _ H.1 e1
        have H := shp_st H T
        j_aldn (pc := 15) D rfl rfl rfl fun D =>
        j_aldn (pc := 16) D rfl rfl rfl fun D =>
        j_gf (pc := 17) (a := 602) D rfl rfl (by decide) rfl (s0_602 H) rfl fun D =>
        j_ivv (pc := 20) (m := 549) (dd := 373) (a := [(0, h4 396 602 0)]) (rest := []) D rfl rfl rfl rfl rfl (by decide) (s0_602 H) (by decide +kernel) (fun h7 e1 D =>
          have T := fj_run_ok _ _ _ _ _ _ H.1 e1
          have H := shp_st H T
          j_aldn (pc := 23) D rfl rfl rfl fun D =>
          j_ivv (pc := 24) (m := 502) (dd := 351) (a := []) (rest := []) D rfl rfl rfl rfl rfl (by decide) (s0_602 H) (by decide +kernel) (fun h10 e1 D =>
            have T := fj_run_ok _ _ _ _ _ _ H.1 e1
            have H := shp_st H T
            j_vret D rt_548) (fun q12 h10 e1 =>
            j_tx (hx_548 _))) (fun q9 h7 e1 =>
          j_tx (hx_548 _))) (fun q6 h4 e1 =>
        j_tx (hx_548 _))) (fun q3 h1 e1 =>
      j_tx (hx_548 _))
/-! 549 StatuteHouseModel.opens(I)V -/
theorem cd_549 : fi_code 549 = prog_69_method_49_code := rfl
theorem hx_549 : ∀ pc, fi_hat 549 pc = none := fun pc => by unfold fi_hat; rw [show fi_hh 549 = [] from rfl]; rfl
theorem rt_549 : fi_ret 549 = none := rfl
theorem nl_549 : fi_nl 549 = 2 := rfl
theorem ow_549 : fi_ow 549 = 29 := rfl
theorem cl_549 : fj_cutT.getD 549 [] = [(15, [0, 1])] := rfl
theorem cut_549_15 : fj_cut 549 15 = some [0, 1] := by decide +kernel
noncomputable def c_549_15 (d : Nat) (x1 s0 s1 : Int) (h : fi_H) : fk_R := gG (fj_run d) 549 15 [(0, (4, 602)), (1, (0, x1))] [(0, s1), (4, s0)] h
theorem e_549_15 (d : Nat) (x1 s0 s1 : Int) {h : fi_H} (H : Shp h) : c_549_15 d x1 s0 s1 h =
  dv_ (fi_vt 348 (h 0 s0.toNat 0)) fun m4 => cv_ (fj_run d m4 h [(4, s0), (0, s1), (0, 4), (0, x1)])
    (fun h1 =>
    lt_ (fi_upd h1 427 602 0 (wI ((h1 427 602 0) + 1))) fun h5 =>
    some (.inl none, h5))
    (fun q3 h1 => tx_ q3 h1) := by
  unfold c_549_15
  exact
    have D : fk_D 549 [(15, some [0, 1], .iconst 4, 1, 0, 4, 0), (16, none, .iload_n 1, 1, 0, 0, 0), (17, none, .invokevirtual 557, 3, 3, 348, 0), (20, none, .aload_n 0, 1, 0, 0, 0), (21, none, .dup, 1, 0, 0, 0), (22, none, .getfield 576, 3, 427, 129, 10), (25, none, .iconst 1, 1, 0, 1, 0), (26, none, .iadd, 1, 0, 0, 0), (27, none, .putfield 576, 3, 427, 129, 10), (30, none, .return_, 1, 0, 0, 0)] := fq_of2 cd_549 ow_549 cl_549 rfl (pc := 15) (by decide +kernel)
    j_ic (pc := 15) D rfl fun D =>
    j_ildn (pc := 16) D rfl rfl rfl fun D =>
    j_ivuv (pc := 17) (dd := 348) (a := [(0, s1), (0, 4), (0, x1)]) (rest := []) H.2.1 D rfl rfl rfl rfl rfl (fun m4 h1 e1 D =>
      have T := fj_run_ok _ _ _ _ _ _ H.1 e1
      have H := shp_st H T
      j_aldn (pc := 20) D rfl rfl rfl fun D =>
      j_sh (pc := 21) D rfl rfl rfl fun D =>
      j_gf (pc := 22) (a := 602) D rfl rfl (by decide) rfl (s0_602 H) rfl fun D =>
      j_ic (pc := 25) D rfl fun D =>
      j_iadd (pc := 26) D rfl fun D =>
      j_pf (pc := 27) (a := 602) D rfl rfl rfl (s0_602 H) rfl rfl (gy (by decide)) (gy rfl) fun h5 eh5 S D =>
      have T := fj_hs_ok H.1 S
      have H := shp_st H T
      j_vret D rt_549) (fun m4 q3 h1 e1 =>
      j_tx (hx_549 _))
theorem m_549 (d : Nat) (x1 : Int) {h : fi_H} (H : Shp h) : fj_run (d + 1) 549 h [(4, 602), (0, x1)] =
  if h 427 602 0 < 40 then
    c_549_15 d x1 602 1 h
  else
    c_549_15 d x1 602 0 h := by
  rw [fj_run_eq d (by decide) h [(4, 602), (0, x1)] (Nat.le_of_ble_eq_true (by rw [nl_549]; rfl))]
  show gG (fj_run d) 549 0 [(0, (4, 602)), (1, (0, x1))] [] h = _
  exact
    have D : fk_D 549 [(0, none, .aload_n 0, 1, 0, 0, 0), (1, none, .aload_n 0, 1, 0, 0, 0), (2, none, .getfield 576, 3, 427, 129, 10), (5, none, .bipush 40, 2, 0, 40, 0), (7, none, .if_icmp .ge 7, 3, 14, 0, 0), (10, none, .iconst 1, 1, 0, 1, 0), (11, none, .goto 4, 3, 15, 0, 0)] := fq_of2 cd_549 ow_549 cl_549 rfl (pc := 0) (by decide +kernel)
    j_aldn (pc := 0) D rfl rfl rfl fun D =>
    j_aldn (pc := 1) D rfl rfl rfl fun D =>
    j_gf (pc := 2) (a := 602) D rfl rfl (by decide) rfl (s0_602 H) rfl fun D =>
    j_bp (pc := 5) D rfl fun D =>
    j_ige (pc := 7) D rfl (fun q D =>
      j_ic (pc := 10) D rfl fun D =>
      j_goto (pc := 11) D rfl <|
      fk_jump cut_549_15 rfl rfl) (fun q =>
      have D : fk_D 549 [(14, none, .iconst 0, 1, 0, 0, 0)] := fq_of2 cd_549 ow_549 cl_549 rfl (pc := 14) (by decide +kernel)
      j_ic (pc := 14) D rfl fun D =>
      fk_jump cut_549_15 rfl rfl)
/-! 550 StatuteHouseModel.closing()V -/
theorem cd_550 : fi_code 550 = prog_69_method_68_code := rfl
theorem hx_550 : ∀ pc, fi_hat 550 pc = none := fun pc => by unfold fi_hat; rw [show fi_hh 550 = [] from rfl]; rfl
theorem rt_550 : fi_ret 550 = none := rfl
theorem nl_550 : fi_nl 550 = 1 := rfl
theorem ow_550 : fi_ow 550 = 29 := rfl
theorem cl_550 : fj_cutT.getD 550 [] = [] := rfl
theorem m_550 (d : Nat) {h : fi_H} (H : Shp h) : fj_run (d + 1) 550 h [(4, 602)] =
  cv_ (fj_run d 505 h [(4, 602), (0, 41)])
    (fun h1 =>
    lt_ (fi_upd h1 427 602 0 (wI ((h1 427 602 0) - 1))) fun h4 =>
    some (.inl none, h4))
    (fun q3 h1 => tx_ q3 h1) := by
  rw [fj_run_eq d (by decide) h [(4, 602)] (Nat.le_of_ble_eq_true (by rw [nl_550]; rfl))]
  show gG (fj_run d) 550 0 [(0, (4, 602))] [] h = _
  exact
    have D : fk_D 550 [(0, none, .aload_n 0, 1, 0, 0, 0), (1, none, .bipush 41, 2, 0, 41, 0), (3, none, .invokevirtual 624, 3, 1, 356, 0), (6, none, .aload_n 0, 1, 0, 0, 0), (7, none, .dup, 1, 0, 0, 0), (8, none, .getfield 576, 3, 427, 129, 10), (11, none, .iconst 1, 1, 0, 1, 0), (12, none, .isub, 1, 0, 0, 0), (13, none, .putfield 576, 3, 427, 129, 10), (16, none, .return_, 1, 0, 0, 0)] := fq_of2 cd_550 ow_550 cl_550 rfl (pc := 0) (by decide +kernel)
    j_aldn (pc := 0) D rfl rfl rfl fun D =>
    j_bp (pc := 1) D rfl fun D =>
    j_ivv (pc := 3) (m := 505) (dd := 356) (a := [(0, 41)]) (rest := []) D rfl rfl rfl rfl rfl (by decide) (s0_602 H) (by decide +kernel) (fun h1 e1 D =>
      have T := fj_run_ok _ _ _ _ _ _ H.1 e1
      have H := shp_st H T
      j_aldn (pc := 6) D rfl rfl rfl fun D =>
      j_sh (pc := 7) D rfl rfl rfl fun D =>
      j_gf (pc := 8) (a := 602) D rfl rfl (by decide) rfl (s0_602 H) rfl fun D =>
      j_ic (pc := 11) D rfl fun D =>
      j_isub (pc := 12) D rfl fun D =>
      j_pf (pc := 13) (a := 602) D rfl rfl rfl (s0_602 H) rfl rfl (gy (by decide)) (gy rfl) fun h4 eh4 S D =>
      have T := fj_hs_ok H.1 S
      have H := shp_st H T
      j_vret D rt_550) (fun q3 h1 e1 =>
      j_tx (hx_550 _))
/-! 551 StatuteHouseModel.factHere(Z)I -/
theorem cd_551 : fi_code 551 = prog_69_method_73_code := rfl
theorem hx_551 : ∀ pc, fi_hat 551 pc = none := fun pc => by unfold fi_hat; rw [show fi_hh 551 = [] from rfl]; rfl
theorem rt_551 : fi_ret 551 = some .int := rfl
theorem nl_551 : fi_nl 551 = 3 := rfl
theorem ow_551 : fi_ow 551 = 29 := rfl
theorem cl_551 : fj_cutT.getD 551 [] = [(14, [0, 1]), (56, [0, 2]), (60, [0, 2]), (61, [0, 2])] := rfl
theorem cut_551_14 : fj_cut 551 14 = some [0, 1] := by decide +kernel
noncomputable def c_551_14 (d : Nat) (x1 s0 s1 : Int) (h : fi_H) : fk_R := gG (fj_run d) 551 14 [(0, (4, 602)), (1, (0, x1))] [(0, s1), (4, s0)] h
theorem cut_551_56 : fj_cut 551 56 = some [0, 2] := by decide +kernel
noncomputable def c_551_56 (d : Nat) (x2 s0 : Int) (h : fi_H) : fk_R := gG (fj_run d) 551 56 [(0, (4, 602)), (2, (0, x2))] [(4, s0)] h
theorem cut_551_60 : fj_cut 551 60 = some [0, 2] := by decide +kernel
noncomputable def c_551_60 (d : Nat) (x2 s0 : Int) (h : fi_H) : fk_R := gG (fj_run d) 551 60 [(0, (4, 602)), (2, (0, x2))] [(4, s0)] h
theorem cut_551_61 : fj_cut 551 61 = some [0, 2] := by decide +kernel
noncomputable def c_551_61 (d : Nat) (x2 s0 s1 : Int) (h : fi_H) : fk_R := gG (fj_run d) 551 61 [(0, (4, 602)), (2, (0, x2))] [(0, s1), (4, s0)] h
theorem e_551_14 (d : Nat) (x1 s0 s1 : Int) {h : fi_H} (H : Shp h) : c_551_14 d x1 s0 s1 h =
  dv_ (fi_vt 348 (h 0 s0.toNat 0)) fun m4 => cv_ (fj_run d m4 h [(4, s0), (0, s1), (0, 1), (0, h 396 602 0)])
    (fun h1 =>
    ca_ (fj_run d 504 h1 [(4, 602)]) 0
      (fun v6 h5 =>
      if v6 = (-1) then
        c_551_60 d v6 602 h5
      else
        ca_ (fj_run d 552 h5 [(4, 602), (0, v6)]) 0
          (fun v9 h8 =>
          if v9 = 0 then
            c_551_60 d v6 602 h8
          else
            if x1 = 0 then
              c_551_56 d v6 602 h8
            else
              if 0 ≤ v6 ∧ v6 < 41 then
              if h8 10 611 v6.toNat = 7 then
                c_551_56 d v6 602 h8
              else
                c_551_60 d v6 602 h8
              else none)
          (fun q10 h8 => tx_ q10 h8))
      (fun q7 h5 => tx_ q7 h5))
    (fun q3 h1 => tx_ q3 h1) := by
  unfold c_551_14
  exact
    have D : fk_D 551 [(14, some [0, 1], .iconst 1, 1, 0, 1, 0), (15, none, .aload_n 0, 1, 0, 0, 0), (16, none, .getfield 507, 3, 396, 129, 10), (19, none, .invokevirtual 557, 3, 3, 348, 0), (22, none, .aload_n 0, 1, 0, 0, 0), (23, none, .invokevirtual 621, 3, 0, 355, 1), (26, none, .istore_n 2, 1, 0, 0, 0), (27, none, .aload_n 0, 1, 0, 0, 0), (28, none, .iload_n 2, 1, 0, 0, 0), (29, none, .iconst (-1), 1, 0, (-1), 0), (30, none, .if_icmp .eq 30, 3, 60, 0, 0), (33, none, .aload_n 0, 1, 0, 0, 0), (34, none, .iload_n 2, 1, 0, 0, 0), (35, none, .invokevirtual 767, 3, 1, 391, 1), (38, none, .ifCond .eq 22, 3, 60, 0, 0), (41, none, .iload_n 1, 1, 0, 0, 0), (42, none, .ifCond .eq 14, 3, 56, 0, 0), (45, none, .aload_n 0, 1, 0, 0, 0), (46, none, .getfield 43, 3, 407, 129, 12), (49, none, .iload_n 2, 1, 0, 0, 0)] := fq_of2 cd_551 ow_551 cl_551 rfl (pc := 14) (by decide +kernel)
    j_ic (pc := 14) D rfl fun D =>
    j_aldn (pc := 15) D rfl rfl rfl fun D =>
    j_gf (pc := 16) (a := 602) D rfl rfl (by decide) rfl (s0_602 H) rfl fun D =>
    j_ivuv (pc := 19) (dd := 348) (a := [(0, s1), (0, 1), (0, h 396 602 0)]) (rest := []) H.2.1 D rfl rfl rfl rfl rfl (fun m4 h1 e1 D =>
      have T := fj_run_ok _ _ _ _ _ _ H.1 e1
      have H := shp_st H T
      j_aldn (pc := 22) D rfl rfl rfl fun D =>
      j_iv (pc := 23) (m := 504) (dd := 355) (a := []) (rest := []) D rfl rfl rfl rfl rfl (by decide) (s0_602 H) (by decide +kernel) (fun v6 h5 e1 D =>
        have T := fj_run_ok _ _ _ _ _ _ H.1 e1
        have H := shp_st H T
        j_istn (pc := 26) (L' := [(2, (0, v6)), (0, (4, 602)), (1, (0, x1))]) D rfl nl_551 rfl rfl fun D =>
        j_aldn (pc := 27) D rfl rfl rfl fun D =>
        j_ildn (pc := 28) D rfl rfl rfl fun D =>
        j_ic (pc := 29) D rfl fun D =>
        j_ieq (pc := 30) D rfl (fun q =>
          fk_jump cut_551_60 rfl rfl) (fun q D =>
          j_aldn (pc := 33) D rfl rfl rfl fun D =>
          j_ildn (pc := 34) D rfl rfl rfl fun D =>
          j_iv (pc := 35) (m := 552) (dd := 391) (a := [(0, v6)]) (rest := [(4, 602)]) D rfl rfl rfl rfl rfl (by decide) (s0_602 H) (by decide +kernel) (fun v9 h8 e1 D =>
            have T := fj_run_ok _ _ _ _ _ _ H.1 e1
            have H := shp_st H T
            j_ifeq (pc := 38) D rfl (fun q =>
              fk_jump cut_551_60 rfl rfl) (fun q D =>
              j_ildn (pc := 41) D rfl rfl rfl fun D =>
              j_ifeq (pc := 42) D rfl (fun q =>
                fk_jump cut_551_56 rfl rfl) (fun q D =>
                j_aldn (pc := 45) D rfl rfl rfl fun D =>
                j_gfc (pc := 46) (a := 602) D rfl rfl (by decide) rfl (s0_602 H) rfl (sf_407_602 H) fun D =>
                j_ildn (pc := 49) D rfl rfl rfl fun D =>
                have D : fk_D 551 [(50, none, .iaload, 1, 0, 0, 0), (51, none, .bipush 7, 2, 0, 7, 0), (53, none, .if_icmp .ne 7, 3, 60, 0, 0)] := fq_of2 cd_551 ow_551 cl_551 rfl (pc := 50) (by decide +kernel)
                j_al (pc := 50) (a := 611) (e := 10) D rfl rfl rfl (by decide) (s0_611 H) (s1_611 H) ⟨rfl, rfl, rfl⟩ rfl gn fun qb11 D =>
                j_bp (pc := 51) D rfl fun D =>
                j_ine (pc := 53) D rfl (fun q D =>
                  fk_jump cut_551_56 rfl rfl) (fun q =>
                  fk_jump cut_551_60 rfl rfl)))) (fun q10 h8 e1 =>
            j_tx (hx_551 _)))) (fun q7 h5 e1 =>
        j_tx (hx_551 _))) (fun m4 q3 h1 e1 =>
      j_tx (hx_551 _))
theorem e_551_56 (d : Nat) (x2 s0 : Int) {h : fi_H} (H : Shp h) : c_551_56 d x2 s0 h =
  c_551_61 d x2 s0 1 h := by
  unfold c_551_56
  exact
    have D : fk_D 551 [(56, some [0, 2], .iconst 1, 1, 0, 1, 0), (57, none, .goto 4, 3, 61, 0, 0)] := fq_of2 cd_551 ow_551 cl_551 rfl (pc := 56) (by decide +kernel)
    j_ic (pc := 56) D rfl fun D =>
    j_goto (pc := 57) D rfl <|
    fk_jump cut_551_61 rfl rfl
theorem e_551_60 (d : Nat) (x2 s0 : Int) {h : fi_H} (H : Shp h) : c_551_60 d x2 s0 h =
  c_551_61 d x2 s0 0 h := by
  unfold c_551_60
  exact
    have D : fk_D 551 [(60, some [0, 2], .iconst 0, 1, 0, 0, 0)] := fq_of2 cd_551 ow_551 cl_551 rfl (pc := 60) (by decide +kernel)
    j_ic (pc := 60) D rfl fun D =>
    fk_jump cut_551_61 rfl rfl
theorem e_551_61 (d : Nat) (x2 s0 s1 : Int) {h : fi_H} (H : Shp h) : c_551_61 d x2 s0 s1 h =
  dv_ (fi_vt 348 (h 0 s0.toNat 0)) fun m4 => cv_ (fj_run d m4 h [(4, s0), (0, s1), (0, 2), (0, h 396 602 0)])
    (fun h1 =>
    cv_ (fj_run d 502 h1 [(4, 602)])
      (fun h5 =>
      some (.inl (some (0, x2)), h5))
      (fun q7 h5 => tx_ q7 h5))
    (fun q3 h1 => tx_ q3 h1) := by
  unfold c_551_61
  exact
    have D : fk_D 551 [(61, some [0, 2], .iconst 2, 1, 0, 2, 0), (62, none, .aload_n 0, 1, 0, 0, 0), (63, none, .getfield 507, 3, 396, 129, 10), (66, none, .invokevirtual 557, 3, 3, 348, 0), (69, none, .aload_n 0, 1, 0, 0, 0), (70, none, .invokevirtual 567, 3, 0, 351, 0), (73, none, .iload_n 2, 1, 0, 0, 0), (74, none, .ireturn, 1, 0, 0, 0)] := fq_of2 cd_551 ow_551 cl_551 rfl (pc := 61) (by decide +kernel)
    j_ic (pc := 61) D rfl fun D =>
    j_aldn (pc := 62) D rfl rfl rfl fun D =>
    j_gf (pc := 63) (a := 602) D rfl rfl (by decide) rfl (s0_602 H) rfl fun D =>
    j_ivuv (pc := 66) (dd := 348) (a := [(0, s1), (0, 2), (0, h 396 602 0)]) (rest := []) H.2.1 D rfl rfl rfl rfl rfl (fun m4 h1 e1 D =>
      have T := fj_run_ok _ _ _ _ _ _ H.1 e1
      have H := shp_st H T
      j_aldn (pc := 69) D rfl rfl rfl fun D =>
      j_ivv (pc := 70) (m := 502) (dd := 351) (a := []) (rest := []) D rfl rfl rfl rfl rfl (by decide) (s0_602 H) (by decide +kernel) (fun h5 e1 D =>
        have T := fj_run_ok _ _ _ _ _ _ H.1 e1
        have H := shp_st H T
        j_ildn (pc := 73) D rfl rfl rfl fun D =>
        j_iret D rt_551) (fun q7 h5 e1 =>
        j_tx (hx_551 _))) (fun m4 q3 h1 e1 =>
      j_tx (hx_551 _))
theorem m_551 (d : Nat) (x1 : Int) {h : fi_H} (H : Shp h) : fj_run (d + 1) 551 h [(4, 602), (0, x1)] =
  if h 394 602 0 = 1 then
    c_551_14 d x1 602 1 h
  else
    c_551_14 d x1 602 0 h := by
  rw [fj_run_eq d (by decide) h [(4, 602), (0, x1)] (Nat.le_of_ble_eq_true (by rw [nl_551]; rfl))]
  show gG (fj_run d) 551 0 [(0, (4, 602)), (1, (0, x1))] [] h = _
  exact
    have D : fk_D 551 [(0, none, .aload_n 0, 1, 0, 0, 0), (1, none, .aload_n 0, 1, 0, 0, 0), (2, none, .getfield 513, 3, 394, 129, 10), (5, none, .iconst 1, 1, 0, 1, 0), (6, none, .if_icmp .ne 7, 3, 13, 0, 0), (9, none, .iconst 1, 1, 0, 1, 0), (10, none, .goto 4, 3, 14, 0, 0)] := fq_of2 cd_551 ow_551 cl_551 rfl (pc := 0) (by decide +kernel)
    j_aldn (pc := 0) D rfl rfl rfl fun D =>
    j_aldn (pc := 1) D rfl rfl rfl fun D =>
    j_gf (pc := 2) (a := 602) D rfl rfl (by decide) rfl (s0_602 H) rfl fun D =>
    j_ic (pc := 5) D rfl fun D =>
    j_ine (pc := 6) D rfl (fun q D =>
      j_ic (pc := 9) D rfl fun D =>
      j_goto (pc := 10) D rfl <|
      fk_jump cut_551_14 rfl rfl) (fun q =>
      have D : fk_D 551 [(13, none, .iconst 0, 1, 0, 0, 0)] := fq_of2 cd_551 ow_551 cl_551 rfl (pc := 13) (by decide +kernel)
      j_ic (pc := 13) D rfl fun D =>
      fk_jump cut_551_14 rfl rfl)
/-! 552 StatuteHouseModel.isFactSort(I)Z -/
theorem cd_552 : fi_code 552 = prog_69_method_70_code := rfl
theorem hx_552 : ∀ pc, fi_hat 552 pc = none := fun pc => by unfold fi_hat; rw [show fi_hh 552 = [] from rfl]; rfl
theorem rt_552 : fi_ret 552 = some .boolean := rfl
theorem nl_552 : fi_nl 552 = 2 := rfl
theorem ow_552 : fi_ow 552 = 29 := rfl
theorem cl_552 : fj_cutT.getD 552 [] = [] := rfl
theorem m_552 (d : Nat) (x1 : Int) {h : fi_H} (H : Shp h) : fj_run (d + 1) 552 h [(4, 602), (0, x1)] =
  if 0 ≤ x1 ∧ x1 < 41 then
  if h 10 610 x1.toNat = 0 then
    some (.inl (some (0, 1)), h)
  else
    if h 10 610 x1.toNat = 3 then
      some (.inl (some (0, 1)), h)
    else
      some (.inl (some (0, 0)), h)
  else none := by
  rw [fj_run_eq d (by decide) h [(4, 602), (0, x1)] (Nat.le_of_ble_eq_true (by rw [nl_552]; rfl))]
  show gG (fj_run d) 552 0 [(0, (4, 602)), (1, (0, x1))] [] h = _
  exact
    have D : fk_D 552 [(0, none, .aload_n 0, 1, 0, 0, 0), (1, none, .getfield 40, 3, 406, 129, 12), (4, none, .iload_n 1, 1, 0, 0, 0), (5, none, .iaload, 1, 0, 0, 0), (6, none, .ifCond .eq 13, 3, 19, 0, 0), (9, none, .aload_n 0, 1, 0, 0, 0), (10, none, .getfield 40, 3, 406, 129, 12), (13, none, .iload_n 1, 1, 0, 0, 0), (14, none, .iaload, 1, 0, 0, 0), (15, none, .iconst 3, 1, 0, 3, 0), (16, none, .if_icmp .ne 7, 3, 23, 0, 0), (19, none, .iconst 1, 1, 0, 1, 0), (20, none, .goto 4, 3, 24, 0, 0)] := fq_of2 cd_552 ow_552 cl_552 rfl (pc := 0) (by decide +kernel)
    j_aldn (pc := 0) D rfl rfl rfl fun D =>
    j_gfc (pc := 1) (a := 602) D rfl rfl (by decide) rfl (s0_602 H) rfl (sf_406_602 H) fun D =>
    j_ildn (pc := 4) D rfl rfl rfl fun D =>
    j_al (pc := 5) (a := 610) (e := 10) D rfl rfl rfl (by decide) (s0_610 H) (s1_610 H) ⟨rfl, rfl, rfl⟩ rfl gn fun qb1 D =>
    j_ifeq (pc := 6) D rfl (fun q =>
      have D : fk_D 552 [(19, none, .iconst 1, 1, 0, 1, 0), (20, none, .goto 4, 3, 24, 0, 0)] := fq_of2 cd_552 ow_552 cl_552 rfl (pc := 19) (by decide +kernel)
      j_ic (pc := 19) D rfl fun D =>
      j_goto (pc := 20) D rfl <|
      have D : fk_D 552 [(24, none, .ireturn, 1, 0, 0, 0)] := fq_of2 cd_552 ow_552 cl_552 rfl (pc := 24) (by decide +kernel)
      j_zret D rt_552 (gy (by decide))) (fun q D =>
      j_aldn (pc := 9) D rfl rfl rfl fun D =>
      j_gfc (pc := 10) (a := 602) D rfl rfl (by decide) rfl (s0_602 H) rfl (sf_406_602 H) fun D =>
      j_ildn (pc := 13) D rfl rfl rfl fun D =>
      j_al (pc := 14) (a := 610) (e := 10) D rfl rfl rfl (by decide) (s0_610 H) (s1_610 H) ⟨rfl, rfl, rfl⟩ rfl (gy qb1) fun q D =>
      j_ic (pc := 15) D rfl fun D =>
      j_ine (pc := 16) D rfl (fun q D =>
        j_ic (pc := 19) D rfl fun D =>
        j_goto (pc := 20) D rfl <|
        have D : fk_D 552 [(24, none, .ireturn, 1, 0, 0, 0)] := fq_of2 cd_552 ow_552 cl_552 rfl (pc := 24) (by decide +kernel)
        j_zret D rt_552 (gy (by decide))) (fun q =>
        have D : fk_D 552 [(23, none, .iconst 0, 1, 0, 0, 0), (24, none, .ireturn, 1, 0, 0, 0)] := fq_of2 cd_552 ow_552 cl_552 rfl (pc := 23) (by decide +kernel)
        j_ic (pc := 23) D rfl fun D =>
        j_zret D rt_552 (gy (by decide))))
/-! 553 StatuteHouseModel.readOver(I)I -/
theorem cd_553 : fi_code 553 = prog_69_method_74_code := rfl
theorem hx_553 : ∀ pc, fi_hat 553 pc = none := fun pc => by unfold fi_hat; rw [show fi_hh 553 = [] from rfl]; rfl
theorem rt_553 : fi_ret 553 = some .int := rfl
theorem nl_553 : fi_nl 553 = 7 := rfl
theorem ow_553 : fi_ow 553 = 29 := rfl
theorem cl_553 : fj_cutT.getD 553 [] = [(73, [0, 1, 2, 3, 4, 5]), (98, [0, 1, 2, 3, 4, 5]), (99, [0, 1, 2, 3, 4, 5]), (116, [2, 3, 4])] := rfl
theorem cut_553_73 : fj_cut 553 73 = some [0, 1, 2, 3, 4, 5] := by decide +kernel
noncomputable def c_553_73 (d : Nat) (x1 x2 x3 x4 x5 : Int) (h : fi_H) : fk_R := gG (fj_run d) 553 73 [(0, (4, 602)), (1, (0, x1)), (2, (0, x2)), (3, (0, x3)), (4, (0, x4)), (5, (0, x5))] [] h
theorem cut_553_98 : fj_cut 553 98 = some [0, 1, 2, 3, 4, 5] := by decide +kernel
noncomputable def c_553_98 (d : Nat) (x1 x2 x3 x4 x5 : Int) (h : fi_H) : fk_R := gG (fj_run d) 553 98 [(0, (4, 602)), (1, (0, x1)), (2, (0, x2)), (3, (0, x3)), (4, (0, x4)), (5, (0, x5))] [] h
theorem cut_553_99 : fj_cut 553 99 = some [0, 1, 2, 3, 4, 5] := by decide +kernel
noncomputable def c_553_99 (d : Nat) (x1 x2 x3 x4 x5 s0 : Int) (h : fi_H) : fk_R := gG (fj_run d) 553 99 [(0, (4, 602)), (1, (0, x1)), (2, (0, x2)), (3, (0, x3)), (4, (0, x4)), (5, (0, x5))] [(0, s0)] h
theorem cut_553_116 : fj_cut 553 116 = some [2, 3, 4] := by decide +kernel
noncomputable def c_553_116 (d : Nat) (x2 x3 x4 s0 s1 s2 s3 : Int) (h : fi_H) : fk_R := gG (fj_run d) 553 116 [(2, (0, x2)), (3, (0, x3)), (4, (0, x4))] [(0, s3), (0, s2), (0, s1), (4, s0)] h
theorem e_553_73 (d : Nat) (x1 x2 x3 x4 x5 : Int) {h : fi_H} (H : Shp h) : c_553_73 d x1 x2 x3 x4 x5 h =
  if 0 ≤ x3 ∧ x3 < 9300 then
  if h 10 618 x3.toNat = 4 then
    if 0 ≤ x4 ∧ x4 < 9300 then
    if h 10 618 x4.toNat = 4 then
      c_553_99 d x1 x2 x3 x4 x5 1 h
    else
      c_553_98 d x1 x2 x3 x4 x5 h
    else none
  else
    c_553_98 d x1 x2 x3 x4 x5 h
  else none := by
  unfold c_553_73
  exact
    have D : fk_D 553 [(73, some [0, 1, 2, 3, 4, 5], .aload_n 0, 1, 0, 0, 0), (74, none, .getfield 65, 3, 419, 129, 12), (77, none, .iload_n 3, 1, 0, 0, 0), (78, none, .iaload, 1, 0, 0, 0), (79, none, .iconst 4, 1, 0, 4, 0), (80, none, .if_icmp .ne 18, 3, 98, 0, 0), (83, none, .aload_n 0, 1, 0, 0, 0), (84, none, .getfield 65, 3, 419, 129, 12), (87, none, .iload 4, 2, 0, 0, 0), (89, none, .iaload, 1, 0, 0, 0), (90, none, .iconst 4, 1, 0, 4, 0), (91, none, .if_icmp .ne 7, 3, 98, 0, 0), (94, none, .iconst 1, 1, 0, 1, 0), (95, none, .goto 4, 3, 99, 0, 0)] := fq_of2 cd_553 ow_553 cl_553 rfl (pc := 73) (by decide +kernel)
    j_aldn (pc := 73) D rfl rfl rfl fun D =>
    j_gfc (pc := 74) (a := 602) D rfl rfl (by decide) rfl (s0_602 H) rfl (sf_419_602 H) fun D =>
    j_ildn (pc := 77) D rfl rfl rfl fun D =>
    j_al (pc := 78) (a := 618) (e := 10) D rfl rfl rfl (by decide) (s0_618 H) (s1_618 H) ⟨rfl, rfl, rfl⟩ rfl gn fun qb1 D =>
    j_ic (pc := 79) D rfl fun D =>
    j_ine (pc := 80) D rfl (fun q D =>
      j_aldn (pc := 83) D rfl rfl rfl fun D =>
      j_gfc (pc := 84) (a := 602) D rfl rfl (by decide) rfl (s0_602 H) rfl (sf_419_602 H) fun D =>
      j_ild (pc := 87) D rfl rfl rfl fun D =>
      j_al (pc := 89) (a := 618) (e := 10) D rfl rfl rfl (by decide) (s0_618 H) (s1_618 H) ⟨rfl, rfl, rfl⟩ rfl gn fun qb2 D =>
      j_ic (pc := 90) D rfl fun D =>
      j_ine (pc := 91) D rfl (fun q D =>
        j_ic (pc := 94) D rfl fun D =>
        j_goto (pc := 95) D rfl <|
        fk_jump cut_553_99 rfl rfl) (fun q =>
        fk_jump cut_553_98 rfl rfl)) (fun q =>
      fk_jump cut_553_98 rfl rfl)
theorem e_553_98 (d : Nat) (x1 x2 x3 x4 x5 : Int) {h : fi_H} (H : Shp h) : c_553_98 d x1 x2 x3 x4 x5 h =
  c_553_99 d x1 x2 x3 x4 x5 0 h := by
  unfold c_553_98
  exact
    have D : fk_D 553 [(98, some [0, 1, 2, 3, 4, 5], .iconst 0, 1, 0, 0, 0)] := fq_of2 cd_553 ow_553 cl_553 rfl (pc := 98) (by decide +kernel)
    j_ic (pc := 98) D rfl fun D =>
    fk_jump cut_553_99 rfl rfl
theorem e_553_99 (d : Nat) (x1 x2 x3 x4 x5 s0 : Int) {h : fi_H} (H : Shp h) : c_553_99 d x1 x2 x3 x4 x5 s0 h =
  if s0 = 0 then
    c_553_116 d x2 x3 x4 602 24 x1 (-1) h
  else
    c_553_116 d x2 x3 x4 602 24 x1 x5 h := by
  unfold c_553_99
  exact
    have D : fk_D 553 [(99, some [0, 1, 2, 3, 4, 5], .istore 6, 2, 0, 0, 0), (101, none, .aload_n 0, 1, 0, 0, 0), (102, none, .bipush 24, 2, 0, 24, 0), (104, none, .iload_n 1, 1, 0, 0, 0), (105, none, .iload 6, 2, 0, 0, 0), (107, none, .ifCond .eq 8, 3, 115, 0, 0), (110, none, .iload 5, 2, 0, 0, 0), (112, none, .goto 4, 3, 116, 0, 0)] := fq_of2 cd_553 ow_553 cl_553 rfl (pc := 99) (by decide +kernel)
    j_ist (pc := 99) (L' := [(6, (0, s0)), (0, (4, 602)), (1, (0, x1)), (2, (0, x2)), (3, (0, x3)), (4, (0, x4)), (5, (0, x5))]) D rfl nl_553 rfl rfl fun D =>
    j_aldn (pc := 101) D rfl rfl rfl fun D =>
    j_bp (pc := 102) D rfl fun D =>
    j_ildn (pc := 104) D rfl rfl rfl fun D =>
    j_ild (pc := 105) D rfl rfl rfl fun D =>
    j_ifeq (pc := 107) D rfl (fun q =>
      have D : fk_D 553 [(115, none, .iconst (-1), 1, 0, (-1), 0)] := fq_of2 cd_553 ow_553 cl_553 rfl (pc := 115) (by decide +kernel)
      j_ic (pc := 115) D rfl fun D =>
      fk_jump cut_553_116 rfl rfl) (fun q D =>
      j_ild (pc := 110) D rfl rfl rfl fun D =>
      j_goto (pc := 112) D rfl <|
      fk_jump cut_553_116 rfl rfl)
theorem e_553_116 (d : Nat) (x2 x3 x4 s0 s1 s2 s3 : Int) {h : fi_H} (H : Shp h) : c_553_116 d x2 x3 x4 s0 s1 s2 s3 h =
  dv_ (fi_vt 368 (h 0 s0.toNat 0)) fun m4 => ca_ (fj_run d m4 h [(4, s0), (0, s1), (0, s2), (0, s3), (0, x2), (0, x3), (0, x4)]) 0
    (fun v2 h1 =>
    some (.inl (some (0, v2)), h1))
    (fun q3 h1 => tx_ q3 h1) := by
  unfold c_553_116
  exact
    have D : fk_D 553 [(116, some [2, 3, 4], .iload_n 2, 1, 0, 0, 0), (117, none, .iload_n 3, 1, 0, 0, 0), (118, none, .iload 4, 2, 0, 0, 0), (120, none, .invokevirtual 683, 3, 6, 368, 1), (123, none, .ireturn, 1, 0, 0, 0)] := fq_of2 cd_553 ow_553 cl_553 rfl (pc := 116) (by decide +kernel)
    j_ildn (pc := 116) D rfl rfl rfl fun D =>
    j_ildn (pc := 117) D rfl rfl rfl fun D =>
    j_ild (pc := 118) D rfl rfl rfl fun D =>
    j_ivu (pc := 120) (dd := 368) (a := [(0, s1), (0, s2), (0, s3), (0, x2), (0, x3), (0, x4)]) (rest := []) H.2.1 D rfl rfl rfl rfl rfl (fun m4 v2 h1 e1 D =>
      have T := fj_run_ok _ _ _ _ _ _ H.1 e1
      have H := shp_st H T
      j_iret D rt_553) (fun m4 q3 h1 e1 =>
      j_tx (hx_553 _))
theorem m_553 (d : Nat) (x1 : Int) {h : fi_H} (H : Shp h) : fj_run (d + 1) 553 h [(4, 602), (0, x1)] =
  cv_ (fj_run d 502 h [(4, 602)])
    (fun h1 =>
    cv_ (fj_run d 548 h1 [(4, 602)])
      (fun h4 =>
      ca_ (fj_run d 535 h4 [(4, 602)]) 0
        (fun v8 h7 =>
        cv_ (fj_run d 505 h7 [(4, 602), (0, 44)])
          (fun h10 =>
          ca_ (fj_run d 535 h10 [(4, 602)]) 0
            (fun v14 h13 =>
            cv_ (fj_run d 505 h13 [(4, 602), (0, 44)])
              (fun h16 =>
              ca_ (fj_run d 535 h16 [(4, 602)]) 0
                (fun v20 h19 =>
                cv_ (fj_run d 550 h19 [(4, 602)])
                  (fun h22 =>
                  if 0 ≤ v8 ∧ v8 < 9300 then
                  if h22 10 618 v8.toNat = 1 then
                    c_553_73 d x1 v8 v14 v20 (h22 10 618 v8.toNat) h22
                  else
                    if h22 10 618 v8.toNat = 2 then
                      c_553_73 d x1 v8 v14 v20 (h22 10 618 v8.toNat) h22
                    else
                      if h22 10 618 v8.toNat = 3 then
                        c_553_73 d x1 v8 v14 v20 (h22 10 618 v8.toNat) h22
                      else
                        if h22 10 618 v8.toNat = 6 then
                          c_553_73 d x1 v8 v14 v20 (h22 10 618 v8.toNat) h22
                        else
                          c_553_98 d x1 v8 v14 v20 (h22 10 618 v8.toNat) h22
                  else none)
                  (fun q24 h22 => tx_ q24 h22))
                (fun q21 h19 => tx_ q21 h19))
              (fun q18 h16 => tx_ q18 h16))
            (fun q15 h13 => tx_ q15 h13))
          (fun q12 h10 => tx_ q12 h10))
        (fun q9 h7 => tx_ q9 h7))
      (fun q6 h4 => tx_ q6 h4))
    (fun q3 h1 => tx_ q3 h1) := by
  rw [fj_run_eq d (by decide) h [(4, 602), (0, x1)] (Nat.le_of_ble_eq_true (by rw [nl_553]; rfl))]
  show gG (fj_run d) 553 0 [(0, (4, 602)), (1, (0, x1))] [] h = _
  exact
    have D : fk_D 553 [(0, none, .aload_n 0, 1, 0, 0, 0), (1, none, .invokevirtual 567, 3, 0, 351, 0), (4, none, .aload_n 0, 1, 0, 0, 0), (5, none, .invokevirtual 728, 3, 0, 382, 0), (8, none, .aload_n 0, 1, 0, 0, 0), (9, none, .invokevirtual 731, 3, 0, 383, 1), (12, none, .istore_n 2, 1, 0, 0, 0), (13, none, .aload_n 0, 1, 0, 0, 0), (14, none, .bipush 44, 2, 0, 44, 0), (16, none, .invokevirtual 624, 3, 1, 356, 0), (19, none, .aload_n 0, 1, 0, 0, 0), (20, none, .invokevirtual 731, 3, 0, 383, 1), (23, none, .istore_n 3, 1, 0, 0, 0), (24, none, .aload_n 0, 1, 0, 0, 0), (25, none, .bipush 44, 2, 0, 44, 0), (27, none, .invokevirtual 624, 3, 1, 356, 0), (30, none, .aload_n 0, 1, 0, 0, 0), (31, none, .invokevirtual 731, 3, 0, 383, 1), (34, none, .istore 4, 2, 0, 0, 0), (36, none, .aload_n 0, 1, 0, 0, 0)] := fq_of2 cd_553 ow_553 cl_553 rfl (pc := 0) (by decide +kernel)
    j_aldn (pc := 0) D rfl rfl rfl fun D =>
    j_ivv (pc := 1) (m := 502) (dd := 351) (a := []) (rest := []) D rfl rfl rfl rfl rfl (by decide) (s0_602 H) (by decide +kernel) (fun h1 e1 D =>
      have T := fj_run_ok _ _ _ _ _ _ H.1 e1
      have H := shp_st H T
      j_aldn (pc := 4) D rfl rfl rfl fun D =>
      j_ivv (pc := 5) (m := 548) (dd := 382) (a := []) (rest := []) D rfl rfl rfl rfl rfl (by decide) (s0_602 H) (by decide +kernel) (fun h4 e1 D =>
        have T := fj_run_ok _ _ _ _ _ _ H.1 e1
        have H := shp_st H T
        j_aldn (pc := 8) D rfl rfl rfl fun D =>
        j_iv (pc := 9) (m := 535) (dd := 383) (a := []) (rest := []) D rfl rfl rfl rfl rfl (by decide) (s0_602 H) (by decide +kernel) (fun v8 h7 e1 D =>
          have T := fj_run_ok _ _ _ _ _ _ H.1 e1
          have H := shp_st H T
          j_istn (pc := 12) (L' := [(2, (0, v8)), (0, (4, 602)), (1, (0, x1))]) D rfl nl_553 rfl rfl fun D =>
          j_aldn (pc := 13) D rfl rfl rfl fun D =>
          j_bp (pc := 14) D rfl fun D =>
          j_ivv (pc := 16) (m := 505) (dd := 356) (a := [(0, 44)]) (rest := []) D rfl rfl rfl rfl rfl (by decide) (s0_602 H) (by decide +kernel) (fun h10 e1 D =>
            have T := fj_run_ok _ _ _ _ _ _ H.1 e1
            have H := shp_st H T
            j_aldn (pc := 19) D rfl rfl rfl fun D =>
            j_iv (pc := 20) (m := 535) (dd := 383) (a := []) (rest := []) D rfl rfl rfl rfl rfl (by decide) (s0_602 H) (by decide +kernel) (fun v14 h13 e1 D =>
              have T := fj_run_ok _ _ _ _ _ _ H.1 e1
              have H := shp_st H T
              j_istn (pc := 23) (L' := [(3, (0, v14)), (2, (0, v8)), (0, (4, 602)), (1, (0, x1))]) D rfl nl_553 rfl rfl fun D =>
              j_aldn (pc := 24) D rfl rfl rfl fun D =>
              j_bp (pc := 25) D rfl fun D =>
              j_ivv (pc := 27) (m := 505) (dd := 356) (a := [(0, 44)]) (rest := []) D rfl rfl rfl rfl rfl (by decide) (s0_602 H) (by decide +kernel) (fun h16 e1 D =>
                have T := fj_run_ok _ _ _ _ _ _ H.1 e1
                have H := shp_st H T
                j_aldn (pc := 30) D rfl rfl rfl fun D =>
                j_iv (pc := 31) (m := 535) (dd := 383) (a := []) (rest := []) D rfl rfl rfl rfl rfl (by decide) (s0_602 H) (by decide +kernel) (fun v20 h19 e1 D =>
                  have T := fj_run_ok _ _ _ _ _ _ H.1 e1
                  have H := shp_st H T
                  j_ist (pc := 34) (L' := [(4, (0, v20)), (3, (0, v14)), (2, (0, v8)), (0, (4, 602)), (1, (0, x1))]) D rfl nl_553 rfl rfl fun D =>
                  j_aldn (pc := 36) D rfl rfl rfl fun D =>
                  have D : fk_D 553 [(37, none, .invokevirtual 734, 3, 0, 384, 0), (40, none, .aload_n 0, 1, 0, 0, 0), (41, none, .getfield 65, 3, 419, 129, 12), (44, none, .iload_n 2, 1, 0, 0, 0), (45, none, .iaload, 1, 0, 0, 0), (46, none, .istore 5, 2, 0, 0, 0), (48, none, .iload 5, 2, 0, 0, 0), (50, none, .iconst 1, 1, 0, 1, 0), (51, none, .if_icmp .eq 22, 3, 73, 0, 0), (54, none, .iload 5, 2, 0, 0, 0), (56, none, .iconst 2, 1, 0, 2, 0), (57, none, .if_icmp .eq 16, 3, 73, 0, 0), (60, none, .iload 5, 2, 0, 0, 0), (62, none, .iconst 3, 1, 0, 3, 0), (63, none, .if_icmp .eq 10, 3, 73, 0, 0), (66, none, .iload 5, 2, 0, 0, 0), (68, none, .bipush 6, 2, 0, 6, 0), (70, none, .if_icmp .ne 28, 3, 98, 0, 0)] := fq_of2 cd_553 ow_553 cl_553 rfl (pc := 37) (by decide +kernel)
                  j_ivv (pc := 37) (m := 550) (dd := 384) (a := []) (rest := []) D rfl rfl rfl rfl rfl (by decide) (s0_602 H) (by decide +kernel) (fun h22 e1 D =>
                    have T := fj_run_ok _ _ _ _ _ _ H.1 e1
                    have H := shp_st H T
                    j_aldn (pc := 40) D rfl rfl rfl fun D =>
                    j_gfc (pc := 41) (a := 602) D rfl rfl (by decide) rfl (s0_602 H) rfl (sf_419_602 H) fun D =>
                    j_ildn (pc := 44) D rfl rfl rfl fun D =>
                    j_al (pc := 45) (a := 618) (e := 10) D rfl rfl rfl (by decide) (s0_618 H) (s1_618 H) ⟨rfl, rfl, rfl⟩ rfl gn fun qb25 D =>
                    j_ist (pc := 46) (L' := [(5, (0, h22 10 618 v8.toNat)), (4, (0, v20)), (3, (0, v14)), (2, (0, v8)), (0, (4, 602)), (1, (0, x1))]) D rfl nl_553 rfl rfl fun D =>
                    j_ild (pc := 48) D rfl rfl rfl fun D =>
                    j_ic (pc := 50) D rfl fun D =>
                    j_ieq (pc := 51) D rfl (fun q =>
                      fk_jump cut_553_73 rfl rfl) (fun q D =>
                      j_ild (pc := 54) D rfl rfl rfl fun D =>
                      j_ic (pc := 56) D rfl fun D =>
                      j_ieq (pc := 57) D rfl (fun q =>
                        fk_jump cut_553_73 rfl rfl) (fun q D =>
                        j_ild (pc := 60) D rfl rfl rfl fun D =>
                        j_ic (pc := 62) D rfl fun D =>
                        j_ieq (pc := 63) D rfl (fun q =>
                          fk_jump cut_553_73 rfl rfl) (fun q D =>
                          j_ild (pc := 66) D rfl rfl rfl fun D =>
                          j_bp (pc := 68) D rfl fun D =>
                          j_ine (pc := 70) D rfl (fun q D =>
                            fk_jump cut_553_73 rfl rfl) (fun q =>
                            fk_jump cut_553_98 rfl rfl))))) (fun q24 h22 e1 =>
                    j_tx (hx_553 _))) (fun q21 h19 e1 =>
                  j_tx (hx_553 _))) (fun q18 h16 e1 =>
                j_tx (hx_553 _))) (fun q15 h13 e1 =>
              j_tx (hx_553 _))) (fun q12 h10 e1 =>
            j_tx (hx_553 _))) (fun q9 h7 e1 =>
          j_tx (hx_553 _))) (fun q6 h4 e1 =>
        j_tx (hx_553 _))) (fun q3 h1 e1 =>
      j_tx (hx_553 _))
/-! 554 StatuteHouseModel.readTabled(II)I -/
theorem cd_554 : fi_code 554 = prog_69_method_72_code := rfl
theorem hx_554 : ∀ pc, fi_hat 554 pc = none := fun pc => by unfold fi_hat; rw [show fi_hh 554 = [] from rfl]; rfl
theorem rt_554 : fi_ret 554 = some .int := rfl
theorem nl_554 : fi_nl 554 = 7 := rfl
theorem ow_554 : fi_ow 554 = 29 := rfl
theorem cl_554 : fj_cutT.getD 554 [] = [(67, [0, 1, 2, 3, 4]), (70, [0, 1, 2, 3, 4]), (74, [0, 1, 2, 3, 4]), (75, [0, 1, 2, 3, 4]), (105, [0, 3, 4])] := rfl
theorem cut_554_67 : fj_cut 554 67 = some [0, 1, 2, 3, 4] := by decide +kernel
noncomputable def c_554_67 (d : Nat) (x1 x2 x3 x4 s0 s1 : Int) (h : fi_H) : fk_R := gG (fj_run d) 554 67 [(0, (4, 602)), (1, (0, x1)), (2, (0, x2)), (3, (0, x3)), (4, (0, x4))] [(0, s1), (0, s0)] h
theorem cut_554_70 : fj_cut 554 70 = some [0, 1, 2, 3, 4] := by decide +kernel
noncomputable def c_554_70 (d : Nat) (x1 x2 x3 x4 : Int) (h : fi_H) : fk_R := gG (fj_run d) 554 70 [(0, (4, 602)), (1, (0, x1)), (2, (0, x2)), (3, (0, x3)), (4, (0, x4))] [] h
theorem cut_554_74 : fj_cut 554 74 = some [0, 1, 2, 3, 4] := by decide +kernel
noncomputable def c_554_74 (d : Nat) (x1 x2 x3 x4 : Int) (h : fi_H) : fk_R := gG (fj_run d) 554 74 [(0, (4, 602)), (1, (0, x1)), (2, (0, x2)), (3, (0, x3)), (4, (0, x4))] [] h
theorem cut_554_75 : fj_cut 554 75 = some [0, 1, 2, 3, 4] := by decide +kernel
noncomputable def c_554_75 (d : Nat) (x1 x2 x3 x4 s0 : Int) (h : fi_H) : fk_R := gG (fj_run d) 554 75 [(0, (4, 602)), (1, (0, x1)), (2, (0, x2)), (3, (0, x3)), (4, (0, x4))] [(0, s0)] h
theorem cut_554_105 : fj_cut 554 105 = some [0, 3, 4] := by decide +kernel
noncomputable def c_554_105 (d : Nat) (x3 x4 s0 s1 s2 s3 : Int) (h : fi_H) : fk_R := gG (fj_run d) 554 105 [(0, (4, 602)), (3, (0, x3)), (4, (0, x4))] [(0, s3), (0, s2), (0, s1), (4, s0)] h
theorem e_554_67 (d : Nat) (x1 x2 x3 x4 s0 s1 : Int) {h : fi_H} (H : Shp h) : c_554_67 d x1 x2 x3 x4 s0 s1 h =
  if s0 = s1 then
    c_554_70 d x1 x2 x3 x4 h
  else
    c_554_74 d x1 x2 x3 x4 h := by
  unfold c_554_67
  exact
    have D : fk_D 554 [(67, some [0, 1, 2, 3, 4], .if_icmp .ne 7, 3, 74, 0, 0)] := fq_of2 cd_554 ow_554 cl_554 rfl (pc := 67) (by decide +kernel)
    j_ine (pc := 67) D rfl (fun q D =>
      fk_jump cut_554_70 rfl rfl) (fun q =>
      fk_jump cut_554_74 rfl rfl)
theorem e_554_70 (d : Nat) (x1 x2 x3 x4 : Int) {h : fi_H} (H : Shp h) : c_554_70 d x1 x2 x3 x4 h =
  c_554_75 d x1 x2 x3 x4 1 h := by
  unfold c_554_70
  exact
    have D : fk_D 554 [(70, some [0, 1, 2, 3, 4], .iconst 1, 1, 0, 1, 0), (71, none, .goto 4, 3, 75, 0, 0)] := fq_of2 cd_554 ow_554 cl_554 rfl (pc := 70) (by decide +kernel)
    j_ic (pc := 70) D rfl fun D =>
    j_goto (pc := 71) D rfl <|
    fk_jump cut_554_75 rfl rfl
theorem e_554_74 (d : Nat) (x1 x2 x3 x4 : Int) {h : fi_H} (H : Shp h) : c_554_74 d x1 x2 x3 x4 h =
  c_554_75 d x1 x2 x3 x4 0 h := by
  unfold c_554_74
  exact
    have D : fk_D 554 [(74, some [0, 1, 2, 3, 4], .iconst 0, 1, 0, 0, 0)] := fq_of2 cd_554 ow_554 cl_554 rfl (pc := 74) (by decide +kernel)
    j_ic (pc := 74) D rfl fun D =>
    fk_jump cut_554_75 rfl rfl
theorem e_554_75 (d : Nat) (x1 x2 x3 x4 s0 : Int) {h : fi_H} (H : Shp h) : c_554_75 d x1 x2 x3 x4 s0 h =
  if s0 = 0 then
    c_554_105 d x3 x4 602 x2 x1 (-1) h
  else
    if x2 = 25 then
      if 0 ≤ x3 ∧ x3 < 41 then
      c_554_105 d x3 x4 602 x2 x1 (h 10 611 x3.toNat) h
      else none
    else
      c_554_105 d x3 x4 602 x2 x1 2 h := by
  unfold c_554_75
  exact
    have D : fk_D 554 [(75, some [0, 1, 2, 3, 4], .istore 5, 2, 0, 0, 0), (77, none, .aload_n 0, 1, 0, 0, 0), (78, none, .iload_n 2, 1, 0, 0, 0), (79, none, .iload_n 1, 1, 0, 0, 0), (80, none, .iload 5, 2, 0, 0, 0), (82, none, .ifCond .ne 7, 3, 89, 0, 0), (85, none, .iconst (-1), 1, 0, (-1), 0), (86, none, .goto 19, 3, 105, 0, 0)] := fq_of2 cd_554 ow_554 cl_554 rfl (pc := 75) (by decide +kernel)
    j_ist (pc := 75) (L' := [(5, (0, s0)), (0, (4, 602)), (1, (0, x1)), (2, (0, x2)), (3, (0, x3)), (4, (0, x4))]) D rfl nl_554 rfl rfl fun D =>
    j_aldn (pc := 77) D rfl rfl rfl fun D =>
    j_ildn (pc := 78) D rfl rfl rfl fun D =>
    j_ildn (pc := 79) D rfl rfl rfl fun D =>
    j_ild (pc := 80) D rfl rfl rfl fun D =>
    j_ifne (pc := 82) D rfl (fun q D =>
      j_ic (pc := 85) D rfl fun D =>
      j_goto (pc := 86) D rfl <|
      fk_jump cut_554_105 rfl rfl) (fun q =>
      have D : fk_D 554 [(89, none, .iload_n 2, 1, 0, 0, 0), (90, none, .bipush 25, 2, 0, 25, 0), (92, none, .if_icmp .ne 12, 3, 104, 0, 0), (95, none, .aload_n 0, 1, 0, 0, 0), (96, none, .getfield 43, 3, 407, 129, 12), (99, none, .iload_n 3, 1, 0, 0, 0), (100, none, .iaload, 1, 0, 0, 0), (101, none, .goto 4, 3, 105, 0, 0)] := fq_of2 cd_554 ow_554 cl_554 rfl (pc := 89) (by decide +kernel)
      j_ildn (pc := 89) D rfl rfl rfl fun D =>
      j_bp (pc := 90) D rfl fun D =>
      j_ine (pc := 92) D rfl (fun q D =>
        j_aldn (pc := 95) D rfl rfl rfl fun D =>
        j_gfc (pc := 96) (a := 602) D rfl rfl (by decide) rfl (s0_602 H) rfl (sf_407_602 H) fun D =>
        j_ildn (pc := 99) D rfl rfl rfl fun D =>
        j_al (pc := 100) (a := 611) (e := 10) D rfl rfl rfl (by decide) (s0_611 H) (s1_611 H) ⟨rfl, rfl, rfl⟩ rfl gn fun qb1 D =>
        j_goto (pc := 101) D rfl <|
        fk_jump cut_554_105 rfl rfl) (fun q =>
        have D : fk_D 554 [(104, none, .iconst 2, 1, 0, 2, 0)] := fq_of2 cd_554 ow_554 cl_554 rfl (pc := 104) (by decide +kernel)
        j_ic (pc := 104) D rfl fun D =>
        fk_jump cut_554_105 rfl rfl))
theorem e_554_105 (d : Nat) (x3 x4 s0 s1 s2 s3 : Int) {h : fi_H} (H : Shp h) : c_554_105 d x3 x4 s0 s1 s2 s3 h =
  dv_ (fi_vt 368 (h 0 s0.toNat 0)) fun m4 => ca_ (fj_run d m4 h [(4, s0), (0, s1), (0, s2), (0, s3), (0, x4), (0, (-1)), (0, (-1))]) 0
    (fun v2 h1 =>
    if 0 ≤ v2 ∧ v2 < 9300 then
    lt_ (fi_upd h1 11 623 v2.toNat (wI x3)) fun h5 =>
    some (.inl (some (0, v2)), h5)
    else none)
    (fun q3 h1 => tx_ q3 h1) := by
  unfold c_554_105
  exact
    have D : fk_D 554 [(105, some [0, 3, 4], .iload 4, 2, 0, 0, 0), (107, none, .iconst (-1), 1, 0, (-1), 0), (108, none, .iconst (-1), 1, 0, (-1), 0), (109, none, .invokevirtual 683, 3, 6, 368, 1), (112, none, .istore 6, 2, 0, 0, 0), (114, none, .aload_n 0, 1, 0, 0, 0), (115, none, .getfield 80, 3, 424, 129, 12), (118, none, .iload 6, 2, 0, 0, 0), (120, none, .iload_n 3, 1, 0, 0, 0), (121, none, .i2l, 1, 0, 0, 0), (122, none, .lastore, 1, 0, 0, 0), (123, none, .iload 6, 2, 0, 0, 0), (125, none, .ireturn, 1, 0, 0, 0)] := fq_of2 cd_554 ow_554 cl_554 rfl (pc := 105) (by decide +kernel)
    j_ild (pc := 105) D rfl rfl rfl fun D =>
    j_ic (pc := 107) D rfl fun D =>
    j_ic (pc := 108) D rfl fun D =>
    j_ivu (pc := 109) (dd := 368) (a := [(0, s1), (0, s2), (0, s3), (0, x4), (0, (-1)), (0, (-1))]) (rest := []) H.2.1 D rfl rfl rfl rfl rfl (fun m4 v2 h1 e1 D =>
      have T := fj_run_ok _ _ _ _ _ _ H.1 e1
      have H := shp_st H T
      j_ist (pc := 112) (L' := [(6, (0, v2)), (0, (4, 602)), (3, (0, x3)), (4, (0, x4))]) D rfl nl_554 rfl rfl fun D =>
      j_aldn (pc := 114) D rfl rfl rfl fun D =>
      j_gfc (pc := 115) (a := 602) D rfl rfl (by decide) rfl (s0_602 H) rfl (sf_424_602 H) fun D =>
      j_ild (pc := 118) D rfl rfl rfl fun D =>
      j_ildn (pc := 120) D rfl rfl rfl fun D =>
      j_i2l (pc := 121) D rfl fun D =>
      j_as (pc := 122) (a := 623) (e := 11) D rfl ⟨rfl, rfl⟩ rfl (by decide) (s0_623 H) (s1_623 H) ⟨rfl, rfl, rfl⟩ rfl gn (gy rfl) fun h5 eh5 S qb6 D =>
      have T := fj_hs_ok H.1 S
      have H := shp_st H T
      j_ild (pc := 123) D rfl rfl rfl fun D =>
      j_iret D rt_554) (fun m4 q3 h1 e1 =>
      j_tx (hx_554 _))
theorem m_554 (d : Nat) (x1 x2 : Int) {h : fi_H} (H : Shp h) : fj_run (d + 1) 554 h [(4, 602), (0, x1), (0, x2)] =
  cv_ (fj_run d 502 h [(4, 602)])
    (fun h1 =>
    cv_ (fj_run d 548 h1 [(4, 602)])
      (fun h4 =>
      ca_ (fj_run d 533 h4 [(4, 602)]) 0
        (fun v8 h7 =>
        cv_ (fj_run d 502 h7 [(4, 602)])
          (fun h10 =>
          cv_ (fj_run d 505 h10 [(4, 602), (0, 44)])
            (fun h13 =>
            ca_ (fj_run d 535 h13 [(4, 602)]) 0
              (fun v17 h16 =>
              cv_ (fj_run d 550 h16 [(4, 602)])
                (fun h19 =>
                if 0 ≤ v17 ∧ v17 < 9300 then
                if h19 10 618 v17.toNat = 2 then
                  if x2 = 25 then
                    c_554_70 d x1 x2 v8 v17 h19
                  else
                    if 0 ≤ v8 ∧ v8 < 41 then
                    if x2 = 26 then
                      c_554_67 d x1 x2 v8 v17 (h19 10 611 v8.toNat) 3 h19
                    else
                      c_554_67 d x1 x2 v8 v17 (h19 10 611 v8.toNat) 2 h19
                    else none
                else
                  c_554_74 d x1 x2 v8 v17 h19
                else none)
                (fun q21 h19 => tx_ q21 h19))
              (fun q18 h16 => tx_ q18 h16))
            (fun q15 h13 => tx_ q15 h13))
          (fun q12 h10 => tx_ q12 h10))
        (fun q9 h7 => tx_ q9 h7))
      (fun q6 h4 => tx_ q6 h4))
    (fun q3 h1 => tx_ q3 h1) := by
  rw [fj_run_eq d (by decide) h [(4, 602), (0, x1), (0, x2)] (Nat.le_of_ble_eq_true (by rw [nl_554]; rfl))]
  show gG (fj_run d) 554 0 [(0, (4, 602)), (1, (0, x1)), (2, (0, x2))] [] h = _
  exact
    have D : fk_D 554 [(0, none, .aload_n 0, 1, 0, 0, 0), (1, none, .invokevirtual 567, 3, 0, 351, 0), (4, none, .aload_n 0, 1, 0, 0, 0), (5, none, .invokevirtual 728, 3, 0, 382, 0), (8, none, .aload_n 0, 1, 0, 0, 0), (9, none, .invokevirtual 764, 3, 0, 390, 1), (12, none, .istore_n 3, 1, 0, 0, 0), (13, none, .aload_n 0, 1, 0, 0, 0), (14, none, .invokevirtual 567, 3, 0, 351, 0), (17, none, .aload_n 0, 1, 0, 0, 0), (18, none, .bipush 44, 2, 0, 44, 0), (20, none, .invokevirtual 624, 3, 1, 356, 0), (23, none, .aload_n 0, 1, 0, 0, 0), (24, none, .invokevirtual 731, 3, 0, 383, 1), (27, none, .istore 4, 2, 0, 0, 0), (29, none, .aload_n 0, 1, 0, 0, 0), (30, none, .invokevirtual 734, 3, 0, 384, 0), (33, none, .aload_n 0, 1, 0, 0, 0), (34, none, .getfield 65, 3, 419, 129, 12), (37, none, .iload 4, 2, 0, 0, 0)] := fq_of2 cd_554 ow_554 cl_554 rfl (pc := 0) (by decide +kernel)
    j_aldn (pc := 0) D rfl rfl rfl fun D =>
    j_ivv (pc := 1) (m := 502) (dd := 351) (a := []) (rest := []) D rfl rfl rfl rfl rfl (by decide) (s0_602 H) (by decide +kernel) (fun h1 e1 D =>
      have T := fj_run_ok _ _ _ _ _ _ H.1 e1
      have H := shp_st H T
      j_aldn (pc := 4) D rfl rfl rfl fun D =>
      j_ivv (pc := 5) (m := 548) (dd := 382) (a := []) (rest := []) D rfl rfl rfl rfl rfl (by decide) (s0_602 H) (by decide +kernel) (fun h4 e1 D =>
        have T := fj_run_ok _ _ _ _ _ _ H.1 e1
        have H := shp_st H T
        j_aldn (pc := 8) D rfl rfl rfl fun D =>
        j_iv (pc := 9) (m := 533) (dd := 390) (a := []) (rest := []) D rfl rfl rfl rfl rfl (by decide) (s0_602 H) (by decide +kernel) (fun v8 h7 e1 D =>
          have T := fj_run_ok _ _ _ _ _ _ H.1 e1
          have H := shp_st H T
          j_istn (pc := 12) (L' := [(3, (0, v8)), (0, (4, 602)), (1, (0, x1)), (2, (0, x2))]) D rfl nl_554 rfl rfl fun D =>
          j_aldn (pc := 13) D rfl rfl rfl fun D =>
          j_ivv (pc := 14) (m := 502) (dd := 351) (a := []) (rest := []) D rfl rfl rfl rfl rfl (by decide) (s0_602 H) (by decide +kernel) (fun h10 e1 D =>
            have T := fj_run_ok _ _ _ _ _ _ H.1 e1
            have H := shp_st H T
            j_aldn (pc := 17) D rfl rfl rfl fun D =>
            j_bp (pc := 18) D rfl fun D =>
            j_ivv (pc := 20) (m := 505) (dd := 356) (a := [(0, 44)]) (rest := []) D rfl rfl rfl rfl rfl (by decide) (s0_602 H) (by decide +kernel) (fun h13 e1 D =>
              have T := fj_run_ok _ _ _ _ _ _ H.1 e1
              have H := shp_st H T
              j_aldn (pc := 23) D rfl rfl rfl fun D =>
              j_iv (pc := 24) (m := 535) (dd := 383) (a := []) (rest := []) D rfl rfl rfl rfl rfl (by decide) (s0_602 H) (by decide +kernel) (fun v17 h16 e1 D =>
                have T := fj_run_ok _ _ _ _ _ _ H.1 e1
                have H := shp_st H T
                j_ist (pc := 27) (L' := [(4, (0, v17)), (3, (0, v8)), (0, (4, 602)), (1, (0, x1)), (2, (0, x2))]) D rfl nl_554 rfl rfl fun D =>
                j_aldn (pc := 29) D rfl rfl rfl fun D =>
                j_ivv (pc := 30) (m := 550) (dd := 384) (a := []) (rest := []) D rfl rfl rfl rfl rfl (by decide) (s0_602 H) (by decide +kernel) (fun h19 e1 D =>
                  have T := fj_run_ok _ _ _ _ _ _ H.1 e1
                  have H := shp_st H T
                  j_aldn (pc := 33) D rfl rfl rfl fun D =>
                  j_gfc (pc := 34) (a := 602) D rfl rfl (by decide) rfl (s0_602 H) rfl (sf_419_602 H) fun D =>
                  j_ild (pc := 37) D rfl rfl rfl fun D =>
                  have D : fk_D 554 [(39, none, .iaload, 1, 0, 0, 0), (40, none, .iconst 2, 1, 0, 2, 0), (41, none, .if_icmp .ne 33, 3, 74, 0, 0), (44, none, .iload_n 2, 1, 0, 0, 0), (45, none, .bipush 25, 2, 0, 25, 0), (47, none, .if_icmp .eq 23, 3, 70, 0, 0), (50, none, .aload_n 0, 1, 0, 0, 0), (51, none, .getfield 43, 3, 407, 129, 12), (54, none, .iload_n 3, 1, 0, 0, 0), (55, none, .iaload, 1, 0, 0, 0), (56, none, .iload_n 2, 1, 0, 0, 0), (57, none, .bipush 26, 2, 0, 26, 0), (59, none, .if_icmp .ne 7, 3, 66, 0, 0), (62, none, .iconst 3, 1, 0, 3, 0), (63, none, .goto 4, 3, 67, 0, 0)] := fq_of2 cd_554 ow_554 cl_554 rfl (pc := 39) (by decide +kernel)
                  j_al (pc := 39) (a := 618) (e := 10) D rfl rfl rfl (by decide) (s0_618 H) (s1_618 H) ⟨rfl, rfl, rfl⟩ rfl gn fun qb22 D =>
                  j_ic (pc := 40) D rfl fun D =>
                  j_ine (pc := 41) D rfl (fun q D =>
                    j_ildn (pc := 44) D rfl rfl rfl fun D =>
                    j_bp (pc := 45) D rfl fun D =>
                    j_ieq (pc := 47) D rfl (fun q =>
                      fk_jump cut_554_70 rfl rfl) (fun q D =>
                      j_aldn (pc := 50) D rfl rfl rfl fun D =>
                      j_gfc (pc := 51) (a := 602) D rfl rfl (by decide) rfl (s0_602 H) rfl (sf_407_602 H) fun D =>
                      j_ildn (pc := 54) D rfl rfl rfl fun D =>
                      j_al (pc := 55) (a := 611) (e := 10) D rfl rfl rfl (by decide) (s0_611 H) (s1_611 H) ⟨rfl, rfl, rfl⟩ rfl gn fun qb23 D =>
                      j_ildn (pc := 56) D rfl rfl rfl fun D =>
                      j_bp (pc := 57) D rfl fun D =>
                      j_ine (pc := 59) D rfl (fun q D =>
                        j_ic (pc := 62) D rfl fun D =>
                        j_goto (pc := 63) D rfl <|
                        fk_jump cut_554_67 rfl rfl) (fun q =>
                        have D : fk_D 554 [(66, none, .iconst 2, 1, 0, 2, 0)] := fq_of2 cd_554 ow_554 cl_554 rfl (pc := 66) (by decide +kernel)
                        j_ic (pc := 66) D rfl fun D =>
                        fk_jump cut_554_67 rfl rfl))) (fun q =>
                    fk_jump cut_554_74 rfl rfl)) (fun q21 h19 e1 =>
                  j_tx (hx_554 _))) (fun q18 h16 e1 =>
                j_tx (hx_554 _))) (fun q15 h13 e1 =>
              j_tx (hx_554 _))) (fun q12 h10 e1 =>
            j_tx (hx_554 _))) (fun q9 h7 e1 =>
          j_tx (hx_554 _))) (fun q6 h4 e1 =>
        j_tx (hx_554 _))) (fun q3 h1 e1 =>
      j_tx (hx_554 _))
/-! 555 StatuteHouseModel.readSet(II)I -/
theorem cd_555 : fi_code 555 = prog_69_method_75_code := rfl
theorem hx_555 : ∀ pc, fi_hat 555 pc = none := fun pc => by unfold fi_hat; rw [show fi_hh 555 = [] from rfl]; rfl
theorem rt_555 : fi_ret 555 = some .int := rfl
theorem nl_555 : fi_nl 555 = 9 := rfl
theorem ow_555 : fi_ow 555 = 29 := rfl
theorem cl_555 : fj_cutT.getD 555 [] = [(38, [0, 1, 2, 3, 4]), (80, [0, 1, 3, 4, 5]), (114, [0, 1, 3, 4, 5, 6]), (147, [0, 1, 3, 4, 5, 6]), (175, [0, 3, 4])] := rfl
theorem cut_555_38 : fj_cut 555 38 = some [0, 1, 2, 3, 4] := by decide +kernel
noncomputable def c_555_38 (d : Nat) (x1 x2 x3 x4 : Int) (h : fi_H) : fk_R := gG (fj_run d) 555 38 [(0, (4, 602)), (1, (0, x1)), (2, (0, x2)), (3, (0, x3)), (4, (0, x4))] [] h
theorem cut_555_80 : fj_cut 555 80 = some [0, 1, 3, 4, 5] := by decide +kernel
noncomputable def c_555_80 (d : Nat) (x1 x3 x4 x5 s0 : Int) (h : fi_H) : fk_R := gG (fj_run d) 555 80 [(0, (4, 602)), (1, (0, x1)), (3, (0, x3)), (4, (0, x4)), (5, (0, x5))] [(0, s0)] h
theorem cut_555_114 : fj_cut 555 114 = some [0, 1, 3, 4, 5, 6] := by decide +kernel
noncomputable def c_555_114 (d : Nat) (x1 x3 x4 x5 x6 : Int) (h : fi_H) : fk_R := gG (fj_run d) 555 114 [(0, (4, 602)), (1, (0, x1)), (3, (0, x3)), (4, (0, x4)), (5, (0, x5)), (6, (0, x6))] [] h
theorem cut_555_147 : fj_cut 555 147 = some [0, 1, 3, 4, 5, 6] := by decide +kernel
noncomputable def c_555_147 (d : Nat) (x1 x3 x4 x5 x6 s0 : Int) (h : fi_H) : fk_R := gG (fj_run d) 555 147 [(0, (4, 602)), (1, (0, x1)), (3, (0, x3)), (4, (0, x4)), (5, (0, x5)), (6, (0, x6))] [(0, s0)] h
theorem cut_555_175 : fj_cut 555 175 = some [0, 3, 4] := by decide +kernel
noncomputable def c_555_175 (d : Nat) (x3 x4 s0 s1 s2 s3 : Int) (h : fi_H) : fk_R := gG (fj_run d) 555 175 [(0, (4, 602)), (3, (0, x3)), (4, (0, x4))] [(0, s3), (0, s2), (0, s1), (4, s0)] h
theorem e_555_38 (d : Nat) (x1 x2 x3 x4 : Int) {h : fi_H} (H : Shp h) : c_555_38 d x1 x2 x3 x4 h =
  cv_ (fj_run d 550 h [(4, 602)])
    (fun h1 =>
    if 0 ≤ x3 ∧ x3 < 9300 then
    if x2 = 52 then
      c_555_80 d x1 x3 x4 (h1 10 618 x3.toNat) 60 h1
    else
      if x2 = 3 then
        c_555_80 d x1 x3 x4 (h1 10 618 x3.toNat) 61 h1
      else
        c_555_80 d x1 x3 x4 (h1 10 618 x3.toNat) (wI ((wI ((wI (62 + x2)) - 52)) - 1)) h1
    else none)
    (fun q3 h1 => tx_ q3 h1) := by
  unfold c_555_38
  exact
    have D : fk_D 555 [(38, some [0, 1, 2, 3, 4], .aload_n 0, 1, 0, 0, 0), (39, none, .invokevirtual 734, 3, 0, 384, 0), (42, none, .aload_n 0, 1, 0, 0, 0), (43, none, .getfield 65, 3, 419, 129, 12), (46, none, .iload_n 3, 1, 0, 0, 0), (47, none, .iaload, 1, 0, 0, 0), (48, none, .istore 5, 2, 0, 0, 0), (50, none, .iload_n 2, 1, 0, 0, 0), (51, none, .bipush 52, 2, 0, 52, 0), (53, none, .if_icmp .ne 8, 3, 61, 0, 0), (56, none, .bipush 60, 2, 0, 60, 0), (58, none, .goto 22, 3, 80, 0, 0)] := fq_of2 cd_555 ow_555 cl_555 rfl (pc := 38) (by decide +kernel)
    j_aldn (pc := 38) D rfl rfl rfl fun D =>
    j_ivv (pc := 39) (m := 550) (dd := 384) (a := []) (rest := []) D rfl rfl rfl rfl rfl (by decide) (s0_602 H) (by decide +kernel) (fun h1 e1 D =>
      have T := fj_run_ok _ _ _ _ _ _ H.1 e1
      have H := shp_st H T
      j_aldn (pc := 42) D rfl rfl rfl fun D =>
      j_gfc (pc := 43) (a := 602) D rfl rfl (by decide) rfl (s0_602 H) rfl (sf_419_602 H) fun D =>
      j_ildn (pc := 46) D rfl rfl rfl fun D =>
      j_al (pc := 47) (a := 618) (e := 10) D rfl rfl rfl (by decide) (s0_618 H) (s1_618 H) ⟨rfl, rfl, rfl⟩ rfl gn fun qb4 D =>
      j_ist (pc := 48) (L' := [(5, (0, h1 10 618 x3.toNat)), (0, (4, 602)), (1, (0, x1)), (2, (0, x2)), (3, (0, x3)), (4, (0, x4))]) D rfl nl_555 rfl rfl fun D =>
      j_ildn (pc := 50) D rfl rfl rfl fun D =>
      j_bp (pc := 51) D rfl fun D =>
      j_ine (pc := 53) D rfl (fun q D =>
        j_bp (pc := 56) D rfl fun D =>
        j_goto (pc := 58) D rfl <|
        fk_jump cut_555_80 rfl rfl) (fun q =>
        have D : fk_D 555 [(61, none, .iload_n 2, 1, 0, 0, 0), (62, none, .iconst 3, 1, 0, 3, 0), (63, none, .if_icmp .ne 8, 3, 71, 0, 0), (66, none, .bipush 61, 2, 0, 61, 0), (68, none, .goto 12, 3, 80, 0, 0)] := fq_of2 cd_555 ow_555 cl_555 rfl (pc := 61) (by decide +kernel)
        j_ildn (pc := 61) D rfl rfl rfl fun D =>
        j_ic (pc := 62) D rfl fun D =>
        j_ine (pc := 63) D rfl (fun q D =>
          j_bp (pc := 66) D rfl fun D =>
          j_goto (pc := 68) D rfl <|
          fk_jump cut_555_80 rfl rfl) (fun q =>
          have D : fk_D 555 [(71, none, .bipush 62, 2, 0, 62, 0), (73, none, .iload_n 2, 1, 0, 0, 0), (74, none, .iadd, 1, 0, 0, 0), (75, none, .bipush 52, 2, 0, 52, 0), (77, none, .isub, 1, 0, 0, 0), (78, none, .iconst 1, 1, 0, 1, 0), (79, none, .isub, 1, 0, 0, 0)] := fq_of2 cd_555 ow_555 cl_555 rfl (pc := 71) (by decide +kernel)
          j_bp (pc := 71) D rfl fun D =>
          j_ildn (pc := 73) D rfl rfl rfl fun D =>
          j_iadd (pc := 74) D rfl fun D =>
          j_bp (pc := 75) D rfl fun D =>
          j_isub (pc := 77) D rfl fun D =>
          j_ic (pc := 78) D rfl fun D =>
          j_isub (pc := 79) D rfl fun D =>
          fk_jump cut_555_80 rfl rfl))) (fun q3 h1 e1 =>
      j_tx (hx_555 _))
theorem e_555_80 (d : Nat) (x1 x3 x4 x5 s0 : Int) {h : fi_H} (H : Shp h) : c_555_80 d x1 x3 x4 x5 s0 h =
  if s0 = 60 then
    if x5 = 1 then
      c_555_114 d x1 x3 x4 x5 s0 h
    else
      if x5 = 2 then
        c_555_114 d x1 x3 x4 x5 s0 h
      else
        if x5 = 3 then
          c_555_114 d x1 x3 x4 x5 s0 h
        else
          if x5 = 6 then
            c_555_114 d x1 x3 x4 x5 s0 h
          else
            c_555_147 d x1 x3 x4 x5 s0 0 h
  else
    if 63 < s0 then
      ca_ (fj_run d 556 h [(0, x5)]) 0
        (fun v2 h1 =>
        c_555_147 d x1 x3 x4 x5 s0 v2 h1)
        (fun q3 h1 => tx_ q3 h1)
    else
      if x5 = 0 then
        c_555_147 d x1 x3 x4 x5 s0 1 h
      else
        c_555_147 d x1 x3 x4 x5 s0 0 h := by
  unfold c_555_80
  exact
    have D : fk_D 555 [(80, some [0, 1, 3, 4, 5], .istore 6, 2, 0, 0, 0), (82, none, .iload 6, 2, 0, 0, 0), (84, none, .bipush 60, 2, 0, 60, 0), (86, none, .if_icmp .ne 36, 3, 122, 0, 0), (89, none, .iload 5, 2, 0, 0, 0), (91, none, .iconst 1, 1, 0, 1, 0), (92, none, .if_icmp .eq 22, 3, 114, 0, 0), (95, none, .iload 5, 2, 0, 0, 0), (97, none, .iconst 2, 1, 0, 2, 0), (98, none, .if_icmp .eq 16, 3, 114, 0, 0), (101, none, .iload 5, 2, 0, 0, 0), (103, none, .iconst 3, 1, 0, 3, 0), (104, none, .if_icmp .eq 10, 3, 114, 0, 0), (107, none, .iload 5, 2, 0, 0, 0), (109, none, .bipush 6, 2, 0, 6, 0), (111, none, .if_icmp .ne 7, 3, 118, 0, 0)] := fq_of2 cd_555 ow_555 cl_555 rfl (pc := 80) (by decide +kernel)
    j_ist (pc := 80) (L' := [(6, (0, s0)), (0, (4, 602)), (1, (0, x1)), (3, (0, x3)), (4, (0, x4)), (5, (0, x5))]) D rfl nl_555 rfl rfl fun D =>
    j_ild (pc := 82) D rfl rfl rfl fun D =>
    j_bp (pc := 84) D rfl fun D =>
    j_ine (pc := 86) D rfl (fun q D =>
      j_ild (pc := 89) D rfl rfl rfl fun D =>
      j_ic (pc := 91) D rfl fun D =>
      j_ieq (pc := 92) D rfl (fun q =>
        fk_jump cut_555_114 rfl rfl) (fun q D =>
        j_ild (pc := 95) D rfl rfl rfl fun D =>
        j_ic (pc := 97) D rfl fun D =>
        j_ieq (pc := 98) D rfl (fun q =>
          fk_jump cut_555_114 rfl rfl) (fun q D =>
          j_ild (pc := 101) D rfl rfl rfl fun D =>
          j_ic (pc := 103) D rfl fun D =>
          j_ieq (pc := 104) D rfl (fun q =>
            fk_jump cut_555_114 rfl rfl) (fun q D =>
            j_ild (pc := 107) D rfl rfl rfl fun D =>
            j_bp (pc := 109) D rfl fun D =>
            j_ine (pc := 111) D rfl (fun q D =>
              fk_jump cut_555_114 rfl rfl) (fun q =>
              have D : fk_D 555 [(118, none, .iconst 0, 1, 0, 0, 0), (119, none, .goto 28, 3, 147, 0, 0)] := fq_of2 cd_555 ow_555 cl_555 rfl (pc := 118) (by decide +kernel)
              j_ic (pc := 118) D rfl fun D =>
              j_goto (pc := 119) D rfl <|
              fk_jump cut_555_147 rfl rfl))))) (fun q =>
      have D : fk_D 555 [(122, none, .iload 6, 2, 0, 0, 0), (124, none, .bipush 63, 2, 0, 63, 0), (126, none, .if_icmp .gt 16, 3, 142, 0, 0), (129, none, .iload 5, 2, 0, 0, 0), (131, none, .ifCond .ne 7, 3, 138, 0, 0), (134, none, .iconst 1, 1, 0, 1, 0), (135, none, .goto 12, 3, 147, 0, 0)] := fq_of2 cd_555 ow_555 cl_555 rfl (pc := 122) (by decide +kernel)
      j_ild (pc := 122) D rfl rfl rfl fun D =>
      j_bp (pc := 124) D rfl fun D =>
      j_igt (pc := 126) D rfl (fun q =>
        have D : fk_D 555 [(142, none, .iload 5, 2, 0, 0, 0), (144, none, .invokestatic 677, 3, 1, 556, 1)] := fq_of2 cd_555 ow_555 cl_555 rfl (pc := 142) (by decide +kernel)
        j_ild (pc := 142) D rfl rfl rfl fun D =>
        j_is (pc := 144) (m := 556) (a := [(0, x5)]) (rest := []) D rfl rfl rfl rfl (fun v2 h1 e1 D =>
          have T := fj_run_ok _ _ _ _ _ _ H.1 e1
          have H := shp_st H T
          fk_jump cut_555_147 rfl rfl) (fun q3 h1 e1 =>
          j_tx (hx_555 _))) (fun q D =>
        j_ild (pc := 129) D rfl rfl rfl fun D =>
        j_ifne (pc := 131) D rfl (fun q D =>
          j_ic (pc := 134) D rfl fun D =>
          j_goto (pc := 135) D rfl <|
          fk_jump cut_555_147 rfl rfl) (fun q =>
          have D : fk_D 555 [(138, none, .iconst 0, 1, 0, 0, 0), (139, none, .goto 8, 3, 147, 0, 0)] := fq_of2 cd_555 ow_555 cl_555 rfl (pc := 138) (by decide +kernel)
          j_ic (pc := 138) D rfl fun D =>
          j_goto (pc := 139) D rfl <|
          fk_jump cut_555_147 rfl rfl)))
theorem e_555_114 (d : Nat) (x1 x3 x4 x5 x6 : Int) {h : fi_H} (H : Shp h) : c_555_114 d x1 x3 x4 x5 x6 h =
  c_555_147 d x1 x3 x4 x5 x6 1 h := by
  unfold c_555_114
  exact
    have D : fk_D 555 [(114, some [0, 1, 3, 4, 5, 6], .iconst 1, 1, 0, 1, 0), (115, none, .goto 32, 3, 147, 0, 0)] := fq_of2 cd_555 ow_555 cl_555 rfl (pc := 114) (by decide +kernel)
    j_ic (pc := 114) D rfl fun D =>
    j_goto (pc := 115) D rfl <|
    fk_jump cut_555_147 rfl rfl
theorem e_555_147 (d : Nat) (x1 x3 x4 x5 x6 s0 : Int) {h : fi_H} (H : Shp h) : c_555_147 d x1 x3 x4 x5 x6 s0 h =
  if s0 = 0 then
    c_555_175 d x3 x4 602 x6 x1 (-1) h
  else
    if x6 = 61 then
      c_555_175 d x3 x4 602 x6 x1 1 h
    else
      c_555_175 d x3 x4 602 x6 x1 x5 h := by
  unfold c_555_147
  exact
    have D : fk_D 555 [(147, some [0, 1, 3, 4, 5, 6], .istore 7, 2, 0, 0, 0), (149, none, .aload_n 0, 1, 0, 0, 0), (150, none, .iload 6, 2, 0, 0, 0), (152, none, .iload_n 1, 1, 0, 0, 0), (153, none, .iload 7, 2, 0, 0, 0), (155, none, .ifCond .ne 7, 3, 162, 0, 0), (158, none, .iconst (-1), 1, 0, (-1), 0), (159, none, .goto 16, 3, 175, 0, 0)] := fq_of2 cd_555 ow_555 cl_555 rfl (pc := 147) (by decide +kernel)
    j_ist (pc := 147) (L' := [(7, (0, s0)), (0, (4, 602)), (1, (0, x1)), (3, (0, x3)), (4, (0, x4)), (5, (0, x5)), (6, (0, x6))]) D rfl nl_555 rfl rfl fun D =>
    j_aldn (pc := 149) D rfl rfl rfl fun D =>
    j_ild (pc := 150) D rfl rfl rfl fun D =>
    j_ildn (pc := 152) D rfl rfl rfl fun D =>
    j_ild (pc := 153) D rfl rfl rfl fun D =>
    j_ifne (pc := 155) D rfl (fun q D =>
      j_ic (pc := 158) D rfl fun D =>
      j_goto (pc := 159) D rfl <|
      fk_jump cut_555_175 rfl rfl) (fun q =>
      have D : fk_D 555 [(162, none, .iload 6, 2, 0, 0, 0), (164, none, .bipush 61, 2, 0, 61, 0), (166, none, .if_icmp .ne 7, 3, 173, 0, 0), (169, none, .iconst 1, 1, 0, 1, 0), (170, none, .goto 5, 3, 175, 0, 0)] := fq_of2 cd_555 ow_555 cl_555 rfl (pc := 162) (by decide +kernel)
      j_ild (pc := 162) D rfl rfl rfl fun D =>
      j_bp (pc := 164) D rfl fun D =>
      j_ine (pc := 166) D rfl (fun q D =>
        j_ic (pc := 169) D rfl fun D =>
        j_goto (pc := 170) D rfl <|
        fk_jump cut_555_175 rfl rfl) (fun q =>
        have D : fk_D 555 [(173, none, .iload 5, 2, 0, 0, 0)] := fq_of2 cd_555 ow_555 cl_555 rfl (pc := 173) (by decide +kernel)
        j_ild (pc := 173) D rfl rfl rfl fun D =>
        fk_jump cut_555_175 rfl rfl))
theorem e_555_175 (d : Nat) (x3 x4 s0 s1 s2 s3 : Int) {h : fi_H} (H : Shp h) : c_555_175 d x3 x4 s0 s1 s2 s3 h =
  dv_ (fi_vt 368 (h 0 s0.toNat 0)) fun m4 => ca_ (fj_run d m4 h [(4, s0), (0, s1), (0, s2), (0, s3), (0, x3), (0, (-1)), (0, (-1))]) 0
    (fun v2 h1 =>
    if 0 ≤ v2 ∧ v2 < 9300 then
    lt_ (fi_upd h1 11 623 v2.toNat (wI x4)) fun h5 =>
    some (.inl (some (0, v2)), h5)
    else none)
    (fun q3 h1 => tx_ q3 h1) := by
  unfold c_555_175
  exact
    have D : fk_D 555 [(175, some [0, 3, 4], .iload_n 3, 1, 0, 0, 0), (176, none, .iconst (-1), 1, 0, (-1), 0), (177, none, .iconst (-1), 1, 0, (-1), 0), (178, none, .invokevirtual 683, 3, 6, 368, 1), (181, none, .istore 8, 2, 0, 0, 0), (183, none, .aload_n 0, 1, 0, 0, 0), (184, none, .getfield 80, 3, 424, 129, 12), (187, none, .iload 8, 2, 0, 0, 0), (189, none, .iload 4, 2, 0, 0, 0), (191, none, .i2l, 1, 0, 0, 0), (192, none, .lastore, 1, 0, 0, 0), (193, none, .iload 8, 2, 0, 0, 0), (195, none, .ireturn, 1, 0, 0, 0)] := fq_of2 cd_555 ow_555 cl_555 rfl (pc := 175) (by decide +kernel)
    j_ildn (pc := 175) D rfl rfl rfl fun D =>
    j_ic (pc := 176) D rfl fun D =>
    j_ic (pc := 177) D rfl fun D =>
    j_ivu (pc := 178) (dd := 368) (a := [(0, s1), (0, s2), (0, s3), (0, x3), (0, (-1)), (0, (-1))]) (rest := []) H.2.1 D rfl rfl rfl rfl rfl (fun m4 v2 h1 e1 D =>
      have T := fj_run_ok _ _ _ _ _ _ H.1 e1
      have H := shp_st H T
      j_ist (pc := 181) (L' := [(8, (0, v2)), (0, (4, 602)), (3, (0, x3)), (4, (0, x4))]) D rfl nl_555 rfl rfl fun D =>
      j_aldn (pc := 183) D rfl rfl rfl fun D =>
      j_gfc (pc := 184) (a := 602) D rfl rfl (by decide) rfl (s0_602 H) rfl (sf_424_602 H) fun D =>
      j_ild (pc := 187) D rfl rfl rfl fun D =>
      j_ild (pc := 189) D rfl rfl rfl fun D =>
      j_i2l (pc := 191) D rfl fun D =>
      j_as (pc := 192) (a := 623) (e := 11) D rfl ⟨rfl, rfl⟩ rfl (by decide) (s0_623 H) (s1_623 H) ⟨rfl, rfl, rfl⟩ rfl gn (gy rfl) fun h5 eh5 S qb6 D =>
      have T := fj_hs_ok H.1 S
      have H := shp_st H T
      j_ild (pc := 193) D rfl rfl rfl fun D =>
      j_iret D rt_555) (fun m4 q3 h1 e1 =>
      j_tx (hx_555 _))
theorem m_555 (d : Nat) (x1 x2 : Int) {h : fi_H} (H : Shp h) : fj_run (d + 1) 555 h [(4, 602), (0, x1), (0, x2)] =
  cv_ (fj_run d 502 h [(4, 602)])
    (fun h1 =>
    cv_ (fj_run d 548 h1 [(4, 602)])
      (fun h4 =>
      ca_ (fj_run d 535 h4 [(4, 602)]) 0
        (fun v8 h7 =>
        cv_ (fj_run d 505 h7 [(4, 602), (0, 44)])
          (fun h10 =>
          ca_ (fj_run d 511 h10 [(4, 602), (0, 76)]) 0
            (fun v14 h13 =>
            if v14 = 0 then
              ca_ (fj_run d 551 h13 [(4, 602), (0, 1)]) 0
                (fun v17 h16 =>
                c_555_38 d x1 x2 v8 v17 h16)
                (fun q18 h16 => tx_ q18 h16)
            else
              c_555_38 d x1 x2 v8 (-1) h13)
            (fun q15 h13 => tx_ q15 h13))
          (fun q12 h10 => tx_ q12 h10))
        (fun q9 h7 => tx_ q9 h7))
      (fun q6 h4 => tx_ q6 h4))
    (fun q3 h1 => tx_ q3 h1) := by
  rw [fj_run_eq d (by decide) h [(4, 602), (0, x1), (0, x2)] (Nat.le_of_ble_eq_true (by rw [nl_555]; rfl))]
  show gG (fj_run d) 555 0 [(0, (4, 602)), (1, (0, x1)), (2, (0, x2))] [] h = _
  exact
    have D : fk_D 555 [(0, none, .aload_n 0, 1, 0, 0, 0), (1, none, .invokevirtual 567, 3, 0, 351, 0), (4, none, .aload_n 0, 1, 0, 0, 0), (5, none, .invokevirtual 728, 3, 0, 382, 0), (8, none, .aload_n 0, 1, 0, 0, 0), (9, none, .invokevirtual 731, 3, 0, 383, 1), (12, none, .istore_n 3, 1, 0, 0, 0), (13, none, .aload_n 0, 1, 0, 0, 0), (14, none, .bipush 44, 2, 0, 44, 0), (16, none, .invokevirtual 624, 3, 1, 356, 0), (19, none, .iconst (-1), 1, 0, (-1), 0), (20, none, .istore 4, 2, 0, 0, 0), (22, none, .aload_n 0, 1, 0, 0, 0), (23, none, .bipush 76, 2, 0, 76, 0), (25, none, .invokevirtual 643, 3, 1, 361, 1), (28, none, .ifCond .ne 10, 3, 38, 0, 0), (31, none, .aload_n 0, 1, 0, 0, 0), (32, none, .iconst 1, 1, 0, 1, 0), (33, none, .invokevirtual 737, 3, 1, 385, 1), (36, none, .istore 4, 2, 0, 0, 0)] := fq_of2 cd_555 ow_555 cl_555 rfl (pc := 0) (by decide +kernel)
    j_aldn (pc := 0) D rfl rfl rfl fun D =>
    j_ivv (pc := 1) (m := 502) (dd := 351) (a := []) (rest := []) D rfl rfl rfl rfl rfl (by decide) (s0_602 H) (by decide +kernel) (fun h1 e1 D =>
      have T := fj_run_ok _ _ _ _ _ _ H.1 e1
      have H := shp_st H T
      j_aldn (pc := 4) D rfl rfl rfl fun D =>
      j_ivv (pc := 5) (m := 548) (dd := 382) (a := []) (rest := []) D rfl rfl rfl rfl rfl (by decide) (s0_602 H) (by decide +kernel) (fun h4 e1 D =>
        have T := fj_run_ok _ _ _ _ _ _ H.1 e1
        have H := shp_st H T
        j_aldn (pc := 8) D rfl rfl rfl fun D =>
        j_iv (pc := 9) (m := 535) (dd := 383) (a := []) (rest := []) D rfl rfl rfl rfl rfl (by decide) (s0_602 H) (by decide +kernel) (fun v8 h7 e1 D =>
          have T := fj_run_ok _ _ _ _ _ _ H.1 e1
          have H := shp_st H T
          j_istn (pc := 12) (L' := [(3, (0, v8)), (0, (4, 602)), (1, (0, x1)), (2, (0, x2))]) D rfl nl_555 rfl rfl fun D =>
          j_aldn (pc := 13) D rfl rfl rfl fun D =>
          j_bp (pc := 14) D rfl fun D =>
          j_ivv (pc := 16) (m := 505) (dd := 356) (a := [(0, 44)]) (rest := []) D rfl rfl rfl rfl rfl (by decide) (s0_602 H) (by decide +kernel) (fun h10 e1 D =>
            have T := fj_run_ok _ _ _ _ _ _ H.1 e1
            have H := shp_st H T
            j_ic (pc := 19) D rfl fun D =>
            j_ist (pc := 20) (L' := [(4, (0, (-1))), (3, (0, v8)), (0, (4, 602)), (1, (0, x1)), (2, (0, x2))]) D rfl nl_555 rfl rfl fun D =>
            j_aldn (pc := 22) D rfl rfl rfl fun D =>
            j_bp (pc := 23) D rfl fun D =>
            j_iv (pc := 25) (m := 511) (dd := 361) (a := [(0, 76)]) (rest := []) D rfl rfl rfl rfl rfl (by decide) (s0_602 H) (by decide +kernel) (fun v14 h13 e1 D =>
              have T := fj_run_ok _ _ _ _ _ _ H.1 e1
              have H := shp_st H T
              j_ifne (pc := 28) D rfl (fun q D =>
                j_aldn (pc := 31) D rfl rfl rfl fun D =>
                j_ic (pc := 32) D rfl fun D =>
                j_iv (pc := 33) (m := 551) (dd := 385) (a := [(0, 1)]) (rest := []) D rfl rfl rfl rfl rfl (by decide) (s0_602 H) (by decide +kernel) (fun v17 h16 e1 D =>
                  have T := fj_run_ok _ _ _ _ _ _ H.1 e1
                  have H := shp_st H T
                  j_ist (pc := 36) (L' := [(4, (0, v17)), (3, (0, v8)), (0, (4, 602)), (1, (0, x1)), (2, (0, x2))]) D rfl nl_555 rfl rfl fun D =>
                  fk_jump cut_555_38 rfl rfl) (fun q18 h16 e1 =>
                  j_tx (hx_555 _))) (fun q =>
                fk_jump cut_555_38 rfl rfl)) (fun q15 h13 e1 =>
              j_tx (hx_555 _))) (fun q12 h10 e1 =>
            j_tx (hx_555 _))) (fun q9 h7 e1 =>
          j_tx (hx_555 _))) (fun q6 h4 e1 =>
        j_tx (hx_555 _))) (fun q3 h1 e1 =>
      j_tx (hx_555 _))
/-! 556 StatuteHouseModel.isSized(I)Z -/
theorem cd_556 : fi_code 556 = prog_69_method_53_code := rfl
theorem hx_556 : ∀ pc, fi_hat 556 pc = none := fun pc => by unfold fi_hat; rw [show fi_hh 556 = [] from rfl]; rfl
theorem rt_556 : fi_ret 556 = some .boolean := rfl
theorem nl_556 : fi_nl 556 = 1 := rfl
theorem ow_556 : fi_ow 556 = 29 := rfl
theorem cl_556 : fj_cutT.getD 556 [] = [] := rfl
theorem m_556 (d : Nat) (x0 : Int) {h : fi_H} (H : Shp h) : fj_run (d + 1) 556 h [(0, x0)] =
  if x0 = 1 then
    some (.inl (some (0, 1)), h)
  else
    if x0 = 2 then
      some (.inl (some (0, 1)), h)
    else
      if x0 = 3 then
        some (.inl (some (0, 1)), h)
      else
        if x0 = 6 then
          some (.inl (some (0, 1)), h)
        else
          if x0 = 4 then
            some (.inl (some (0, 1)), h)
          else
            some (.inl (some (0, 0)), h) := by
  rw [fj_run_eq d (by decide) h [(0, x0)] (Nat.le_of_ble_eq_true (by rw [nl_556]; rfl))]
  show gG (fj_run d) 556 0 [(0, (0, x0))] [] h = _
  exact
    have D : fk_D 556 [(0, none, .iload_n 0, 1, 0, 0, 0), (1, none, .iconst 1, 1, 0, 1, 0), (2, none, .if_icmp .eq 24, 3, 26, 0, 0), (5, none, .iload_n 0, 1, 0, 0, 0), (6, none, .iconst 2, 1, 0, 2, 0), (7, none, .if_icmp .eq 19, 3, 26, 0, 0), (10, none, .iload_n 0, 1, 0, 0, 0), (11, none, .iconst 3, 1, 0, 3, 0), (12, none, .if_icmp .eq 14, 3, 26, 0, 0), (15, none, .iload_n 0, 1, 0, 0, 0), (16, none, .bipush 6, 2, 0, 6, 0), (18, none, .if_icmp .eq 8, 3, 26, 0, 0), (21, none, .iload_n 0, 1, 0, 0, 0), (22, none, .iconst 4, 1, 0, 4, 0), (23, none, .if_icmp .ne 7, 3, 30, 0, 0), (26, none, .iconst 1, 1, 0, 1, 0), (27, none, .goto 4, 3, 31, 0, 0)] := fq_of2 cd_556 ow_556 cl_556 rfl (pc := 0) (by decide +kernel)
    j_ildn (pc := 0) D rfl rfl rfl fun D =>
    j_ic (pc := 1) D rfl fun D =>
    j_ieq (pc := 2) D rfl (fun q =>
      have D : fk_D 556 [(26, none, .iconst 1, 1, 0, 1, 0), (27, none, .goto 4, 3, 31, 0, 0)] := fq_of2 cd_556 ow_556 cl_556 rfl (pc := 26) (by decide +kernel)
      j_ic (pc := 26) D rfl fun D =>
      j_goto (pc := 27) D rfl <|
      have D : fk_D 556 [(31, none, .ireturn, 1, 0, 0, 0)] := fq_of2 cd_556 ow_556 cl_556 rfl (pc := 31) (by decide +kernel)
      j_zret D rt_556 (gy (by decide))) (fun q D =>
      j_ildn (pc := 5) D rfl rfl rfl fun D =>
      j_ic (pc := 6) D rfl fun D =>
      j_ieq (pc := 7) D rfl (fun q =>
        have D : fk_D 556 [(26, none, .iconst 1, 1, 0, 1, 0), (27, none, .goto 4, 3, 31, 0, 0)] := fq_of2 cd_556 ow_556 cl_556 rfl (pc := 26) (by decide +kernel)
        j_ic (pc := 26) D rfl fun D =>
        j_goto (pc := 27) D rfl <|
        have D : fk_D 556 [(31, none, .ireturn, 1, 0, 0, 0)] := fq_of2 cd_556 ow_556 cl_556 rfl (pc := 31) (by decide +kernel)
        j_zret D rt_556 (gy (by decide))) (fun q D =>
        j_ildn (pc := 10) D rfl rfl rfl fun D =>
        j_ic (pc := 11) D rfl fun D =>
        j_ieq (pc := 12) D rfl (fun q =>
          have D : fk_D 556 [(26, none, .iconst 1, 1, 0, 1, 0), (27, none, .goto 4, 3, 31, 0, 0)] := fq_of2 cd_556 ow_556 cl_556 rfl (pc := 26) (by decide +kernel)
          j_ic (pc := 26) D rfl fun D =>
          j_goto (pc := 27) D rfl <|
          have D : fk_D 556 [(31, none, .ireturn, 1, 0, 0, 0)] := fq_of2 cd_556 ow_556 cl_556 rfl (pc := 31) (by decide +kernel)
          j_zret D rt_556 (gy (by decide))) (fun q D =>
          j_ildn (pc := 15) D rfl rfl rfl fun D =>
          j_bp (pc := 16) D rfl fun D =>
          j_ieq (pc := 18) D rfl (fun q =>
            have D : fk_D 556 [(26, none, .iconst 1, 1, 0, 1, 0), (27, none, .goto 4, 3, 31, 0, 0)] := fq_of2 cd_556 ow_556 cl_556 rfl (pc := 26) (by decide +kernel)
            j_ic (pc := 26) D rfl fun D =>
            j_goto (pc := 27) D rfl <|
            have D : fk_D 556 [(31, none, .ireturn, 1, 0, 0, 0)] := fq_of2 cd_556 ow_556 cl_556 rfl (pc := 31) (by decide +kernel)
            j_zret D rt_556 (gy (by decide))) (fun q D =>
            j_ildn (pc := 21) D rfl rfl rfl fun D =>
            j_ic (pc := 22) D rfl fun D =>
            j_ine (pc := 23) D rfl (fun q D =>
              j_ic (pc := 26) D rfl fun D =>
              j_goto (pc := 27) D rfl <|
              have D : fk_D 556 [(31, none, .ireturn, 1, 0, 0, 0)] := fq_of2 cd_556 ow_556 cl_556 rfl (pc := 31) (by decide +kernel)
              j_zret D rt_556 (gy (by decide))) (fun q =>
              have D : fk_D 556 [(30, none, .iconst 0, 1, 0, 0, 0), (31, none, .ireturn, 1, 0, 0, 0)] := fq_of2 cd_556 ow_556 cl_556 rfl (pc := 30) (by decide +kernel)
              j_ic (pc := 30) D rfl fun D =>
              j_zret D rt_556 (gy (by decide)))))))
/-! 557 StatuteHouseModel.functionOf(I)I -/
theorem cd_557 : fi_code 557 = prog_69_method_76_code := rfl
theorem hx_557 : ∀ pc, fi_hat 557 pc = none := fun pc => by unfold fi_hat; rw [show fi_hh 557 = [] from rfl]; rfl
theorem rt_557 : fi_ret 557 = some .int := rfl
theorem nl_557 : fi_nl 557 = 1 := rfl
theorem ow_557 : fi_ow 557 = 29 := rfl
theorem cl_557 : fj_cutT.getD 557 [] = [] := rfl
theorem m_557 (d : Nat) (x0 : Int) {h : fi_H} (H : Shp h) : fj_run (d + 1) 557 h [(0, x0)] =
  ca_ (fj_run d 508 h [(1, wI x0), (1, 34), (1, 39)]) 0
    (fun v2 h1 =>
    if v2 = 0 then
      ca_ (fj_run d 508 h1 [(1, wI x0), (1, 40), (1, 51)]) 0
        (fun v5 h4 =>
        if v5 = 0 then
          ca_ (fj_run d 508 h4 [(1, wI x0), (1, 10), (1, 13)]) 0
            (fun v8 h7 =>
            if v8 = 0 then
              if x0 = 6 then
                some (.inl (some (0, 52)), h7)
              else
                if x0 = 8 then
                  some (.inl (some (0, 53)), h7)
                else
                  some (.inl (some (0, (-1))), h7)
            else
              some (.inl (some (0, wI ((wI (48 + x0)) - 10))), h7))
            (fun q9 h7 => tx_ q9 h7)
        else
          some (.inl (some (0, wI ((wI (36 + x0)) - 40))), h4))
        (fun q6 h4 => tx_ q6 h4)
    else
      some (.inl (some (0, wI ((wI (30 + x0)) - 34))), h1))
    (fun q3 h1 => tx_ q3 h1) := by
  rw [fj_run_eq d (by decide) h [(0, x0)] (Nat.le_of_ble_eq_true (by rw [nl_557]; rfl))]
  show gG (fj_run d) 557 0 [(0, (0, x0))] [] h = _
  exact
    have D : fk_D 557 [(0, none, .iload_n 0, 1, 0, 0, 0), (1, none, .i2l, 1, 0, 0, 0), (2, none, .ldc2_w 770, 3, 1, 34, 0), (5, none, .ldc2_w 772, 3, 1, 39, 0), (8, none, .invokestatic 434, 3, 3, 508, 1), (11, none, .ifCond .eq 11, 3, 22, 0, 0), (14, none, .bipush 30, 2, 0, 30, 0), (16, none, .iload_n 0, 1, 0, 0, 0), (17, none, .iadd, 1, 0, 0, 0), (18, none, .bipush 34, 2, 0, 34, 0), (20, none, .isub, 1, 0, 0, 0), (21, none, .ireturn, 1, 0, 0, 0)] := fq_of2 cd_557 ow_557 cl_557 rfl (pc := 0) (by decide +kernel)
    j_ildn (pc := 0) D rfl rfl rfl fun D =>
    j_i2l (pc := 1) D rfl fun D =>
    j_ldc2 (pc := 2) D rfl fun D =>
    j_ldc2 (pc := 5) D rfl fun D =>
    j_is (pc := 8) (m := 508) (a := [(1, wI x0), (1, 34), (1, 39)]) (rest := []) D rfl rfl rfl rfl (fun v2 h1 e1 D =>
      have T := fj_run_ok _ _ _ _ _ _ H.1 e1
      have H := shp_st H T
      j_ifeq (pc := 11) D rfl (fun q =>
        have D : fk_D 557 [(22, none, .iload_n 0, 1, 0, 0, 0), (23, none, .i2l, 1, 0, 0, 0), (24, none, .ldc2_w 774, 3, 1, 40, 0), (27, none, .ldc2_w 776, 3, 1, 51, 0), (30, none, .invokestatic 434, 3, 3, 508, 1), (33, none, .ifCond .eq 11, 3, 44, 0, 0), (36, none, .bipush 36, 2, 0, 36, 0), (38, none, .iload_n 0, 1, 0, 0, 0), (39, none, .iadd, 1, 0, 0, 0), (40, none, .bipush 40, 2, 0, 40, 0), (42, none, .isub, 1, 0, 0, 0), (43, none, .ireturn, 1, 0, 0, 0)] := fq_of2 cd_557 ow_557 cl_557 rfl (pc := 22) (by decide +kernel)
        j_ildn (pc := 22) D rfl rfl rfl fun D =>
        j_i2l (pc := 23) D rfl fun D =>
        j_ldc2 (pc := 24) D rfl fun D =>
        j_ldc2 (pc := 27) D rfl fun D =>
        j_is (pc := 30) (m := 508) (a := [(1, wI x0), (1, 40), (1, 51)]) (rest := []) D rfl rfl rfl rfl (fun v5 h4 e1 D =>
          have T := fj_run_ok _ _ _ _ _ _ H.1 e1
          have H := shp_st H T
          j_ifeq (pc := 33) D rfl (fun q =>
            have D : fk_D 557 [(44, none, .iload_n 0, 1, 0, 0, 0), (45, none, .i2l, 1, 0, 0, 0), (46, none, .ldc2_w 489, 3, 1, 10, 0), (49, none, .ldc2_w 636, 3, 1, 13, 0), (52, none, .invokestatic 434, 3, 3, 508, 1), (55, none, .ifCond .eq 11, 3, 66, 0, 0), (58, none, .bipush 48, 2, 0, 48, 0), (60, none, .iload_n 0, 1, 0, 0, 0), (61, none, .iadd, 1, 0, 0, 0), (62, none, .bipush 10, 2, 0, 10, 0), (64, none, .isub, 1, 0, 0, 0), (65, none, .ireturn, 1, 0, 0, 0)] := fq_of2 cd_557 ow_557 cl_557 rfl (pc := 44) (by decide +kernel)
            j_ildn (pc := 44) D rfl rfl rfl fun D =>
            j_i2l (pc := 45) D rfl fun D =>
            j_ldc2 (pc := 46) D rfl fun D =>
            j_ldc2 (pc := 49) D rfl fun D =>
            j_is (pc := 52) (m := 508) (a := [(1, wI x0), (1, 10), (1, 13)]) (rest := []) D rfl rfl rfl rfl (fun v8 h7 e1 D =>
              have T := fj_run_ok _ _ _ _ _ _ H.1 e1
              have H := shp_st H T
              j_ifeq (pc := 55) D rfl (fun q =>
                have D : fk_D 557 [(66, none, .iload_n 0, 1, 0, 0, 0), (67, none, .bipush 6, 2, 0, 6, 0), (69, none, .if_icmp .ne 8, 3, 77, 0, 0), (72, none, .bipush 52, 2, 0, 52, 0), (74, none, .goto 15, 3, 89, 0, 0)] := fq_of2 cd_557 ow_557 cl_557 rfl (pc := 66) (by decide +kernel)
                j_ildn (pc := 66) D rfl rfl rfl fun D =>
                j_bp (pc := 67) D rfl fun D =>
                j_ine (pc := 69) D rfl (fun q D =>
                  j_bp (pc := 72) D rfl fun D =>
                  j_goto (pc := 74) D rfl <|
                  have D : fk_D 557 [(89, none, .ireturn, 1, 0, 0, 0)] := fq_of2 cd_557 ow_557 cl_557 rfl (pc := 89) (by decide +kernel)
                  j_iret D rt_557) (fun q =>
                  have D : fk_D 557 [(77, none, .iload_n 0, 1, 0, 0, 0), (78, none, .bipush 8, 2, 0, 8, 0), (80, none, .if_icmp .ne 8, 3, 88, 0, 0), (83, none, .bipush 53, 2, 0, 53, 0), (85, none, .goto 4, 3, 89, 0, 0)] := fq_of2 cd_557 ow_557 cl_557 rfl (pc := 77) (by decide +kernel)
                  j_ildn (pc := 77) D rfl rfl rfl fun D =>
                  j_bp (pc := 78) D rfl fun D =>
                  j_ine (pc := 80) D rfl (fun q D =>
                    j_bp (pc := 83) D rfl fun D =>
                    j_goto (pc := 85) D rfl <|
                    have D : fk_D 557 [(89, none, .ireturn, 1, 0, 0, 0)] := fq_of2 cd_557 ow_557 cl_557 rfl (pc := 89) (by decide +kernel)
                    j_iret D rt_557) (fun q =>
                    have D : fk_D 557 [(88, none, .iconst (-1), 1, 0, (-1), 0), (89, none, .ireturn, 1, 0, 0, 0)] := fq_of2 cd_557 ow_557 cl_557 rfl (pc := 88) (by decide +kernel)
                    j_ic (pc := 88) D rfl fun D =>
                    j_iret D rt_557))) (fun q D =>
                j_bp (pc := 58) D rfl fun D =>
                j_ildn (pc := 60) D rfl rfl rfl fun D =>
                j_iadd (pc := 61) D rfl fun D =>
                j_bp (pc := 62) D rfl fun D =>
                j_isub (pc := 64) D rfl fun D =>
                j_iret D rt_557)) (fun q9 h7 e1 =>
              j_tx (hx_557 _))) (fun q D =>
            j_bp (pc := 36) D rfl fun D =>
            j_ildn (pc := 38) D rfl rfl rfl fun D =>
            j_iadd (pc := 39) D rfl fun D =>
            j_bp (pc := 40) D rfl fun D =>
            j_isub (pc := 42) D rfl fun D =>
            j_iret D rt_557)) (fun q6 h4 e1 =>
          j_tx (hx_557 _))) (fun q D =>
        j_bp (pc := 14) D rfl fun D =>
        j_ildn (pc := 16) D rfl rfl rfl fun D =>
        j_iadd (pc := 17) D rfl fun D =>
        j_bp (pc := 18) D rfl fun D =>
        j_isub (pc := 20) D rfl fun D =>
        j_iret D rt_557)) (fun q3 h1 e1 =>
      j_tx (hx_557 _))
/-! 558 StatuteHouseModel.readFunction(II)I -/
theorem cd_558 : fi_code 558 = prog_69_method_78_code := rfl
theorem hx_558 : ∀ pc, fi_hat 558 pc = none := fun pc => by unfold fi_hat; rw [show fi_hh 558 = [] from rfl]; rfl
theorem rt_558 : fi_ret 558 = some .int := rfl
theorem nl_558 : fi_nl 558 = 6 := rfl
theorem ow_558 : fi_ow 558 = 29 := rfl
theorem cl_558 : fj_cutT.getD 558 [] = [(39, [0, 1, 2, 3, 4, 5]), (59, [0, 1, 2, 3, 4, 5]), (90, [0, 3, 4, 5]), (107, [3, 4, 5])] := rfl
theorem cut_558_39 : fj_cut 558 39 = some [0, 1, 2, 3, 4, 5] := by decide +kernel
noncomputable def c_558_39 (d : Nat) (x1 x2 x3 x4 x5 : Int) (h : fi_H) : fk_R := gG (fj_run d) 558 39 [(0, (4, 602)), (1, (0, x1)), (2, (0, x2)), (3, (0, x3)), (4, (0, x4)), (5, (0, x5))] [] h
theorem cut_558_59 : fj_cut 558 59 = some [0, 1, 2, 3, 4, 5] := by decide +kernel
noncomputable def c_558_59 (d : Nat) (x1 x2 x3 x4 x5 : Int) (h : fi_H) : fk_R := gG (fj_run d) 558 59 [(0, (4, 602)), (1, (0, x1)), (2, (0, x2)), (3, (0, x3)), (4, (0, x4)), (5, (0, x5))] [] h
theorem cut_558_90 : fj_cut 558 90 = some [0, 3, 4, 5] := by decide +kernel
noncomputable def c_558_90 (d : Nat) (x3 x4 x5 s0 s1 s2 s3 s4 s5 : Int) (h : fi_H) : fk_R := gG (fj_run d) 558 90 [(0, (4, 602)), (3, (0, x3)), (4, (0, x4)), (5, (0, x5))] [(0, s5), (0, s4), (0, s3), (0, s2), (0, s1), (4, s0)] h
theorem cut_558_107 : fj_cut 558 107 = some [3, 4, 5] := by decide +kernel
noncomputable def c_558_107 (d : Nat) (x3 x4 x5 s0 s1 s2 s3 s4 s5 s6 : Int) (h : fi_H) : fk_R := gG (fj_run d) 558 107 [(3, (0, x3)), (4, (0, x4)), (5, (0, x5))] [(0, s6), (0, s5), (0, s4), (0, s3), (0, s2), (0, s1), (4, s0)] h
theorem e_558_39 (d : Nat) (x1 x2 x3 x4 x5 : Int) {h : fi_H} (H : Shp h) : c_558_39 d x1 x2 x3 x4 x5 h =
  ca_ (fj_run d 559 h [(0, x2)]) 0
    (fun v2 h1 =>
    if 2 < v2 then
      cv_ (fj_run d 505 h1 [(4, 602), (0, 44)])
        (fun h4 =>
        ca_ (fj_run d 535 h4 [(4, 602)]) 0
          (fun v8 h7 =>
          c_558_59 d x1 x2 x3 x4 v8 h7)
          (fun q9 h7 => tx_ q9 h7))
        (fun q6 h4 => tx_ q6 h4)
    else
      c_558_59 d x1 x2 x3 x4 x5 h1)
    (fun q3 h1 => tx_ q3 h1) := by
  unfold c_558_39
  exact
    have D : fk_D 558 [(39, some [0, 1, 2, 3, 4, 5], .iload_n 2, 1, 0, 0, 0), (40, none, .invokestatic 780, 3, 1, 559, 1), (43, none, .iconst 2, 1, 0, 2, 0), (44, none, .if_icmp .le 15, 3, 59, 0, 0), (47, none, .aload_n 0, 1, 0, 0, 0), (48, none, .bipush 44, 2, 0, 44, 0), (50, none, .invokevirtual 624, 3, 1, 356, 0), (53, none, .aload_n 0, 1, 0, 0, 0), (54, none, .invokevirtual 731, 3, 0, 383, 1), (57, none, .istore 5, 2, 0, 0, 0)] := fq_of2 cd_558 ow_558 cl_558 rfl (pc := 39) (by decide +kernel)
    j_ildn (pc := 39) D rfl rfl rfl fun D =>
    j_is (pc := 40) (m := 559) (a := [(0, x2)]) (rest := []) D rfl rfl rfl rfl (fun v2 h1 e1 D =>
      have T := fj_run_ok _ _ _ _ _ _ H.1 e1
      have H := shp_st H T
      j_ic (pc := 43) D rfl fun D =>
      j_ile (pc := 44) D rfl (fun q D =>
        j_aldn (pc := 47) D rfl rfl rfl fun D =>
        j_bp (pc := 48) D rfl fun D =>
        j_ivv (pc := 50) (m := 505) (dd := 356) (a := [(0, 44)]) (rest := []) D rfl rfl rfl rfl rfl (by decide) (s0_602 H) (by decide +kernel) (fun h4 e1 D =>
          have T := fj_run_ok _ _ _ _ _ _ H.1 e1
          have H := shp_st H T
          j_aldn (pc := 53) D rfl rfl rfl fun D =>
          j_iv (pc := 54) (m := 535) (dd := 383) (a := []) (rest := []) D rfl rfl rfl rfl rfl (by decide) (s0_602 H) (by decide +kernel) (fun v8 h7 e1 D =>
            have T := fj_run_ok _ _ _ _ _ _ H.1 e1
            have H := shp_st H T
            j_ist (pc := 57) (L' := [(5, (0, v8)), (0, (4, 602)), (1, (0, x1)), (2, (0, x2)), (3, (0, x3)), (4, (0, x4))]) D rfl nl_558 rfl rfl fun D =>
            fk_jump cut_558_59 rfl rfl) (fun q9 h7 e1 =>
            j_tx (hx_558 _))) (fun q6 h4 e1 =>
          j_tx (hx_558 _))) (fun q =>
        fk_jump cut_558_59 rfl rfl)) (fun q3 h1 e1 =>
      j_tx (hx_558 _))
theorem e_558_59 (d : Nat) (x1 x2 x3 x4 x5 : Int) {h : fi_H} (H : Shp h) : c_558_59 d x1 x2 x3 x4 x5 h =
  cv_ (fj_run d 550 h [(4, 602)])
    (fun h1 =>
    if 0 ≤ x3 ∧ x3 < 9300 then
    if x4 = (-1) then
      c_558_90 d x3 x4 x5 602 x2 x1 x2 (h1 10 618 x3.toNat) (-1) h1
    else
      if 0 ≤ x4 ∧ x4 < 9300 then
      c_558_90 d x3 x4 x5 602 x2 x1 x2 (h1 10 618 x3.toNat) (h1 10 618 x4.toNat) h1
      else none
    else none)
    (fun q3 h1 => tx_ q3 h1) := by
  unfold c_558_59
  exact
    have D : fk_D 558 [(59, some [0, 1, 2, 3, 4, 5], .aload_n 0, 1, 0, 0, 0), (60, none, .invokevirtual 734, 3, 0, 384, 0), (63, none, .aload_n 0, 1, 0, 0, 0), (64, none, .iload_n 2, 1, 0, 0, 0), (65, none, .iload_n 1, 1, 0, 0, 0), (66, none, .iload_n 2, 1, 0, 0, 0), (67, none, .aload_n 0, 1, 0, 0, 0), (68, none, .getfield 65, 3, 419, 129, 12), (71, none, .iload_n 3, 1, 0, 0, 0), (72, none, .iaload, 1, 0, 0, 0), (73, none, .iload 4, 2, 0, 0, 0), (75, none, .iconst (-1), 1, 0, (-1), 0), (76, none, .if_icmp .ne 7, 3, 83, 0, 0), (79, none, .iconst (-1), 1, 0, (-1), 0), (80, none, .goto 10, 3, 90, 0, 0)] := fq_of2 cd_558 ow_558 cl_558 rfl (pc := 59) (by decide +kernel)
    j_aldn (pc := 59) D rfl rfl rfl fun D =>
    j_ivv (pc := 60) (m := 550) (dd := 384) (a := []) (rest := []) D rfl rfl rfl rfl rfl (by decide) (s0_602 H) (by decide +kernel) (fun h1 e1 D =>
      have T := fj_run_ok _ _ _ _ _ _ H.1 e1
      have H := shp_st H T
      j_aldn (pc := 63) D rfl rfl rfl fun D =>
      j_ildn (pc := 64) D rfl rfl rfl fun D =>
      j_ildn (pc := 65) D rfl rfl rfl fun D =>
      j_ildn (pc := 66) D rfl rfl rfl fun D =>
      j_aldn (pc := 67) D rfl rfl rfl fun D =>
      j_gfc (pc := 68) (a := 602) D rfl rfl (by decide) rfl (s0_602 H) rfl (sf_419_602 H) fun D =>
      j_ildn (pc := 71) D rfl rfl rfl fun D =>
      j_al (pc := 72) (a := 618) (e := 10) D rfl rfl rfl (by decide) (s0_618 H) (s1_618 H) ⟨rfl, rfl, rfl⟩ rfl gn fun qb4 D =>
      j_ild (pc := 73) D rfl rfl rfl fun D =>
      j_ic (pc := 75) D rfl fun D =>
      j_ine (pc := 76) D rfl (fun q D =>
        j_ic (pc := 79) D rfl fun D =>
        j_goto (pc := 80) D rfl <|
        fk_jump cut_558_90 rfl rfl) (fun q =>
        have D : fk_D 558 [(83, none, .aload_n 0, 1, 0, 0, 0), (84, none, .getfield 65, 3, 419, 129, 12), (87, none, .iload 4, 2, 0, 0, 0), (89, none, .iaload, 1, 0, 0, 0)] := fq_of2 cd_558 ow_558 cl_558 rfl (pc := 83) (by decide +kernel)
        j_aldn (pc := 83) D rfl rfl rfl fun D =>
        j_gfc (pc := 84) (a := 602) D rfl rfl (by decide) rfl (s0_602 H) rfl (sf_419_602 H) fun D =>
        j_ild (pc := 87) D rfl rfl rfl fun D =>
        j_al (pc := 89) (a := 618) (e := 10) D rfl rfl rfl (by decide) (s0_618 H) (s1_618 H) ⟨rfl, rfl, rfl⟩ rfl gn fun qb5 D =>
        fk_jump cut_558_90 rfl rfl)) (fun q3 h1 e1 =>
      j_tx (hx_558 _))
theorem e_558_90 (d : Nat) (x3 x4 x5 s0 s1 s2 s3 s4 s5 : Int) {h : fi_H} (H : Shp h) : c_558_90 d x3 x4 x5 s0 s1 s2 s3 s4 s5 h =
  if x5 = (-1) then
    c_558_107 d x3 x4 x5 s0 s1 s2 s3 s4 s5 (-1) h
  else
    if 0 ≤ x5 ∧ x5 < 9300 then
    c_558_107 d x3 x4 x5 s0 s1 s2 s3 s4 s5 (h 10 618 x5.toNat) h
    else none := by
  unfold c_558_90
  exact
    have D : fk_D 558 [(90, some [0, 3, 4, 5], .iload 5, 2, 0, 0, 0), (92, none, .iconst (-1), 1, 0, (-1), 0), (93, none, .if_icmp .ne 7, 3, 100, 0, 0), (96, none, .iconst (-1), 1, 0, (-1), 0), (97, none, .goto 10, 3, 107, 0, 0)] := fq_of2 cd_558 ow_558 cl_558 rfl (pc := 90) (by decide +kernel)
    j_ild (pc := 90) D rfl rfl rfl fun D =>
    j_ic (pc := 92) D rfl fun D =>
    j_ine (pc := 93) D rfl (fun q D =>
      j_ic (pc := 96) D rfl fun D =>
      j_goto (pc := 97) D rfl <|
      fk_jump cut_558_107 rfl rfl) (fun q =>
      have D : fk_D 558 [(100, none, .aload_n 0, 1, 0, 0, 0), (101, none, .getfield 65, 3, 419, 129, 12), (104, none, .iload 5, 2, 0, 0, 0), (106, none, .iaload, 1, 0, 0, 0)] := fq_of2 cd_558 ow_558 cl_558 rfl (pc := 100) (by decide +kernel)
      j_aldn (pc := 100) D rfl rfl rfl fun D =>
      j_gfc (pc := 101) (a := 602) D rfl rfl (by decide) rfl (s0_602 H) rfl (sf_419_602 H) fun D =>
      j_ild (pc := 104) D rfl rfl rfl fun D =>
      j_al (pc := 106) (a := 618) (e := 10) D rfl rfl rfl (by decide) (s0_618 H) (s1_618 H) ⟨rfl, rfl, rfl⟩ rfl gn fun qb1 D =>
      fk_jump cut_558_107 rfl rfl)
theorem e_558_107 (d : Nat) (x3 x4 x5 s0 s1 s2 s3 s4 s5 s6 : Int) {h : fi_H} (H : Shp h) : c_558_107 d x3 x4 x5 s0 s1 s2 s3 s4 s5 s6 h =
  ca_ (fj_run d 560 h [(0, s3), (0, s4), (0, s5), (0, s6)]) 0
    (fun v2 h1 =>
    dv_ (fi_vt 368 (h1 0 s0.toNat 0)) fun m7 => ca_ (fj_run d m7 h1 [(4, s0), (0, s1), (0, s2), (0, v2), (0, x3), (0, x4), (0, x5)]) 0
      (fun v5 h4 =>
      some (.inl (some (0, v5)), h4))
      (fun q6 h4 => tx_ q6 h4))
    (fun q3 h1 => tx_ q3 h1) := by
  unfold c_558_107
  exact
    have D : fk_D 558 [(107, some [3, 4, 5], .invokestatic 783, 3, 4, 560, 1), (110, none, .iload_n 3, 1, 0, 0, 0), (111, none, .iload 4, 2, 0, 0, 0), (113, none, .iload 5, 2, 0, 0, 0), (115, none, .invokevirtual 683, 3, 6, 368, 1), (118, none, .ireturn, 1, 0, 0, 0)] := fq_of2 cd_558 ow_558 cl_558 rfl (pc := 107) (by decide +kernel)
    j_is (pc := 107) (m := 560) (a := [(0, s3), (0, s4), (0, s5), (0, s6)]) (rest := [(0, s2), (0, s1), (4, s0)]) D rfl rfl rfl rfl (fun v2 h1 e1 D =>
      have T := fj_run_ok _ _ _ _ _ _ H.1 e1
      have H := shp_st H T
      j_ildn (pc := 110) D rfl rfl rfl fun D =>
      j_ild (pc := 111) D rfl rfl rfl fun D =>
      j_ild (pc := 113) D rfl rfl rfl fun D =>
      j_ivu (pc := 115) (dd := 368) (a := [(0, s1), (0, s2), (0, v2), (0, x3), (0, x4), (0, x5)]) (rest := []) H.2.1 D rfl rfl rfl rfl rfl (fun m7 v5 h4 e1 D =>
        have T := fj_run_ok _ _ _ _ _ _ H.1 e1
        have H := shp_st H T
        j_iret D rt_558) (fun m7 q6 h4 e1 =>
        j_tx (hx_558 _))) (fun q3 h1 e1 =>
      j_tx (hx_558 _))
theorem m_558 (d : Nat) (x1 x2 : Int) {h : fi_H} (H : Shp h) : fj_run (d + 1) 558 h [(4, 602), (0, x1), (0, x2)] =
  cv_ (fj_run d 502 h [(4, 602)])
    (fun h1 =>
    cv_ (fj_run d 548 h1 [(4, 602)])
      (fun h4 =>
      ca_ (fj_run d 535 h4 [(4, 602)]) 0
        (fun v8 h7 =>
        ca_ (fj_run d 559 h7 [(0, x2)]) 0
          (fun v11 h10 =>
          if 1 < v11 then
            cv_ (fj_run d 505 h10 [(4, 602), (0, 44)])
              (fun h13 =>
              ca_ (fj_run d 535 h13 [(4, 602)]) 0
                (fun v17 h16 =>
                c_558_39 d x1 x2 v8 v17 (-1) h16)
                (fun q18 h16 => tx_ q18 h16))
              (fun q15 h13 => tx_ q15 h13)
          else
            c_558_39 d x1 x2 v8 (-1) (-1) h10)
          (fun q12 h10 => tx_ q12 h10))
        (fun q9 h7 => tx_ q9 h7))
      (fun q6 h4 => tx_ q6 h4))
    (fun q3 h1 => tx_ q3 h1) := by
  rw [fj_run_eq d (by decide) h [(4, 602), (0, x1), (0, x2)] (Nat.le_of_ble_eq_true (by rw [nl_558]; rfl))]
  show gG (fj_run d) 558 0 [(0, (4, 602)), (1, (0, x1)), (2, (0, x2))] [] h = _
  exact
    have D : fk_D 558 [(0, none, .aload_n 0, 1, 0, 0, 0), (1, none, .invokevirtual 567, 3, 0, 351, 0), (4, none, .aload_n 0, 1, 0, 0, 0), (5, none, .invokevirtual 728, 3, 0, 382, 0), (8, none, .aload_n 0, 1, 0, 0, 0), (9, none, .invokevirtual 731, 3, 0, 383, 1), (12, none, .istore_n 3, 1, 0, 0, 0), (13, none, .iconst (-1), 1, 0, (-1), 0), (14, none, .istore 4, 2, 0, 0, 0), (16, none, .iconst (-1), 1, 0, (-1), 0), (17, none, .istore 5, 2, 0, 0, 0), (19, none, .iload_n 2, 1, 0, 0, 0), (20, none, .invokestatic 780, 3, 1, 559, 1), (23, none, .iconst 1, 1, 0, 1, 0), (24, none, .if_icmp .le 15, 3, 39, 0, 0), (27, none, .aload_n 0, 1, 0, 0, 0), (28, none, .bipush 44, 2, 0, 44, 0), (30, none, .invokevirtual 624, 3, 1, 356, 0), (33, none, .aload_n 0, 1, 0, 0, 0), (34, none, .invokevirtual 731, 3, 0, 383, 1)] := fq_of2 cd_558 ow_558 cl_558 rfl (pc := 0) (by decide +kernel)
    j_aldn (pc := 0) D rfl rfl rfl fun D =>
    j_ivv (pc := 1) (m := 502) (dd := 351) (a := []) (rest := []) D rfl rfl rfl rfl rfl (by decide) (s0_602 H) (by decide +kernel) (fun h1 e1 D =>
      have T := fj_run_ok _ _ _ _ _ _ H.1 e1
      have H := shp_st H T
      j_aldn (pc := 4) D rfl rfl rfl fun D =>
      j_ivv (pc := 5) (m := 548) (dd := 382) (a := []) (rest := []) D rfl rfl rfl rfl rfl (by decide) (s0_602 H) (by decide +kernel) (fun h4 e1 D =>
        have T := fj_run_ok _ _ _ _ _ _ H.1 e1
        have H := shp_st H T
        j_aldn (pc := 8) D rfl rfl rfl fun D =>
        j_iv (pc := 9) (m := 535) (dd := 383) (a := []) (rest := []) D rfl rfl rfl rfl rfl (by decide) (s0_602 H) (by decide +kernel) (fun v8 h7 e1 D =>
          have T := fj_run_ok _ _ _ _ _ _ H.1 e1
          have H := shp_st H T
          j_istn (pc := 12) (L' := [(3, (0, v8)), (0, (4, 602)), (1, (0, x1)), (2, (0, x2))]) D rfl nl_558 rfl rfl fun D =>
          j_ic (pc := 13) D rfl fun D =>
          j_ist (pc := 14) (L' := [(4, (0, (-1))), (3, (0, v8)), (0, (4, 602)), (1, (0, x1)), (2, (0, x2))]) D rfl nl_558 rfl rfl fun D =>
          j_ic (pc := 16) D rfl fun D =>
          j_ist (pc := 17) (L' := [(5, (0, (-1))), (4, (0, (-1))), (3, (0, v8)), (0, (4, 602)), (1, (0, x1)), (2, (0, x2))]) D rfl nl_558 rfl rfl fun D =>
          j_ildn (pc := 19) D rfl rfl rfl fun D =>
          j_is (pc := 20) (m := 559) (a := [(0, x2)]) (rest := []) D rfl rfl rfl rfl (fun v11 h10 e1 D =>
            have T := fj_run_ok _ _ _ _ _ _ H.1 e1
            have H := shp_st H T
            j_ic (pc := 23) D rfl fun D =>
            j_ile (pc := 24) D rfl (fun q D =>
              j_aldn (pc := 27) D rfl rfl rfl fun D =>
              j_bp (pc := 28) D rfl fun D =>
              j_ivv (pc := 30) (m := 505) (dd := 356) (a := [(0, 44)]) (rest := []) D rfl rfl rfl rfl rfl (by decide) (s0_602 H) (by decide +kernel) (fun h13 e1 D =>
                have T := fj_run_ok _ _ _ _ _ _ H.1 e1
                have H := shp_st H T
                j_aldn (pc := 33) D rfl rfl rfl fun D =>
                j_iv (pc := 34) (m := 535) (dd := 383) (a := []) (rest := []) D rfl rfl rfl rfl rfl (by decide) (s0_602 H) (by decide +kernel) (fun v17 h16 e1 D =>
                  have T := fj_run_ok _ _ _ _ _ _ H.1 e1
                  have H := shp_st H T
                  have D : fk_D 558 [(37, none, .istore 4, 2, 0, 0, 0)] := fq_of2 cd_558 ow_558 cl_558 rfl (pc := 37) (by decide +kernel)
                  j_ist (pc := 37) (L' := [(4, (0, v17)), (5, (0, (-1))), (3, (0, v8)), (0, (4, 602)), (1, (0, x1)), (2, (0, x2))]) D rfl nl_558 rfl rfl fun D =>
                  fk_jump cut_558_39 rfl rfl) (fun q18 h16 e1 =>
                  j_tx (hx_558 _))) (fun q15 h13 e1 =>
                j_tx (hx_558 _))) (fun q =>
              fk_jump cut_558_39 rfl rfl)) (fun q12 h10 e1 =>
            j_tx (hx_558 _))) (fun q9 h7 e1 =>
          j_tx (hx_558 _))) (fun q6 h4 e1 =>
        j_tx (hx_558 _))) (fun q3 h1 e1 =>
      j_tx (hx_558 _))
/-! 559 StatuteHouseModel.wants(I)I -/
theorem cd_559 : fi_code 559 = prog_69_method_77_code := rfl
theorem hx_559 : ∀ pc, fi_hat 559 pc = none := fun pc => by unfold fi_hat; rw [show fi_hh 559 = [] from rfl]; rfl
theorem rt_559 : fi_ret 559 = some .int := rfl
theorem nl_559 : fi_nl 559 = 1 := rfl
theorem ow_559 : fi_ow 559 = 29 := rfl
theorem cl_559 : fj_cutT.getD 559 [] = [] := rfl
theorem m_559 (d : Nat) (x0 : Int) {h : fi_H} (H : Shp h) : fj_run (d + 1) 559 h [(0, x0)] =
  if x0 = 30 then
    some (.inl (some (0, 3)), h)
  else
    if x0 = 52 then
      some (.inl (some (0, 3)), h)
    else
      ca_ (fj_run d 508 h [(1, wI x0), (1, 31), (1, 35)]) 0
        (fun v2 h1 =>
        if v2 = 0 then
          ca_ (fj_run d 508 h1 [(1, wI x0), (1, 48), (1, 51)]) 0
            (fun v5 h4 =>
            if v5 = 0 then
              some (.inl (some (0, 1)), h4)
            else
              some (.inl (some (0, 2)), h4))
            (fun q6 h4 => tx_ q6 h4)
        else
          some (.inl (some (0, 2)), h1))
        (fun q3 h1 => tx_ q3 h1) := by
  rw [fj_run_eq d (by decide) h [(0, x0)] (Nat.le_of_ble_eq_true (by rw [nl_559]; rfl))]
  show gG (fj_run d) 559 0 [(0, (0, x0))] [] h = _
  exact
    have D : fk_D 559 [(0, none, .iload_n 0, 1, 0, 0, 0), (1, none, .bipush 30, 2, 0, 30, 0), (3, none, .if_icmp .eq 9, 3, 12, 0, 0), (6, none, .iload_n 0, 1, 0, 0, 0), (7, none, .bipush 52, 2, 0, 52, 0), (9, none, .if_icmp .ne 7, 3, 16, 0, 0), (12, none, .iconst 3, 1, 0, 3, 0), (13, none, .goto 36, 3, 49, 0, 0)] := fq_of2 cd_559 ow_559 cl_559 rfl (pc := 0) (by decide +kernel)
    j_ildn (pc := 0) D rfl rfl rfl fun D =>
    j_bp (pc := 1) D rfl fun D =>
    j_ieq (pc := 3) D rfl (fun q =>
      have D : fk_D 559 [(12, none, .iconst 3, 1, 0, 3, 0), (13, none, .goto 36, 3, 49, 0, 0)] := fq_of2 cd_559 ow_559 cl_559 rfl (pc := 12) (by decide +kernel)
      j_ic (pc := 12) D rfl fun D =>
      j_goto (pc := 13) D rfl <|
      have D : fk_D 559 [(49, none, .ireturn, 1, 0, 0, 0)] := fq_of2 cd_559 ow_559 cl_559 rfl (pc := 49) (by decide +kernel)
      j_iret D rt_559) (fun q D =>
      j_ildn (pc := 6) D rfl rfl rfl fun D =>
      j_bp (pc := 7) D rfl fun D =>
      j_ine (pc := 9) D rfl (fun q D =>
        j_ic (pc := 12) D rfl fun D =>
        j_goto (pc := 13) D rfl <|
        have D : fk_D 559 [(49, none, .ireturn, 1, 0, 0, 0)] := fq_of2 cd_559 ow_559 cl_559 rfl (pc := 49) (by decide +kernel)
        j_iret D rt_559) (fun q =>
        have D : fk_D 559 [(16, none, .iload_n 0, 1, 0, 0, 0), (17, none, .i2l, 1, 0, 0, 0), (18, none, .ldc2_w 655, 3, 1, 31, 0), (21, none, .ldc2_w 778, 3, 1, 35, 0), (24, none, .invokestatic 434, 3, 3, 508, 1), (27, none, .ifCond .ne 17, 3, 44, 0, 0), (30, none, .iload_n 0, 1, 0, 0, 0), (31, none, .i2l, 1, 0, 0, 0), (32, none, .ldc2_w 491, 3, 1, 48, 0), (35, none, .ldc2_w 776, 3, 1, 51, 0), (38, none, .invokestatic 434, 3, 3, 508, 1), (41, none, .ifCond .eq 7, 3, 48, 0, 0), (44, none, .iconst 2, 1, 0, 2, 0), (45, none, .goto 4, 3, 49, 0, 0)] := fq_of2 cd_559 ow_559 cl_559 rfl (pc := 16) (by decide +kernel)
        j_ildn (pc := 16) D rfl rfl rfl fun D =>
        j_i2l (pc := 17) D rfl fun D =>
        j_ldc2 (pc := 18) D rfl fun D =>
        j_ldc2 (pc := 21) D rfl fun D =>
        j_is (pc := 24) (m := 508) (a := [(1, wI x0), (1, 31), (1, 35)]) (rest := []) D rfl rfl rfl rfl (fun v2 h1 e1 D =>
          have T := fj_run_ok _ _ _ _ _ _ H.1 e1
          have H := shp_st H T
          j_ifne (pc := 27) D rfl (fun q D =>
            j_ildn (pc := 30) D rfl rfl rfl fun D =>
            j_i2l (pc := 31) D rfl fun D =>
            j_ldc2 (pc := 32) D rfl fun D =>
            j_ldc2 (pc := 35) D rfl fun D =>
            j_is (pc := 38) (m := 508) (a := [(1, wI x0), (1, 48), (1, 51)]) (rest := []) D rfl rfl rfl rfl (fun v5 h4 e1 D =>
              have T := fj_run_ok _ _ _ _ _ _ H.1 e1
              have H := shp_st H T
              j_ifeq (pc := 41) D rfl (fun q =>
                have D : fk_D 559 [(48, none, .iconst 1, 1, 0, 1, 0), (49, none, .ireturn, 1, 0, 0, 0)] := fq_of2 cd_559 ow_559 cl_559 rfl (pc := 48) (by decide +kernel)
                j_ic (pc := 48) D rfl fun D =>
                j_iret D rt_559) (fun q D =>
                j_ic (pc := 44) D rfl fun D =>
                j_goto (pc := 45) D rfl <|
                have D : fk_D 559 [(49, none, .ireturn, 1, 0, 0, 0)] := fq_of2 cd_559 ow_559 cl_559 rfl (pc := 49) (by decide +kernel)
                j_iret D rt_559)) (fun q6 h4 e1 =>
              j_tx (hx_559 _))) (fun q =>
            have D : fk_D 559 [(44, none, .iconst 2, 1, 0, 2, 0), (45, none, .goto 4, 3, 49, 0, 0)] := fq_of2 cd_559 ow_559 cl_559 rfl (pc := 44) (by decide +kernel)
            j_ic (pc := 44) D rfl fun D =>
            j_goto (pc := 45) D rfl <|
            have D : fk_D 559 [(49, none, .ireturn, 1, 0, 0, 0)] := fq_of2 cd_559 ow_559 cl_559 rfl (pc := 49) (by decide +kernel)
            j_iret D rt_559)) (fun q3 h1 e1 =>
          j_tx (hx_559 _))))
/-! 560 StatuteHouseModel.kindOf(IIII)I -/
theorem cd_560 : fi_code 560 = prog_69_method_79_code := rfl
theorem hx_560 : ∀ pc, fi_hat 560 pc = none := fun pc => by unfold fi_hat; rw [show fi_hh 560 = [] from rfl]; rfl
theorem rt_560 : fi_ret 560 = some .int := rfl
theorem nl_560 : fi_nl 560 = 4 := rfl
theorem ow_560 : fi_ow 560 = 29 := rfl
theorem cl_560 : fj_cutT.getD 560 [] = [(112, [1, 2, 3]), (127, [1, 2]), (143, [1, 2]), (161, [1, 2]), (177, [1, 2, 3]), (198, [1]), (209, [1]), (220, [1]), (231, [1]), (258, [1]), (280, [1]), (293, [1]), (305, [1])] := rfl
theorem cut_560_112 : fj_cut 560 112 = some [1, 2, 3] := by decide +kernel
noncomputable def c_560_112 (d : Nat) (x1 x2 x3 : Int) (h : fi_H) : fk_R := gG (fj_run d) 560 112 [(1, (0, x1)), (2, (0, x2)), (3, (0, x3))] [] h
theorem cut_560_127 : fj_cut 560 127 = some [1, 2] := by decide +kernel
noncomputable def c_560_127 (d : Nat) (x1 x2 : Int) (h : fi_H) : fk_R := gG (fj_run d) 560 127 [(1, (0, x1)), (2, (0, x2))] [] h
theorem cut_560_143 : fj_cut 560 143 = some [1, 2] := by decide +kernel
noncomputable def c_560_143 (d : Nat) (x1 x2 : Int) (h : fi_H) : fk_R := gG (fj_run d) 560 143 [(1, (0, x1)), (2, (0, x2))] [] h
theorem cut_560_161 : fj_cut 560 161 = some [1, 2] := by decide +kernel
noncomputable def c_560_161 (d : Nat) (x1 x2 : Int) (h : fi_H) : fk_R := gG (fj_run d) 560 161 [(1, (0, x1)), (2, (0, x2))] [] h
theorem cut_560_177 : fj_cut 560 177 = some [1, 2, 3] := by decide +kernel
noncomputable def c_560_177 (d : Nat) (x1 x2 x3 : Int) (h : fi_H) : fk_R := gG (fj_run d) 560 177 [(1, (0, x1)), (2, (0, x2)), (3, (0, x3))] [] h
theorem cut_560_198 : fj_cut 560 198 = some [1] := by decide +kernel
noncomputable def c_560_198 (d : Nat) (x1 : Int) (h : fi_H) : fk_R := gG (fj_run d) 560 198 [(1, (0, x1))] [] h
theorem cut_560_209 : fj_cut 560 209 = some [1] := by decide +kernel
noncomputable def c_560_209 (d : Nat) (x1 : Int) (h : fi_H) : fk_R := gG (fj_run d) 560 209 [(1, (0, x1))] [] h
theorem cut_560_220 : fj_cut 560 220 = some [1] := by decide +kernel
noncomputable def c_560_220 (d : Nat) (x1 : Int) (h : fi_H) : fk_R := gG (fj_run d) 560 220 [(1, (0, x1))] [] h
theorem cut_560_231 : fj_cut 560 231 = some [1] := by decide +kernel
noncomputable def c_560_231 (d : Nat) (x1 : Int) (h : fi_H) : fk_R := gG (fj_run d) 560 231 [(1, (0, x1))] [] h
theorem cut_560_258 : fj_cut 560 258 = some [1] := by decide +kernel
noncomputable def c_560_258 (d : Nat) (x1 : Int) (h : fi_H) : fk_R := gG (fj_run d) 560 258 [(1, (0, x1))] [] h
theorem cut_560_280 : fj_cut 560 280 = some [1] := by decide +kernel
noncomputable def c_560_280 (d : Nat) (x1 : Int) (h : fi_H) : fk_R := gG (fj_run d) 560 280 [(1, (0, x1))] [] h
theorem cut_560_293 : fj_cut 560 293 = some [1] := by decide +kernel
noncomputable def c_560_293 (d : Nat) (x1 : Int) (h : fi_H) : fk_R := gG (fj_run d) 560 293 [(1, (0, x1))] [] h
theorem cut_560_305 : fj_cut 560 305 = some [1] := by decide +kernel
noncomputable def c_560_305 (d : Nat) (x1 : Int) (h : fi_H) : fk_R := gG (fj_run d) 560 305 [(1, (0, x1))] [] h
theorem e_560_112 (d : Nat) (x1 x2 x3 : Int) {h : fi_H} (H : Shp h) : c_560_112 d x1 x2 x3 h =
  if x1 = 0 then
    if x2 = x3 then
      some (.inl (some (0, x2)), h)
    else
      some (.inl (some (0, (-1))), h)
  else
    some (.inl (some (0, (-1))), h) := by
  unfold c_560_112
  exact
    have D : fk_D 560 [(112, some [1, 2, 3], .iload_n 1, 1, 0, 0, 0), (113, none, .ifCond .ne 12, 3, 125, 0, 0), (116, none, .iload_n 2, 1, 0, 0, 0), (117, none, .iload_n 3, 1, 0, 0, 0), (118, none, .if_icmp .ne 7, 3, 125, 0, 0), (121, none, .iload_n 2, 1, 0, 0, 0), (122, none, .goto 4, 3, 126, 0, 0)] := fq_of2 cd_560 ow_560 cl_560 rfl (pc := 112) (by decide +kernel)
    j_ildn (pc := 112) D rfl rfl rfl fun D =>
    j_ifne (pc := 113) D rfl (fun q D =>
      j_ildn (pc := 116) D rfl rfl rfl fun D =>
      j_ildn (pc := 117) D rfl rfl rfl fun D =>
      j_ine (pc := 118) D rfl (fun q D =>
        j_ildn (pc := 121) D rfl rfl rfl fun D =>
        j_goto (pc := 122) D rfl <|
        have D : fk_D 560 [(126, none, .ireturn, 1, 0, 0, 0)] := fq_of2 cd_560 ow_560 cl_560 rfl (pc := 126) (by decide +kernel)
        j_iret D rt_560) (fun q =>
        have D : fk_D 560 [(125, none, .iconst (-1), 1, 0, (-1), 0), (126, none, .ireturn, 1, 0, 0, 0)] := fq_of2 cd_560 ow_560 cl_560 rfl (pc := 125) (by decide +kernel)
        j_ic (pc := 125) D rfl fun D =>
        j_iret D rt_560)) (fun q =>
      have D : fk_D 560 [(125, none, .iconst (-1), 1, 0, (-1), 0), (126, none, .ireturn, 1, 0, 0, 0)] := fq_of2 cd_560 ow_560 cl_560 rfl (pc := 125) (by decide +kernel)
      j_ic (pc := 125) D rfl fun D =>
      j_iret D rt_560)
theorem e_560_127 (d : Nat) (x1 x2 : Int) {h : fi_H} (H : Shp h) : c_560_127 d x1 x2 h =
  if x1 = 4 then
    if x2 = 4 then
      some (.inl (some (0, 1)), h)
    else
      some (.inl (some (0, (-1))), h)
  else
    some (.inl (some (0, (-1))), h) := by
  unfold c_560_127
  exact
    have D : fk_D 560 [(127, some [1, 2], .iload_n 1, 1, 0, 0, 0), (128, none, .iconst 4, 1, 0, 4, 0), (129, none, .if_icmp .ne 12, 3, 141, 0, 0), (132, none, .iload_n 2, 1, 0, 0, 0), (133, none, .iconst 4, 1, 0, 4, 0), (134, none, .if_icmp .ne 7, 3, 141, 0, 0), (137, none, .iconst 1, 1, 0, 1, 0), (138, none, .goto 4, 3, 142, 0, 0)] := fq_of2 cd_560 ow_560 cl_560 rfl (pc := 127) (by decide +kernel)
    j_ildn (pc := 127) D rfl rfl rfl fun D =>
    j_ic (pc := 128) D rfl fun D =>
    j_ine (pc := 129) D rfl (fun q D =>
      j_ildn (pc := 132) D rfl rfl rfl fun D =>
      j_ic (pc := 133) D rfl fun D =>
      j_ine (pc := 134) D rfl (fun q D =>
        j_ic (pc := 137) D rfl fun D =>
        j_goto (pc := 138) D rfl <|
        have D : fk_D 560 [(142, none, .ireturn, 1, 0, 0, 0)] := fq_of2 cd_560 ow_560 cl_560 rfl (pc := 142) (by decide +kernel)
        j_iret D rt_560) (fun q =>
        have D : fk_D 560 [(141, none, .iconst (-1), 1, 0, (-1), 0), (142, none, .ireturn, 1, 0, 0, 0)] := fq_of2 cd_560 ow_560 cl_560 rfl (pc := 141) (by decide +kernel)
        j_ic (pc := 141) D rfl fun D =>
        j_iret D rt_560)) (fun q =>
      have D : fk_D 560 [(141, none, .iconst (-1), 1, 0, (-1), 0), (142, none, .ireturn, 1, 0, 0, 0)] := fq_of2 cd_560 ow_560 cl_560 rfl (pc := 141) (by decide +kernel)
      j_ic (pc := 141) D rfl fun D =>
      j_iret D rt_560)
theorem e_560_143 (d : Nat) (x1 x2 : Int) {h : fi_H} (H : Shp h) : c_560_143 d x1 x2 h =
  ca_ (fj_run d 556 h [(0, x1)]) 0
    (fun v2 h1 =>
    if v2 = 0 then
      some (.inl (some (0, (-1))), h1)
    else
      if x1 = x2 then
        some (.inl (some (0, x1)), h1)
      else
        some (.inl (some (0, (-1))), h1))
    (fun q3 h1 => tx_ q3 h1) := by
  unfold c_560_143
  exact
    have D : fk_D 560 [(143, some [1, 2], .iload_n 1, 1, 0, 0, 0), (144, none, .invokestatic 677, 3, 1, 556, 1), (147, none, .ifCond .eq 12, 3, 159, 0, 0), (150, none, .iload_n 1, 1, 0, 0, 0), (151, none, .iload_n 2, 1, 0, 0, 0), (152, none, .if_icmp .ne 7, 3, 159, 0, 0), (155, none, .iload_n 1, 1, 0, 0, 0), (156, none, .goto 4, 3, 160, 0, 0)] := fq_of2 cd_560 ow_560 cl_560 rfl (pc := 143) (by decide +kernel)
    j_ildn (pc := 143) D rfl rfl rfl fun D =>
    j_is (pc := 144) (m := 556) (a := [(0, x1)]) (rest := []) D rfl rfl rfl rfl (fun v2 h1 e1 D =>
      have T := fj_run_ok _ _ _ _ _ _ H.1 e1
      have H := shp_st H T
      j_ifeq (pc := 147) D rfl (fun q =>
        have D : fk_D 560 [(159, none, .iconst (-1), 1, 0, (-1), 0), (160, none, .ireturn, 1, 0, 0, 0)] := fq_of2 cd_560 ow_560 cl_560 rfl (pc := 159) (by decide +kernel)
        j_ic (pc := 159) D rfl fun D =>
        j_iret D rt_560) (fun q D =>
        j_ildn (pc := 150) D rfl rfl rfl fun D =>
        j_ildn (pc := 151) D rfl rfl rfl fun D =>
        j_ine (pc := 152) D rfl (fun q D =>
          j_ildn (pc := 155) D rfl rfl rfl fun D =>
          j_goto (pc := 156) D rfl <|
          have D : fk_D 560 [(160, none, .ireturn, 1, 0, 0, 0)] := fq_of2 cd_560 ow_560 cl_560 rfl (pc := 160) (by decide +kernel)
          j_iret D rt_560) (fun q =>
          have D : fk_D 560 [(159, none, .iconst (-1), 1, 0, (-1), 0), (160, none, .ireturn, 1, 0, 0, 0)] := fq_of2 cd_560 ow_560 cl_560 rfl (pc := 159) (by decide +kernel)
          j_ic (pc := 159) D rfl fun D =>
          j_iret D rt_560))) (fun q3 h1 e1 =>
      j_tx (hx_560 _))
theorem e_560_161 (d : Nat) (x1 x2 : Int) {h : fi_H} (H : Shp h) : c_560_161 d x1 x2 h =
  if x1 = 2 then
    if x2 = 2 then
      some (.inl (some (0, 2)), h)
    else
      some (.inl (some (0, (-1))), h)
  else
    some (.inl (some (0, (-1))), h) := by
  unfold c_560_161
  exact
    have D : fk_D 560 [(161, some [1, 2], .iload_n 1, 1, 0, 0, 0), (162, none, .iconst 2, 1, 0, 2, 0), (163, none, .if_icmp .ne 12, 3, 175, 0, 0), (166, none, .iload_n 2, 1, 0, 0, 0), (167, none, .iconst 2, 1, 0, 2, 0), (168, none, .if_icmp .ne 7, 3, 175, 0, 0), (171, none, .iconst 2, 1, 0, 2, 0), (172, none, .goto 4, 3, 176, 0, 0)] := fq_of2 cd_560 ow_560 cl_560 rfl (pc := 161) (by decide +kernel)
    j_ildn (pc := 161) D rfl rfl rfl fun D =>
    j_ic (pc := 162) D rfl fun D =>
    j_ine (pc := 163) D rfl (fun q D =>
      j_ildn (pc := 166) D rfl rfl rfl fun D =>
      j_ic (pc := 167) D rfl fun D =>
      j_ine (pc := 168) D rfl (fun q D =>
        j_ic (pc := 171) D rfl fun D =>
        j_goto (pc := 172) D rfl <|
        have D : fk_D 560 [(176, none, .ireturn, 1, 0, 0, 0)] := fq_of2 cd_560 ow_560 cl_560 rfl (pc := 176) (by decide +kernel)
        j_iret D rt_560) (fun q =>
        have D : fk_D 560 [(175, none, .iconst (-1), 1, 0, (-1), 0), (176, none, .ireturn, 1, 0, 0, 0)] := fq_of2 cd_560 ow_560 cl_560 rfl (pc := 175) (by decide +kernel)
        j_ic (pc := 175) D rfl fun D =>
        j_iret D rt_560)) (fun q =>
      have D : fk_D 560 [(175, none, .iconst (-1), 1, 0, (-1), 0), (176, none, .ireturn, 1, 0, 0, 0)] := fq_of2 cd_560 ow_560 cl_560 rfl (pc := 175) (by decide +kernel)
      j_ic (pc := 175) D rfl fun D =>
      j_iret D rt_560)
theorem e_560_177 (d : Nat) (x1 x2 x3 : Int) {h : fi_H} (H : Shp h) : c_560_177 d x1 x2 x3 h =
  if x1 = 1 then
    if x2 = 1 then
      if x3 = 1 then
        some (.inl (some (0, 4)), h)
      else
        some (.inl (some (0, (-1))), h)
    else
      some (.inl (some (0, (-1))), h)
  else
    some (.inl (some (0, (-1))), h) := by
  unfold c_560_177
  exact
    have D : fk_D 560 [(177, some [1, 2, 3], .iload_n 1, 1, 0, 0, 0), (178, none, .iconst 1, 1, 0, 1, 0), (179, none, .if_icmp .ne 17, 3, 196, 0, 0), (182, none, .iload_n 2, 1, 0, 0, 0), (183, none, .iconst 1, 1, 0, 1, 0), (184, none, .if_icmp .ne 12, 3, 196, 0, 0), (187, none, .iload_n 3, 1, 0, 0, 0), (188, none, .iconst 1, 1, 0, 1, 0), (189, none, .if_icmp .ne 7, 3, 196, 0, 0), (192, none, .iconst 4, 1, 0, 4, 0), (193, none, .goto 4, 3, 197, 0, 0)] := fq_of2 cd_560 ow_560 cl_560 rfl (pc := 177) (by decide +kernel)
    j_ildn (pc := 177) D rfl rfl rfl fun D =>
    j_ic (pc := 178) D rfl fun D =>
    j_ine (pc := 179) D rfl (fun q D =>
      j_ildn (pc := 182) D rfl rfl rfl fun D =>
      j_ic (pc := 183) D rfl fun D =>
      j_ine (pc := 184) D rfl (fun q D =>
        j_ildn (pc := 187) D rfl rfl rfl fun D =>
        j_ic (pc := 188) D rfl fun D =>
        j_ine (pc := 189) D rfl (fun q D =>
          j_ic (pc := 192) D rfl fun D =>
          j_goto (pc := 193) D rfl <|
          have D : fk_D 560 [(197, none, .ireturn, 1, 0, 0, 0)] := fq_of2 cd_560 ow_560 cl_560 rfl (pc := 197) (by decide +kernel)
          j_iret D rt_560) (fun q =>
          have D : fk_D 560 [(196, none, .iconst (-1), 1, 0, (-1), 0), (197, none, .ireturn, 1, 0, 0, 0)] := fq_of2 cd_560 ow_560 cl_560 rfl (pc := 196) (by decide +kernel)
          j_ic (pc := 196) D rfl fun D =>
          j_iret D rt_560)) (fun q =>
        have D : fk_D 560 [(196, none, .iconst (-1), 1, 0, (-1), 0), (197, none, .ireturn, 1, 0, 0, 0)] := fq_of2 cd_560 ow_560 cl_560 rfl (pc := 196) (by decide +kernel)
        j_ic (pc := 196) D rfl fun D =>
        j_iret D rt_560)) (fun q =>
      have D : fk_D 560 [(196, none, .iconst (-1), 1, 0, (-1), 0), (197, none, .ireturn, 1, 0, 0, 0)] := fq_of2 cd_560 ow_560 cl_560 rfl (pc := 196) (by decide +kernel)
      j_ic (pc := 196) D rfl fun D =>
      j_iret D rt_560)
theorem e_560_198 (d : Nat) (x1 : Int) {h : fi_H} (H : Shp h) : c_560_198 d x1 h =
  if x1 = 4 then
    some (.inl (some (0, 4)), h)
  else
    some (.inl (some (0, (-1))), h) := by
  unfold c_560_198
  exact
    have D : fk_D 560 [(198, some [1], .iload_n 1, 1, 0, 0, 0), (199, none, .iconst 4, 1, 0, 4, 0), (200, none, .if_icmp .ne 7, 3, 207, 0, 0), (203, none, .iconst 4, 1, 0, 4, 0), (204, none, .goto 4, 3, 208, 0, 0)] := fq_of2 cd_560 ow_560 cl_560 rfl (pc := 198) (by decide +kernel)
    j_ildn (pc := 198) D rfl rfl rfl fun D =>
    j_ic (pc := 199) D rfl fun D =>
    j_ine (pc := 200) D rfl (fun q D =>
      j_ic (pc := 203) D rfl fun D =>
      j_goto (pc := 204) D rfl <|
      have D : fk_D 560 [(208, none, .ireturn, 1, 0, 0, 0)] := fq_of2 cd_560 ow_560 cl_560 rfl (pc := 208) (by decide +kernel)
      j_iret D rt_560) (fun q =>
      have D : fk_D 560 [(207, none, .iconst (-1), 1, 0, (-1), 0), (208, none, .ireturn, 1, 0, 0, 0)] := fq_of2 cd_560 ow_560 cl_560 rfl (pc := 207) (by decide +kernel)
      j_ic (pc := 207) D rfl fun D =>
      j_iret D rt_560)
theorem e_560_209 (d : Nat) (x1 : Int) {h : fi_H} (H : Shp h) : c_560_209 d x1 h =
  if x1 = 4 then
    some (.inl (some (0, 1)), h)
  else
    some (.inl (some (0, (-1))), h) := by
  unfold c_560_209
  exact
    have D : fk_D 560 [(209, some [1], .iload_n 1, 1, 0, 0, 0), (210, none, .iconst 4, 1, 0, 4, 0), (211, none, .if_icmp .ne 7, 3, 218, 0, 0), (214, none, .iconst 1, 1, 0, 1, 0), (215, none, .goto 4, 3, 219, 0, 0)] := fq_of2 cd_560 ow_560 cl_560 rfl (pc := 209) (by decide +kernel)
    j_ildn (pc := 209) D rfl rfl rfl fun D =>
    j_ic (pc := 210) D rfl fun D =>
    j_ine (pc := 211) D rfl (fun q D =>
      j_ic (pc := 214) D rfl fun D =>
      j_goto (pc := 215) D rfl <|
      have D : fk_D 560 [(219, none, .ireturn, 1, 0, 0, 0)] := fq_of2 cd_560 ow_560 cl_560 rfl (pc := 219) (by decide +kernel)
      j_iret D rt_560) (fun q =>
      have D : fk_D 560 [(218, none, .iconst (-1), 1, 0, (-1), 0), (219, none, .ireturn, 1, 0, 0, 0)] := fq_of2 cd_560 ow_560 cl_560 rfl (pc := 218) (by decide +kernel)
      j_ic (pc := 218) D rfl fun D =>
      j_iret D rt_560)
theorem e_560_220 (d : Nat) (x1 : Int) {h : fi_H} (H : Shp h) : c_560_220 d x1 h =
  if x1 = 4 then
    some (.inl (some (0, 0)), h)
  else
    some (.inl (some (0, (-1))), h) := by
  unfold c_560_220
  exact
    have D : fk_D 560 [(220, some [1], .iload_n 1, 1, 0, 0, 0), (221, none, .iconst 4, 1, 0, 4, 0), (222, none, .if_icmp .ne 7, 3, 229, 0, 0), (225, none, .iconst 0, 1, 0, 0, 0), (226, none, .goto 4, 3, 230, 0, 0)] := fq_of2 cd_560 ow_560 cl_560 rfl (pc := 220) (by decide +kernel)
    j_ildn (pc := 220) D rfl rfl rfl fun D =>
    j_ic (pc := 221) D rfl fun D =>
    j_ine (pc := 222) D rfl (fun q D =>
      j_ic (pc := 225) D rfl fun D =>
      j_goto (pc := 226) D rfl <|
      have D : fk_D 560 [(230, none, .ireturn, 1, 0, 0, 0)] := fq_of2 cd_560 ow_560 cl_560 rfl (pc := 230) (by decide +kernel)
      j_iret D rt_560) (fun q =>
      have D : fk_D 560 [(229, none, .iconst (-1), 1, 0, (-1), 0), (230, none, .ireturn, 1, 0, 0, 0)] := fq_of2 cd_560 ow_560 cl_560 rfl (pc := 229) (by decide +kernel)
      j_ic (pc := 229) D rfl fun D =>
      j_iret D rt_560)
theorem e_560_231 (d : Nat) (x1 : Int) {h : fi_H} (H : Shp h) : c_560_231 d x1 h =
  if x1 = 1 then
    some (.inl (some (0, x1)), h)
  else
    if x1 = 2 then
      some (.inl (some (0, x1)), h)
    else
      if x1 = 3 then
        some (.inl (some (0, x1)), h)
      else
        if x1 = 6 then
          some (.inl (some (0, x1)), h)
        else
          some (.inl (some (0, (-1))), h) := by
  unfold c_560_231
  exact
    have D : fk_D 560 [(231, some [1], .iload_n 1, 1, 0, 0, 0), (232, none, .iconst 1, 1, 0, 1, 0), (233, none, .if_icmp .eq 19, 3, 252, 0, 0), (236, none, .iload_n 1, 1, 0, 0, 0), (237, none, .iconst 2, 1, 0, 2, 0), (238, none, .if_icmp .eq 14, 3, 252, 0, 0), (241, none, .iload_n 1, 1, 0, 0, 0), (242, none, .iconst 3, 1, 0, 3, 0), (243, none, .if_icmp .eq 9, 3, 252, 0, 0), (246, none, .iload_n 1, 1, 0, 0, 0), (247, none, .bipush 6, 2, 0, 6, 0), (249, none, .if_icmp .ne 7, 3, 256, 0, 0), (252, none, .iload_n 1, 1, 0, 0, 0), (253, none, .goto 4, 3, 257, 0, 0)] := fq_of2 cd_560 ow_560 cl_560 rfl (pc := 231) (by decide +kernel)
    j_ildn (pc := 231) D rfl rfl rfl fun D =>
    j_ic (pc := 232) D rfl fun D =>
    j_ieq (pc := 233) D rfl (fun q =>
      have D : fk_D 560 [(252, none, .iload_n 1, 1, 0, 0, 0), (253, none, .goto 4, 3, 257, 0, 0)] := fq_of2 cd_560 ow_560 cl_560 rfl (pc := 252) (by decide +kernel)
      j_ildn (pc := 252) D rfl rfl rfl fun D =>
      j_goto (pc := 253) D rfl <|
      have D : fk_D 560 [(257, none, .ireturn, 1, 0, 0, 0)] := fq_of2 cd_560 ow_560 cl_560 rfl (pc := 257) (by decide +kernel)
      j_iret D rt_560) (fun q D =>
      j_ildn (pc := 236) D rfl rfl rfl fun D =>
      j_ic (pc := 237) D rfl fun D =>
      j_ieq (pc := 238) D rfl (fun q =>
        have D : fk_D 560 [(252, none, .iload_n 1, 1, 0, 0, 0), (253, none, .goto 4, 3, 257, 0, 0)] := fq_of2 cd_560 ow_560 cl_560 rfl (pc := 252) (by decide +kernel)
        j_ildn (pc := 252) D rfl rfl rfl fun D =>
        j_goto (pc := 253) D rfl <|
        have D : fk_D 560 [(257, none, .ireturn, 1, 0, 0, 0)] := fq_of2 cd_560 ow_560 cl_560 rfl (pc := 257) (by decide +kernel)
        j_iret D rt_560) (fun q D =>
        j_ildn (pc := 241) D rfl rfl rfl fun D =>
        j_ic (pc := 242) D rfl fun D =>
        j_ieq (pc := 243) D rfl (fun q =>
          have D : fk_D 560 [(252, none, .iload_n 1, 1, 0, 0, 0), (253, none, .goto 4, 3, 257, 0, 0)] := fq_of2 cd_560 ow_560 cl_560 rfl (pc := 252) (by decide +kernel)
          j_ildn (pc := 252) D rfl rfl rfl fun D =>
          j_goto (pc := 253) D rfl <|
          have D : fk_D 560 [(257, none, .ireturn, 1, 0, 0, 0)] := fq_of2 cd_560 ow_560 cl_560 rfl (pc := 257) (by decide +kernel)
          j_iret D rt_560) (fun q D =>
          j_ildn (pc := 246) D rfl rfl rfl fun D =>
          j_bp (pc := 247) D rfl fun D =>
          j_ine (pc := 249) D rfl (fun q D =>
            j_ildn (pc := 252) D rfl rfl rfl fun D =>
            j_goto (pc := 253) D rfl <|
            have D : fk_D 560 [(257, none, .ireturn, 1, 0, 0, 0)] := fq_of2 cd_560 ow_560 cl_560 rfl (pc := 257) (by decide +kernel)
            j_iret D rt_560) (fun q =>
            have D : fk_D 560 [(256, none, .iconst (-1), 1, 0, (-1), 0), (257, none, .ireturn, 1, 0, 0, 0)] := fq_of2 cd_560 ow_560 cl_560 rfl (pc := 256) (by decide +kernel)
            j_ic (pc := 256) D rfl fun D =>
            j_iret D rt_560))))
theorem e_560_258 (d : Nat) (x1 : Int) {h : fi_H} (H : Shp h) : c_560_258 d x1 h =
  if x1 = 1 then
    some (.inl (some (0, 6)), h)
  else
    if x1 = 2 then
      some (.inl (some (0, 6)), h)
    else
      if x1 = 3 then
        some (.inl (some (0, 6)), h)
      else
        some (.inl (some (0, (-1))), h) := by
  unfold c_560_258
  exact
    have D : fk_D 560 [(258, some [1], .iload_n 1, 1, 0, 0, 0), (259, none, .iconst 1, 1, 0, 1, 0), (260, none, .if_icmp .eq 13, 3, 273, 0, 0), (263, none, .iload_n 1, 1, 0, 0, 0), (264, none, .iconst 2, 1, 0, 2, 0), (265, none, .if_icmp .eq 8, 3, 273, 0, 0), (268, none, .iload_n 1, 1, 0, 0, 0), (269, none, .iconst 3, 1, 0, 3, 0), (270, none, .if_icmp .ne 8, 3, 278, 0, 0), (273, none, .bipush 6, 2, 0, 6, 0), (275, none, .goto 4, 3, 279, 0, 0)] := fq_of2 cd_560 ow_560 cl_560 rfl (pc := 258) (by decide +kernel)
    j_ildn (pc := 258) D rfl rfl rfl fun D =>
    j_ic (pc := 259) D rfl fun D =>
    j_ieq (pc := 260) D rfl (fun q =>
      have D : fk_D 560 [(273, none, .bipush 6, 2, 0, 6, 0), (275, none, .goto 4, 3, 279, 0, 0)] := fq_of2 cd_560 ow_560 cl_560 rfl (pc := 273) (by decide +kernel)
      j_bp (pc := 273) D rfl fun D =>
      j_goto (pc := 275) D rfl <|
      have D : fk_D 560 [(279, none, .ireturn, 1, 0, 0, 0)] := fq_of2 cd_560 ow_560 cl_560 rfl (pc := 279) (by decide +kernel)
      j_iret D rt_560) (fun q D =>
      j_ildn (pc := 263) D rfl rfl rfl fun D =>
      j_ic (pc := 264) D rfl fun D =>
      j_ieq (pc := 265) D rfl (fun q =>
        have D : fk_D 560 [(273, none, .bipush 6, 2, 0, 6, 0), (275, none, .goto 4, 3, 279, 0, 0)] := fq_of2 cd_560 ow_560 cl_560 rfl (pc := 273) (by decide +kernel)
        j_bp (pc := 273) D rfl fun D =>
        j_goto (pc := 275) D rfl <|
        have D : fk_D 560 [(279, none, .ireturn, 1, 0, 0, 0)] := fq_of2 cd_560 ow_560 cl_560 rfl (pc := 279) (by decide +kernel)
        j_iret D rt_560) (fun q D =>
        j_ildn (pc := 268) D rfl rfl rfl fun D =>
        j_ic (pc := 269) D rfl fun D =>
        j_ine (pc := 270) D rfl (fun q D =>
          j_bp (pc := 273) D rfl fun D =>
          j_goto (pc := 275) D rfl <|
          have D : fk_D 560 [(279, none, .ireturn, 1, 0, 0, 0)] := fq_of2 cd_560 ow_560 cl_560 rfl (pc := 279) (by decide +kernel)
          j_iret D rt_560) (fun q =>
          have D : fk_D 560 [(278, none, .iconst (-1), 1, 0, (-1), 0), (279, none, .ireturn, 1, 0, 0, 0)] := fq_of2 cd_560 ow_560 cl_560 rfl (pc := 278) (by decide +kernel)
          j_ic (pc := 278) D rfl fun D =>
          j_iret D rt_560)))
theorem e_560_280 (d : Nat) (x1 : Int) {h : fi_H} (H : Shp h) : c_560_280 d x1 h =
  if x1 = 6 then
    some (.inl (some (0, 6)), h)
  else
    some (.inl (some (0, (-1))), h) := by
  unfold c_560_280
  exact
    have D : fk_D 560 [(280, some [1], .iload_n 1, 1, 0, 0, 0), (281, none, .bipush 6, 2, 0, 6, 0), (283, none, .if_icmp .ne 8, 3, 291, 0, 0), (286, none, .bipush 6, 2, 0, 6, 0), (288, none, .goto 4, 3, 292, 0, 0)] := fq_of2 cd_560 ow_560 cl_560 rfl (pc := 280) (by decide +kernel)
    j_ildn (pc := 280) D rfl rfl rfl fun D =>
    j_bp (pc := 281) D rfl fun D =>
    j_ine (pc := 283) D rfl (fun q D =>
      j_bp (pc := 286) D rfl fun D =>
      j_goto (pc := 288) D rfl <|
      have D : fk_D 560 [(292, none, .ireturn, 1, 0, 0, 0)] := fq_of2 cd_560 ow_560 cl_560 rfl (pc := 292) (by decide +kernel)
      j_iret D rt_560) (fun q =>
      have D : fk_D 560 [(291, none, .iconst (-1), 1, 0, (-1), 0), (292, none, .ireturn, 1, 0, 0, 0)] := fq_of2 cd_560 ow_560 cl_560 rfl (pc := 291) (by decide +kernel)
      j_ic (pc := 291) D rfl fun D =>
      j_iret D rt_560)
theorem e_560_293 (d : Nat) (x1 : Int) {h : fi_H} (H : Shp h) : c_560_293 d x1 h =
  if x1 = 6 then
    some (.inl (some (0, 2)), h)
  else
    some (.inl (some (0, (-1))), h) := by
  unfold c_560_293
  exact
    have D : fk_D 560 [(293, some [1], .iload_n 1, 1, 0, 0, 0), (294, none, .bipush 6, 2, 0, 6, 0), (296, none, .if_icmp .ne 7, 3, 303, 0, 0), (299, none, .iconst 2, 1, 0, 2, 0), (300, none, .goto 4, 3, 304, 0, 0)] := fq_of2 cd_560 ow_560 cl_560 rfl (pc := 293) (by decide +kernel)
    j_ildn (pc := 293) D rfl rfl rfl fun D =>
    j_bp (pc := 294) D rfl fun D =>
    j_ine (pc := 296) D rfl (fun q D =>
      j_ic (pc := 299) D rfl fun D =>
      j_goto (pc := 300) D rfl <|
      have D : fk_D 560 [(304, none, .ireturn, 1, 0, 0, 0)] := fq_of2 cd_560 ow_560 cl_560 rfl (pc := 304) (by decide +kernel)
      j_iret D rt_560) (fun q =>
      have D : fk_D 560 [(303, none, .iconst (-1), 1, 0, (-1), 0), (304, none, .ireturn, 1, 0, 0, 0)] := fq_of2 cd_560 ow_560 cl_560 rfl (pc := 303) (by decide +kernel)
      j_ic (pc := 303) D rfl fun D =>
      j_iret D rt_560)
theorem e_560_305 (d : Nat) (x1 : Int) {h : fi_H} (H : Shp h) : c_560_305 d x1 h =
  if x1 = 3 then
    some (.inl (some (0, 1)), h)
  else
    if x1 = 6 then
      some (.inl (some (0, 1)), h)
    else
      some (.inl (some (0, (-1))), h) := by
  unfold c_560_305
  exact
    have D : fk_D 560 [(305, some [1], .iload_n 1, 1, 0, 0, 0), (306, none, .iconst 3, 1, 0, 3, 0), (307, none, .if_icmp .eq 9, 3, 316, 0, 0), (310, none, .iload_n 1, 1, 0, 0, 0), (311, none, .bipush 6, 2, 0, 6, 0), (313, none, .if_icmp .ne 7, 3, 320, 0, 0), (316, none, .iconst 1, 1, 0, 1, 0), (317, none, .goto 4, 3, 321, 0, 0)] := fq_of2 cd_560 ow_560 cl_560 rfl (pc := 305) (by decide +kernel)
    j_ildn (pc := 305) D rfl rfl rfl fun D =>
    j_ic (pc := 306) D rfl fun D =>
    j_ieq (pc := 307) D rfl (fun q =>
      have D : fk_D 560 [(316, none, .iconst 1, 1, 0, 1, 0), (317, none, .goto 4, 3, 321, 0, 0)] := fq_of2 cd_560 ow_560 cl_560 rfl (pc := 316) (by decide +kernel)
      j_ic (pc := 316) D rfl fun D =>
      j_goto (pc := 317) D rfl <|
      have D : fk_D 560 [(321, none, .ireturn, 1, 0, 0, 0)] := fq_of2 cd_560 ow_560 cl_560 rfl (pc := 321) (by decide +kernel)
      j_iret D rt_560) (fun q D =>
      j_ildn (pc := 310) D rfl rfl rfl fun D =>
      j_bp (pc := 311) D rfl fun D =>
      j_ine (pc := 313) D rfl (fun q D =>
        j_ic (pc := 316) D rfl fun D =>
        j_goto (pc := 317) D rfl <|
        have D : fk_D 560 [(321, none, .ireturn, 1, 0, 0, 0)] := fq_of2 cd_560 ow_560 cl_560 rfl (pc := 321) (by decide +kernel)
        j_iret D rt_560) (fun q =>
        have D : fk_D 560 [(320, none, .iconst (-1), 1, 0, (-1), 0), (321, none, .ireturn, 1, 0, 0, 0)] := fq_of2 cd_560 ow_560 cl_560 rfl (pc := 320) (by decide +kernel)
        j_ic (pc := 320) D rfl fun D =>
        j_iret D rt_560))
theorem m_560 (d : Nat) (x0 x1 x2 x3 : Int) {h : fi_H} (H : Shp h) : fj_run (d + 1) 560 h [(0, x0), (0, x1), (0, x2), (0, x3)] =
  if x0 = 30 then
    c_560_112 d x1 x2 x3 h
  else if x0 = 31 then
    c_560_127 d x1 x2 h
  else if x0 = 32 then
    c_560_127 d x1 x2 h
  else if x0 = 33 then
    c_560_127 d x1 x2 h
  else if x0 = 34 then
    c_560_143 d x1 x2 h
  else if x0 = 35 then
    c_560_143 d x1 x2 h
  else if x0 = 36 then
    c_560_198 d x1 h
  else if x0 = 37 then
    c_560_198 d x1 h
  else if x0 = 38 then
    c_560_209 d x1 h
  else if x0 = 39 then
    c_560_209 d x1 h
  else if x0 = 40 then
    c_560_209 d x1 h
  else if x0 = 41 then
    c_560_209 d x1 h
  else if x0 = 42 then
    c_560_220 d x1 h
  else if x0 = 43 then
    c_560_198 d x1 h
  else if x0 = 44 then
    c_560_231 d x1 h
  else if x0 = 45 then
    c_560_280 d x1 h
  else if x0 = 46 then
    c_560_293 d x1 h
  else if x0 = 48 then
    c_560_161 d x1 x2 h
  else if x0 = 49 then
    c_560_161 d x1 x2 h
  else if x0 = 50 then
    c_560_161 d x1 x2 h
  else if x0 = 51 then
    c_560_161 d x1 x2 h
  else if x0 = 52 then
    c_560_177 d x1 x2 x3 h
  else if x0 = 53 then
    c_560_258 d x1 h
  else 
    c_560_305 d x1 h := by
  rw [fj_run_eq d (by decide) h [(0, x0), (0, x1), (0, x2), (0, x3)] (Nat.le_of_ble_eq_true (by rw [nl_560]; rfl))]
  show gG (fj_run d) 560 0 [(0, (0, x0)), (1, (0, x1)), (2, (0, x2)), (3, (0, x3))] [] h = _
  exact
    have D : fk_D 560 [(0, none, .iload_n 0, 1, 0, 0, 0), (1, none, .tableswitch 304 30 53 #[111, 126, 126, 126, 142, 142, 197, 197, 208, 208, 208, 208, 219, 197, 230, 279, 292, 304, 160, 160, 160, 160, 176, 257], 111, 0, 0, 0)] := fq_of3 cd_560 ow_560 cl_560 rfl (pc := 0) (by decide +kernel)
    j_ildn (pc := 0) D rfl rfl rfl fun D =>
    have N : fk_ni (x0) [] := trivial
    j_tc (pc := 1) 30 (t := 112) D N rfl (by decide +kernel) (fun q =>
      fk_jump cut_560_112 rfl rfl) (fun N =>
      j_tc 31 (t := 127) D N rfl (by decide +kernel) (fun q =>
        fk_jump cut_560_127 rfl rfl) (fun N =>
        j_tc 32 (t := 127) D N rfl (by decide +kernel) (fun q =>
          fk_jump cut_560_127 rfl rfl) (fun N =>
          j_tc 33 (t := 127) D N rfl (by decide +kernel) (fun q =>
            fk_jump cut_560_127 rfl rfl) (fun N =>
            j_tc 34 (t := 143) D N rfl (by decide +kernel) (fun q =>
              fk_jump cut_560_143 rfl rfl) (fun N =>
              j_tc 35 (t := 143) D N rfl (by decide +kernel) (fun q =>
                fk_jump cut_560_143 rfl rfl) (fun N =>
                j_tc 36 (t := 198) D N rfl (by decide +kernel) (fun q =>
                  fk_jump cut_560_198 rfl rfl) (fun N =>
                  j_tc 37 (t := 198) D N rfl (by decide +kernel) (fun q =>
                    fk_jump cut_560_198 rfl rfl) (fun N =>
                    j_tc 38 (t := 209) D N rfl (by decide +kernel) (fun q =>
                      fk_jump cut_560_209 rfl rfl) (fun N =>
                      j_tc 39 (t := 209) D N rfl (by decide +kernel) (fun q =>
                        fk_jump cut_560_209 rfl rfl) (fun N =>
                        j_tc 40 (t := 209) D N rfl (by decide +kernel) (fun q =>
                          fk_jump cut_560_209 rfl rfl) (fun N =>
                          j_tc 41 (t := 209) D N rfl (by decide +kernel) (fun q =>
                            fk_jump cut_560_209 rfl rfl) (fun N =>
                            j_tc 42 (t := 220) D N rfl (by decide +kernel) (fun q =>
                              fk_jump cut_560_220 rfl rfl) (fun N =>
                              j_tc 43 (t := 198) D N rfl (by decide +kernel) (fun q =>
                                fk_jump cut_560_198 rfl rfl) (fun N =>
                                j_tc 44 (t := 231) D N rfl (by decide +kernel) (fun q =>
                                  fk_jump cut_560_231 rfl rfl) (fun N =>
                                  j_tc 45 (t := 280) D N rfl (by decide +kernel) (fun q =>
                                    fk_jump cut_560_280 rfl rfl) (fun N =>
                                    j_tc 46 (t := 293) D N rfl (by decide +kernel) (fun q =>
                                      fk_jump cut_560_293 rfl rfl) (fun N =>
                                      j_tc 48 (t := 161) D N rfl (by decide +kernel) (fun q =>
                                        fk_jump cut_560_161 rfl rfl) (fun N =>
                                        j_tc 49 (t := 161) D N rfl (by decide +kernel) (fun q =>
                                          fk_jump cut_560_161 rfl rfl) (fun N =>
                                          j_tc 50 (t := 161) D N rfl (by decide +kernel) (fun q =>
                                            fk_jump cut_560_161 rfl rfl) (fun N =>
                                            j_tc 51 (t := 161) D N rfl (by decide +kernel) (fun q =>
                                              fk_jump cut_560_161 rfl rfl) (fun N =>
                                              j_tc 52 (t := 177) D N rfl (by decide +kernel) (fun q =>
                                                fk_jump cut_560_177 rfl rfl) (fun N =>
                                                j_tc 53 (t := 258) D N rfl (by decide +kernel) (fun q =>
                                                  fk_jump cut_560_258 rfl rfl) (fun N =>
                                                  j_td (t := 305) D N rfl (by decide +kernel) (by decide +kernel) <|
                                                  fk_jump cut_560_305 rfl rfl)))))))))))))))))))))))
/-! 561 StatuteHouseModel.two(IIII)I -/
theorem cd_561 : fi_code 561 = prog_69_method_55_code := rfl
theorem hx_561 : ∀ pc, fi_hat 561 pc = none := fun pc => by unfold fi_hat; rw [show fi_hh 561 = [] from rfl]; rfl
theorem rt_561 : fi_ret 561 = some .int := rfl
theorem nl_561 : fi_nl 561 = 5 := rfl
theorem ow_561 : fi_ow 561 = 29 := rfl
theorem cl_561 : fj_cutT.getD 561 [] = [] := rfl
theorem m_561 (d : Nat) (x1 x2 x3 x4 : Int) {h : fi_H} (H : Shp h) : fj_run (d + 1) 561 h [(4, 602), (0, x1), (0, x2), (0, x3), (0, x4)] =
  if 0 ≤ x3 ∧ x3 < 9300 then
  if 0 ≤ x4 ∧ x4 < 9300 then
  ca_ (fj_run d 562 h [(0, x1), (0, h 10 618 x3.toNat), (0, h 10 618 x4.toNat)]) 0
    (fun v4 h3 =>
    ca_ (fj_run d 546 h3 [(4, 602), (0, x1), (0, x2), (0, v4), (0, x3), (0, x4), (0, (-1))]) 0
      (fun v7 h6 =>
      some (.inl (some (0, v7)), h6))
      (fun q8 h6 => tx_ q8 h6))
    (fun q5 h3 => tx_ q5 h3)
  else none
  else none := by
  rw [fj_run_eq d (by decide) h [(4, 602), (0, x1), (0, x2), (0, x3), (0, x4)] (Nat.le_of_ble_eq_true (by rw [nl_561]; rfl))]
  show gG (fj_run d) 561 0 [(0, (4, 602)), (1, (0, x1)), (2, (0, x2)), (3, (0, x3)), (4, (0, x4))] [] h = _
  exact
    have D : fk_D 561 [(0, none, .aload_n 0, 1, 0, 0, 0), (1, none, .iload_n 1, 1, 0, 0, 0), (2, none, .iload_n 2, 1, 0, 0, 0), (3, none, .iload_n 1, 1, 0, 0, 0), (4, none, .aload_n 0, 1, 0, 0, 0), (5, none, .getfield 65, 3, 419, 129, 12), (8, none, .iload_n 3, 1, 0, 0, 0), (9, none, .iaload, 1, 0, 0, 0), (10, none, .aload_n 0, 1, 0, 0, 0), (11, none, .getfield 65, 3, 419, 129, 12), (14, none, .iload 4, 2, 0, 0, 0), (16, none, .iaload, 1, 0, 0, 0), (17, none, .invokestatic 680, 3, 3, 562, 1), (20, none, .iload_n 3, 1, 0, 0, 0), (21, none, .iload 4, 2, 0, 0, 0), (23, none, .iconst (-1), 1, 0, (-1), 0), (24, none, .invokevirtual 683, 3, 6, 368, 1), (27, none, .ireturn, 1, 0, 0, 0)] := fq_of2 cd_561 ow_561 cl_561 rfl (pc := 0) (by decide +kernel)
    j_aldn (pc := 0) D rfl rfl rfl fun D =>
    j_ildn (pc := 1) D rfl rfl rfl fun D =>
    j_ildn (pc := 2) D rfl rfl rfl fun D =>
    j_ildn (pc := 3) D rfl rfl rfl fun D =>
    j_aldn (pc := 4) D rfl rfl rfl fun D =>
    j_gfc (pc := 5) (a := 602) D rfl rfl (by decide) rfl (s0_602 H) rfl (sf_419_602 H) fun D =>
    j_ildn (pc := 8) D rfl rfl rfl fun D =>
    j_al (pc := 9) (a := 618) (e := 10) D rfl rfl rfl (by decide) (s0_618 H) (s1_618 H) ⟨rfl, rfl, rfl⟩ rfl gn fun qb1 D =>
    j_aldn (pc := 10) D rfl rfl rfl fun D =>
    j_gfc (pc := 11) (a := 602) D rfl rfl (by decide) rfl (s0_602 H) rfl (sf_419_602 H) fun D =>
    j_ild (pc := 14) D rfl rfl rfl fun D =>
    j_al (pc := 16) (a := 618) (e := 10) D rfl rfl rfl (by decide) (s0_618 H) (s1_618 H) ⟨rfl, rfl, rfl⟩ rfl gn fun qb2 D =>
    j_is (pc := 17) (m := 562) (a := [(0, x1), (0, h 10 618 x3.toNat), (0, h 10 618 x4.toNat)]) (rest := [(0, x2), (0, x1), (4, 602)]) D rfl rfl rfl rfl (fun v4 h3 e1 D =>
      have T := fj_run_ok _ _ _ _ _ _ H.1 e1
      have H := shp_st H T
      j_ildn (pc := 20) D rfl rfl rfl fun D =>
      j_ild (pc := 21) D rfl rfl rfl fun D =>
      j_ic (pc := 23) D rfl fun D =>
      j_iv (pc := 24) (m := 546) (dd := 368) (a := [(0, x1), (0, x2), (0, v4), (0, x3), (0, x4), (0, (-1))]) (rest := []) D rfl rfl rfl rfl rfl (by decide) (s0_602 H) (by decide +kernel) (fun v7 h6 e1 D =>
        have T := fj_run_ok _ _ _ _ _ _ H.1 e1
        have H := shp_st H T
        j_iret D rt_561) (fun q8 h6 e1 =>
        j_tx (hx_561 _))) (fun q5 h3 e1 =>
      j_tx (hx_561 _))
