/-! forms of methods 526..541, printed by gen/forms.py -/
set_option maxRecDepth 100000
/-! 526 StatuteHouseModel.readLaw(I)V -/
theorem cd_526 : fi_code 526 = prog_69_method_82_code := rfl
theorem hx_526 : ∀ pc, fi_hat 526 pc = none := fun pc => by unfold fi_hat; rw [show fi_hh 526 = [] from rfl]; rfl
theorem rt_526 : fi_ret 526 = none := rfl
theorem nl_526 : fi_nl 526 = 8 := rfl
theorem ow_526 : fi_ow 526 = 29 := rfl
theorem cl_526 : fj_cutT.getD 526 [] = [(5, [0, 1, 2]), (24, [0, 1, 2]), (29, [0, 1, 2]), (89, [0, 1, 2, 3]), (90, [0, 1, 2, 3]), (159, [0, 1, 2, 3, 4, 5]), (179, [0, 1, 2, 3, 4, 5]), (210, [0, 1, 2, 3, 4, 5]), (264, [0, 1, 2, 3, 4, 5, 6]), (288, [0, 1, 2, 3, 5, 6, 7]), (332, [0, 1, 2, 3, 5]), (336, [0, 1, 2, 3, 5]), (389, [0, 1, 2, 3, 5, 6])] := rfl
theorem cut_526_5 : fj_cut 526 5 = some [0, 1, 2] := by decide +kernel
noncomputable def c_526_5 (d : Nat) (x1 x2 : Int) (h : fi_H) : fk_R := gG (fj_run d) 526 5 [(0, (4, 602)), (1, (0, x1)), (2, (0, x2))] [] h
theorem cut_526_24 : fj_cut 526 24 = some [0, 1, 2] := by decide +kernel
noncomputable def c_526_24 (d : Nat) (x1 x2 s0 : Int) (h : fi_H) : fk_R := gG (fj_run d) 526 24 [(0, (4, 602)), (1, (0, x1)), (2, (0, x2))] [(4, s0)] h
theorem cut_526_29 : fj_cut 526 29 = some [0, 1, 2] := by decide +kernel
noncomputable def c_526_29 (d : Nat) (x1 x2 s0 s1 : Int) (h : fi_H) : fk_R := gG (fj_run d) 526 29 [(0, (4, 602)), (1, (0, x1)), (2, (0, x2))] [(0, s1), (4, s0)] h
theorem cut_526_89 : fj_cut 526 89 = some [0, 1, 2, 3] := by decide +kernel
noncomputable def c_526_89 (d : Nat) (x1 x2 x3 s0 : Int) (h : fi_H) : fk_R := gG (fj_run d) 526 89 [(0, (4, 602)), (1, (0, x1)), (2, (0, x2)), (3, (0, x3))] [(4, s0)] h
theorem cut_526_90 : fj_cut 526 90 = some [0, 1, 2, 3] := by decide +kernel
noncomputable def c_526_90 (d : Nat) (x1 x2 x3 s0 s1 : Int) (h : fi_H) : fk_R := gG (fj_run d) 526 90 [(0, (4, 602)), (1, (0, x1)), (2, (0, x2)), (3, (0, x3))] [(0, s1), (4, s0)] h
theorem cut_526_159 : fj_cut 526 159 = some [0, 1, 2, 3, 4, 5] := by decide +kernel
noncomputable def c_526_159 (d : Nat) (x1 x2 x3 x4 x5 s0 s1 : Int) (h : fi_H) : fk_R := gG (fj_run d) 526 159 [(0, (4, 602)), (1, (0, x1)), (2, (0, x2)), (3, (0, x3)), (4, (0, x4)), (5, (0, x5))] [(0, s1), (4, s0)] h
theorem cut_526_179 : fj_cut 526 179 = some [0, 1, 2, 3, 4, 5] := by decide +kernel
noncomputable def c_526_179 (d : Nat) (x1 x2 x3 x4 x5 : Int) (h : fi_H) : fk_R := gG (fj_run d) 526 179 [(0, (4, 602)), (1, (0, x1)), (2, (0, x2)), (3, (0, x3)), (4, (0, x4)), (5, (0, x5))] [] h
theorem cut_526_210 : fj_cut 526 210 = some [0, 1, 2, 3, 4, 5] := by decide +kernel
noncomputable def c_526_210 (d : Nat) (x1 x2 x3 x4 x5 s0 s1 : Int) (h : fi_H) : fk_R := gG (fj_run d) 526 210 [(0, (4, 602)), (1, (0, x1)), (2, (0, x2)), (3, (0, x3)), (4, (0, x4)), (5, (0, x5))] [(0, s1), (4, s0)] h
theorem cut_526_264 : fj_cut 526 264 = some [0, 1, 2, 3, 4, 5, 6] := by decide +kernel
noncomputable def c_526_264 (d : Nat) (x1 x2 x3 x4 x5 x6 s0 s1 : Int) (h : fi_H) : fk_R := gG (fj_run d) 526 264 [(0, (4, 602)), (1, (0, x1)), (2, (0, x2)), (3, (0, x3)), (4, (0, x4)), (5, (0, x5)), (6, (0, x6))] [(0, s1), (4, s0)] h
theorem cut_526_288 : fj_cut 526 288 = some [0, 1, 2, 3, 5, 6, 7] := by decide +kernel
noncomputable def c_526_288 (d : Nat) (x1 x2 x3 x5 x6 x7 : Int) (h : fi_H) : fk_R := gG (fj_run d) 526 288 [(0, (4, 602)), (1, (0, x1)), (2, (0, x2)), (3, (0, x3)), (5, (0, x5)), (6, (0, x6)), (7, (0, x7))] [] h
theorem cut_526_332 : fj_cut 526 332 = some [0, 1, 2, 3, 5] := by decide +kernel
noncomputable def c_526_332 (d : Nat) (x1 x2 x3 x5 : Int) (h : fi_H) : fk_R := gG (fj_run d) 526 332 [(0, (4, 602)), (1, (0, x1)), (2, (0, x2)), (3, (0, x3)), (5, (0, x5))] [] h
theorem cut_526_336 : fj_cut 526 336 = some [0, 1, 2, 3, 5] := by decide +kernel
noncomputable def c_526_336 (d : Nat) (x1 x2 x3 x5 : Int) (h : fi_H) : fk_R := gG (fj_run d) 526 336 [(0, (4, 602)), (1, (0, x1)), (2, (0, x2)), (3, (0, x3)), (5, (0, x5))] [] h
theorem cut_526_389 : fj_cut 526 389 = some [0, 1, 2, 3, 5, 6] := by decide +kernel
noncomputable def c_526_389 (d : Nat) (x1 x2 x3 x5 x6 s0 s1 s2 : Int) (h : fi_H) : fk_R := gG (fj_run d) 526 389 [(0, (4, 602)), (1, (0, x1)), (2, (0, x2)), (3, (0, x3)), (5, (0, x5)), (6, (0, x6))] [(0, s2), (0, s1), (4, s0)] h
theorem e_526_5 (d : Nat) (x1 x2 : Int) {h : fi_H} (H : Shp h) : c_526_5 d x1 x2 h =
  ca_ (fj_run d 499 h [(4, 602), (0, 20)]) 0
    (fun v2 h1 =>
    if v2 = 0 then
      ca_ (fj_run d 499 h1 [(4, 602), (0, 71)]) 0
        (fun v5 h4 =>
        if v5 = 0 then
          c_526_29 d x1 x2 602 0 h4
        else
          c_526_24 d x1 x2 602 h4)
        (fun q6 h4 => tx_ q6 h4)
    else
      c_526_24 d x1 x2 602 h1)
    (fun q3 h1 => tx_ q3 h1) := by
  unfold c_526_5
  exact
    have D : fk_D 526 [(5, some [0, 1, 2], .aload_n 0, 1, 0, 0, 0), (6, none, .aload_n 0, 1, 0, 0, 0), (7, none, .bipush 20, 2, 0, 20, 0), (9, none, .invokevirtual 570, 3, 1, 352, 1), (12, none, .ifCond .ne 12, 3, 24, 0, 0), (15, none, .aload_n 0, 1, 0, 0, 0), (16, none, .bipush 71, 2, 0, 71, 0), (18, none, .invokevirtual 570, 3, 1, 352, 1), (21, none, .ifCond .eq 7, 3, 28, 0, 0)] := fq_of2 cd_526 ow_526 cl_526 rfl (pc := 5) (by decide +kernel)
    j_aldn (pc := 5) D rfl rfl rfl fun D =>
    j_aldn (pc := 6) D rfl rfl rfl fun D =>
    j_bp (pc := 7) D rfl fun D =>
    j_iv (pc := 9) (m := 499) (dd := 352) (a := [(0, 20)]) (rest := [(4, 602)]) D rfl rfl rfl rfl rfl (by decide) (s0_602 H) (by decide +kernel) (fun v2 h1 e1 D =>
      have T := fj_run_ok _ _ _ _ _ _ H.1 e1
      have H := shp_st H T
      j_ifne (pc := 12) D rfl (fun q D =>
        j_aldn (pc := 15) D rfl rfl rfl fun D =>
        j_bp (pc := 16) D rfl fun D =>
        j_iv (pc := 18) (m := 499) (dd := 352) (a := [(0, 71)]) (rest := [(4, 602)]) D rfl rfl rfl rfl rfl (by decide) (s0_602 H) (by decide +kernel) (fun v5 h4 e1 D =>
          have T := fj_run_ok _ _ _ _ _ _ H.1 e1
          have H := shp_st H T
          j_ifeq (pc := 21) D rfl (fun q =>
            have D : fk_D 526 [(28, none, .iconst 0, 1, 0, 0, 0)] := fq_of2 cd_526 ow_526 cl_526 rfl (pc := 28) (by decide +kernel)
            j_ic (pc := 28) D rfl fun D =>
            fk_jump cut_526_29 rfl rfl) (fun q D =>
            fk_jump cut_526_24 rfl rfl)) (fun q6 h4 e1 =>
          j_tx (hx_526 _))) (fun q =>
        fk_jump cut_526_24 rfl rfl)) (fun q3 h1 e1 =>
      j_tx (hx_526 _))
theorem e_526_24 (d : Nat) (x1 x2 s0 : Int) {h : fi_H} (H : Shp h) : c_526_24 d x1 x2 s0 h =
  c_526_29 d x1 x2 s0 1 h := by
  unfold c_526_24
  exact
    have D : fk_D 526 [(24, some [0, 1, 2], .iconst 1, 1, 0, 1, 0), (25, none, .goto 4, 3, 29, 0, 0)] := fq_of2 cd_526 ow_526 cl_526 rfl (pc := 24) (by decide +kernel)
    j_ic (pc := 24) D rfl fun D =>
    j_goto (pc := 25) D rfl <|
    fk_jump cut_526_29 rfl rfl
theorem e_526_29 (d : Nat) (x1 x2 s0 s1 : Int) {h : fi_H} (H : Shp h) : c_526_29 d x1 x2 s0 s1 h =
  dv_ (fi_vt 348 (h 0 s0.toNat 0)) fun m4 => cv_ (fj_run d m4 h [(4, s0), (0, s1), (0, 1), (0, h 396 602 0)])
    (fun h1 =>
    ca_ (fj_run d 499 h1 [(4, 602), (0, 71)]) 0
      (fun v6 h5 =>
      if wI ((h5 444 602 0) - x2) < 30 then
        if h5 444 602 0 < 200 then
          if 0 ≤ x1 ∧ x1 < 4 then
          if wI ((wI ((h5 10 642 x1.toNat) + (h5 444 602 0))) - x2) < 200 then
            c_526_90 d x1 x2 v6 602 1 h5
          else
            c_526_89 d x1 x2 v6 602 h5
          else none
        else
          c_526_89 d x1 x2 v6 602 h5
      else
        c_526_89 d x1 x2 v6 602 h5)
      (fun q7 h5 => tx_ q7 h5))
    (fun q3 h1 => tx_ q3 h1) := by
  unfold c_526_29
  exact
    have D : fk_D 526 [(29, some [0, 1, 2], .iconst 1, 1, 0, 1, 0), (30, none, .aload_n 0, 1, 0, 0, 0), (31, none, .getfield 507, 3, 396, 129, 10), (34, none, .invokevirtual 557, 3, 3, 348, 0), (37, none, .aload_n 0, 1, 0, 0, 0), (38, none, .bipush 71, 2, 0, 71, 0), (40, none, .invokevirtual 570, 3, 1, 352, 1), (43, none, .istore_n 3, 1, 0, 0, 0), (44, none, .aload_n 0, 1, 0, 0, 0), (45, none, .aload_n 0, 1, 0, 0, 0), (46, none, .getfield 788, 3, 444, 129, 10), (49, none, .iload_n 2, 1, 0, 0, 0), (50, none, .isub, 1, 0, 0, 0), (51, none, .bipush 30, 2, 0, 30, 0), (53, none, .if_icmp .ge 36, 3, 89, 0, 0), (56, none, .aload_n 0, 1, 0, 0, 0), (57, none, .getfield 788, 3, 444, 129, 10), (60, none, .sipush 200, 3, 0, 200, 0), (63, none, .if_icmp .ge 26, 3, 89, 0, 0), (66, none, .aload_n 0, 1, 0, 0, 0)] := fq_of2 cd_526 ow_526 cl_526 rfl (pc := 29) (by decide +kernel)
    j_ic (pc := 29) D rfl fun D =>
    j_aldn (pc := 30) D rfl rfl rfl fun D =>
    j_gf (pc := 31) (a := 602) D rfl rfl (by decide) rfl (s0_602 H) rfl fun D =>
    j_ivuv (pc := 34) (dd := 348) (a := [(0, s1), (0, 1), (0, h 396 602 0)]) (rest := []) H.2.1 D rfl rfl rfl rfl rfl (fun m4 h1 e1 D =>
      have T := fj_run_ok _ _ _ _ _ _ H.1 e1
      have H := shp_st H T
      j_aldn (pc := 37) D rfl rfl rfl fun D =>
      j_bp (pc := 38) D rfl fun D =>
      j_iv (pc := 40) (m := 499) (dd := 352) (a := [(0, 71)]) (rest := []) D rfl rfl rfl rfl rfl (by decide) (s0_602 H) (by decide +kernel) (fun v6 h5 e1 D =>
        have T := fj_run_ok _ _ _ _ _ _ H.1 e1
        have H := shp_st H T
        j_istn (pc := 43) (L' := [(3, (0, v6)), (0, (4, 602)), (1, (0, x1)), (2, (0, x2))]) D rfl nl_526 rfl rfl fun D =>
        j_aldn (pc := 44) D rfl rfl rfl fun D =>
        j_aldn (pc := 45) D rfl rfl rfl fun D =>
        j_gf (pc := 46) (a := 602) D rfl rfl (by decide) rfl (s0_602 H) rfl fun D =>
        j_ildn (pc := 49) D rfl rfl rfl fun D =>
        j_isub (pc := 50) D rfl fun D =>
        j_bp (pc := 51) D rfl fun D =>
        j_ige (pc := 53) D rfl (fun q D =>
          j_aldn (pc := 56) D rfl rfl rfl fun D =>
          j_gf (pc := 57) (a := 602) D rfl rfl (by decide) rfl (s0_602 H) rfl fun D =>
          j_sp (pc := 60) D rfl fun D =>
          j_ige (pc := 63) D rfl (fun q D =>
            j_aldn (pc := 66) D rfl rfl rfl fun D =>
            have D : fk_D 526 [(67, none, .getfield 137, 3, 448, 129, 12), (70, none, .iload_n 1, 1, 0, 0, 0), (71, none, .iaload, 1, 0, 0, 0), (72, none, .aload_n 0, 1, 0, 0, 0), (73, none, .getfield 788, 3, 444, 129, 10), (76, none, .iadd, 1, 0, 0, 0), (77, none, .iload_n 2, 1, 0, 0, 0), (78, none, .isub, 1, 0, 0, 0), (79, none, .sipush 200, 3, 0, 200, 0), (82, none, .if_icmp .ge 7, 3, 89, 0, 0), (85, none, .iconst 1, 1, 0, 1, 0), (86, none, .goto 4, 3, 90, 0, 0)] := fq_of2 cd_526 ow_526 cl_526 rfl (pc := 67) (by decide +kernel)
            j_gfc (pc := 67) (a := 602) D rfl rfl (by decide) rfl (s0_602 H) rfl (sf_448_602 H) fun D =>
            j_ildn (pc := 70) D rfl rfl rfl fun D =>
            j_al (pc := 71) (a := 642) (e := 10) D rfl rfl rfl (by decide) (s0_642 H) (s1_642 H) ⟨rfl, rfl, rfl⟩ rfl gn fun qb8 D =>
            j_aldn (pc := 72) D rfl rfl rfl fun D =>
            j_gf (pc := 73) (a := 602) D rfl rfl (by decide) rfl (s0_602 H) rfl fun D =>
            j_iadd (pc := 76) D rfl fun D =>
            j_ildn (pc := 77) D rfl rfl rfl fun D =>
            j_isub (pc := 78) D rfl fun D =>
            j_sp (pc := 79) D rfl fun D =>
            j_ige (pc := 82) D rfl (fun q D =>
              j_ic (pc := 85) D rfl fun D =>
              j_goto (pc := 86) D rfl <|
              fk_jump cut_526_90 rfl rfl) (fun q =>
              fk_jump cut_526_89 rfl rfl)) (fun q =>
            fk_jump cut_526_89 rfl rfl)) (fun q =>
          fk_jump cut_526_89 rfl rfl)) (fun q7 h5 e1 =>
        j_tx (hx_526 _))) (fun m4 q3 h1 e1 =>
      j_tx (hx_526 _))
theorem e_526_89 (d : Nat) (x1 x2 x3 s0 : Int) {h : fi_H} (H : Shp h) : c_526_89 d x1 x2 x3 s0 h =
  c_526_90 d x1 x2 x3 s0 0 h := by
  unfold c_526_89
  exact
    have D : fk_D 526 [(89, some [0, 1, 2, 3], .iconst 0, 1, 0, 0, 0)] := fq_of2 cd_526 ow_526 cl_526 rfl (pc := 89) (by decide +kernel)
    j_ic (pc := 89) D rfl fun D =>
    fk_jump cut_526_90 rfl rfl
theorem e_526_90 (d : Nat) (x1 x2 x3 s0 s1 : Int) {h : fi_H} (H : Shp h) : c_526_90 d x1 x2 x3 s0 s1 h =
  dv_ (fi_vt 348 (h 0 s0.toNat 0)) fun m4 => cv_ (fj_run d m4 h [(4, s0), (0, s1), (0, 4), (0, h 396 602 0)])
    (fun h1 =>
    cv_ (fj_run d 502 h1 [(4, 602)])
      (fun h5 =>
      ca_ (fj_run d 527 h5 [(4, 602)]) 0
        (fun v9 h8 =>
        if 0 ≤ h5 444 602 0 ∧ h5 444 602 0 < 240 then
        lt_ (fi_upd h8 10 635 (h5 444 602 0).toNat v9) fun h11 =>
        lt_ (fi_upd h11 10 636 (h5 444 602 0).toNat (h11 449 602 0)) fun h13 =>
        ca_ (fj_run d 511 h13 [(4, 602), (0, 21)]) 0
          (fun v15 h14 =>
          if v15 = 0 then
            c_526_179 d x1 x2 x3 (h5 396 602 0) (h5 444 602 0) h14
          else
            if h14 394 602 0 = 5 then
              c_526_159 d x1 x2 x3 (h5 396 602 0) (h5 444 602 0) 602 1 h14
            else
              c_526_159 d x1 x2 x3 (h5 396 602 0) (h5 444 602 0) 602 0 h14)
          (fun q16 h14 => tx_ q16 h14)
        else none)
        (fun q10 h8 => tx_ q10 h8))
      (fun q7 h5 => tx_ q7 h5))
    (fun q3 h1 => tx_ q3 h1) := by
  unfold c_526_90
  exact
    have D : fk_D 526 [(90, some [0, 1, 2, 3], .iconst 4, 1, 0, 4, 0), (91, none, .aload_n 0, 1, 0, 0, 0), (92, none, .getfield 507, 3, 396, 129, 10), (95, none, .invokevirtual 557, 3, 3, 348, 0), (98, none, .aload_n 0, 1, 0, 0, 0), (99, none, .invokevirtual 567, 3, 0, 351, 0), (102, none, .aload_n 0, 1, 0, 0, 0), (103, none, .getfield 507, 3, 396, 129, 10), (106, none, .istore 4, 2, 0, 0, 0), (108, none, .aload_n 0, 1, 0, 0, 0), (109, none, .getfield 788, 3, 444, 129, 10), (112, none, .istore 5, 2, 0, 0, 0), (114, none, .aload_n 0, 1, 0, 0, 0), (115, none, .getfield 116, 3, 440, 129, 12), (118, none, .iload 5, 2, 0, 0, 0), (120, none, .aload_n 0, 1, 0, 0, 0), (121, none, .invokevirtual 791, 3, 0, 392, 1), (124, none, .iastore, 1, 0, 0, 0), (125, none, .aload_n 0, 1, 0, 0, 0), (126, none, .getfield 119, 3, 441, 129, 12)] := fq_of2 cd_526 ow_526 cl_526 rfl (pc := 90) (by decide +kernel)
    j_ic (pc := 90) D rfl fun D =>
    j_aldn (pc := 91) D rfl rfl rfl fun D =>
    j_gf (pc := 92) (a := 602) D rfl rfl (by decide) rfl (s0_602 H) rfl fun D =>
    j_ivuv (pc := 95) (dd := 348) (a := [(0, s1), (0, 4), (0, h 396 602 0)]) (rest := []) H.2.1 D rfl rfl rfl rfl rfl (fun m4 h1 e1 D =>
      have T := fj_run_ok _ _ _ _ _ _ H.1 e1
      have H := shp_st H T
      j_aldn (pc := 98) D rfl rfl rfl fun D =>
      j_ivv (pc := 99) (m := 502) (dd := 351) (a := []) (rest := []) D rfl rfl rfl rfl rfl (by decide) (s0_602 H) (by decide +kernel) (fun h5 e1 D =>
        have T := fj_run_ok _ _ _ _ _ _ H.1 e1
        have H := shp_st H T
        j_aldn (pc := 102) D rfl rfl rfl fun D =>
        j_gf (pc := 103) (a := 602) D rfl rfl (by decide) rfl (s0_602 H) rfl fun D =>
        j_ist (pc := 106) (L' := [(4, (0, h5 396 602 0)), (0, (4, 602)), (1, (0, x1)), (2, (0, x2)), (3, (0, x3))]) D rfl nl_526 rfl rfl fun D =>
        j_aldn (pc := 108) D rfl rfl rfl fun D =>
        j_gf (pc := 109) (a := 602) D rfl rfl (by decide) rfl (s0_602 H) rfl fun D =>
        j_ist (pc := 112) (L' := [(5, (0, h5 444 602 0)), (4, (0, h5 396 602 0)), (0, (4, 602)), (1, (0, x1)), (2, (0, x2)), (3, (0, x3))]) D rfl nl_526 rfl rfl fun D =>
        j_aldn (pc := 114) D rfl rfl rfl fun D =>
        j_gfc (pc := 115) (a := 602) D rfl rfl (by decide) rfl (s0_602 H) rfl (sf_440_602 H) fun D =>
        j_ild (pc := 118) D rfl rfl rfl fun D =>
        j_aldn (pc := 120) D rfl rfl rfl fun D =>
        j_iv (pc := 121) (m := 527) (dd := 392) (a := []) (rest := [(0, h5 444 602 0), (4, 635)]) D rfl rfl rfl rfl rfl (by decide) (s0_602 H) (by decide +kernel) (fun v9 h8 e1 D =>
          have T := fj_run_ok _ _ _ _ _ _ H.1 e1
          have H := shp_st H T
          j_as (pc := 124) (a := 635) (e := 10) D rfl ⟨rfl, rfl⟩ rfl (by decide) (s0_635 H) (s1_635 H) ⟨rfl, rfl, rfl⟩ rfl gn (gy rfl) fun h11 eh11 S qb12 D =>
          have T := fj_hs_ok H.1 S
          have H := shp_st H T
          j_aldn (pc := 125) D rfl rfl rfl fun D =>
          j_gfc (pc := 126) (a := 602) D rfl rfl (by decide) rfl (s0_602 H) rfl (sf_441_602 H) fun D =>
          have D : fk_D 526 [(129, none, .iload 5, 2, 0, 0, 0), (131, none, .aload_n 0, 1, 0, 0, 0), (132, none, .getfield 141, 3, 449, 129, 10), (135, none, .iastore, 1, 0, 0, 0), (136, none, .aload_n 0, 1, 0, 0, 0), (137, none, .bipush 21, 2, 0, 21, 0), (139, none, .invokevirtual 643, 3, 1, 361, 1), (142, none, .ifCond .eq 37, 3, 179, 0, 0), (145, none, .aload_n 0, 1, 0, 0, 0), (146, none, .aload_n 0, 1, 0, 0, 0), (147, none, .getfield 513, 3, 394, 129, 10), (150, none, .iconst 5, 1, 0, 5, 0), (151, none, .if_icmp .ne 7, 3, 158, 0, 0), (154, none, .iconst 1, 1, 0, 1, 0), (155, none, .goto 4, 3, 159, 0, 0)] := fq_of2 cd_526 ow_526 cl_526 rfl (pc := 129) (by decide +kernel)
          j_ild (pc := 129) D rfl rfl rfl fun D =>
          j_aldn (pc := 131) D rfl rfl rfl fun D =>
          j_gf (pc := 132) (a := 602) D rfl rfl (by decide) rfl (s0_602 H) rfl fun D =>
          j_as (pc := 135) (a := 636) (e := 10) D rfl ⟨rfl, rfl⟩ rfl (by decide) (s0_636 H) (s1_636 H) ⟨rfl, rfl, rfl⟩ rfl (gy qb12) (gy rfl) fun h13 eh13 S q D =>
          have T := fj_hs_ok H.1 S
          have H := shp_st H T
          j_aldn (pc := 136) D rfl rfl rfl fun D =>
          j_bp (pc := 137) D rfl fun D =>
          j_iv (pc := 139) (m := 511) (dd := 361) (a := [(0, 21)]) (rest := []) D rfl rfl rfl rfl rfl (by decide) (s0_602 H) (by decide +kernel) (fun v15 h14 e1 D =>
            have T := fj_run_ok _ _ _ _ _ _ H.1 e1
            have H := shp_st H T
            j_ifeq (pc := 142) D rfl (fun q =>
              fk_jump cut_526_179 rfl rfl) (fun q D =>
              j_aldn (pc := 145) D rfl rfl rfl fun D =>
              j_aldn (pc := 146) D rfl rfl rfl fun D =>
              j_gf (pc := 147) (a := 602) D rfl rfl (by decide) rfl (s0_602 H) rfl fun D =>
              j_ic (pc := 150) D rfl fun D =>
              j_ine (pc := 151) D rfl (fun q D =>
                j_ic (pc := 154) D rfl fun D =>
                j_goto (pc := 155) D rfl <|
                fk_jump cut_526_159 rfl rfl) (fun q =>
                have D : fk_D 526 [(158, none, .iconst 0, 1, 0, 0, 0)] := fq_of2 cd_526 ow_526 cl_526 rfl (pc := 158) (by decide +kernel)
                j_ic (pc := 158) D rfl fun D =>
                fk_jump cut_526_159 rfl rfl))) (fun q16 h14 e1 =>
            j_tx (hx_526 _))) (fun q10 h8 e1 =>
          j_tx (hx_526 _))) (fun q7 h5 e1 =>
        j_tx (hx_526 _))) (fun m4 q3 h1 e1 =>
      j_tx (hx_526 _))
theorem e_526_159 (d : Nat) (x1 x2 x3 x4 x5 s0 s1 : Int) {h : fi_H} (H : Shp h) : c_526_159 d x1 x2 x3 x4 x5 s0 s1 h =
  dv_ (fi_vt 348 (h 0 s0.toNat 0)) fun m4 => cv_ (fj_run d m4 h [(4, s0), (0, s1), (0, 1), (0, h 396 602 0)])
    (fun h1 =>
    ca_ (fj_run d 515 h1 [(4, 602)]) 1
      (fun v6 h5 =>
      if 0 ≤ x5 ∧ x5 < 240 then
      lt_ (fi_upd h5 10 636 x5.toNat (wI v6)) fun h8 =>
      c_526_179 d x1 x2 x3 x4 x5 h8
      else none)
      (fun q7 h5 => tx_ q7 h5))
    (fun q3 h1 => tx_ q3 h1) := by
  unfold c_526_159
  exact
    have D : fk_D 526 [(159, some [0, 1, 2, 3, 4, 5], .iconst 1, 1, 0, 1, 0), (160, none, .aload_n 0, 1, 0, 0, 0), (161, none, .getfield 507, 3, 396, 129, 10), (164, none, .invokevirtual 557, 3, 3, 348, 0), (167, none, .aload_n 0, 1, 0, 0, 0), (168, none, .getfield 119, 3, 441, 129, 12), (171, none, .iload 5, 2, 0, 0, 0), (173, none, .aload_n 0, 1, 0, 0, 0), (174, none, .invokevirtual 617, 3, 0, 354, 2), (177, none, .l2i, 1, 0, 0, 0), (178, none, .iastore, 1, 0, 0, 0)] := fq_of2 cd_526 ow_526 cl_526 rfl (pc := 159) (by decide +kernel)
    j_ic (pc := 159) D rfl fun D =>
    j_aldn (pc := 160) D rfl rfl rfl fun D =>
    j_gf (pc := 161) (a := 602) D rfl rfl (by decide) rfl (s0_602 H) rfl fun D =>
    j_ivuv (pc := 164) (dd := 348) (a := [(0, s1), (0, 1), (0, h 396 602 0)]) (rest := []) H.2.1 D rfl rfl rfl rfl rfl (fun m4 h1 e1 D =>
      have T := fj_run_ok _ _ _ _ _ _ H.1 e1
      have H := shp_st H T
      j_aldn (pc := 167) D rfl rfl rfl fun D =>
      j_gfc (pc := 168) (a := 602) D rfl rfl (by decide) rfl (s0_602 H) rfl (sf_441_602 H) fun D =>
      j_ild (pc := 171) D rfl rfl rfl fun D =>
      j_aldn (pc := 173) D rfl rfl rfl fun D =>
      j_iv (pc := 174) (m := 515) (dd := 354) (a := []) (rest := [(0, x5), (4, 636)]) D rfl rfl rfl rfl rfl (by decide) (s0_602 H) (by decide +kernel) (fun v6 h5 e1 D =>
        have T := fj_run_ok _ _ _ _ _ _ H.1 e1
        have H := shp_st H T
        j_l2i (pc := 177) D rfl fun D =>
        j_as (pc := 178) (a := 636) (e := 10) D rfl ⟨rfl, rfl⟩ rfl (by decide) (s0_636 H) (s1_636 H) ⟨rfl, rfl, rfl⟩ rfl gn (gy rfl) fun h8 eh8 S qb9 D =>
        have T := fj_hs_ok H.1 S
        have H := shp_st H T
        fk_jump cut_526_179 rfl rfl) (fun q7 h5 e1 =>
        j_tx (hx_526 _))) (fun m4 q3 h1 e1 =>
      j_tx (hx_526 _))
theorem e_526_179 (d : Nat) (x1 x2 x3 x4 x5 : Int) {h : fi_H} (H : Shp h) : c_526_179 d x1 x2 x3 x4 x5 h =
  ca_ (fj_run d 506 h [(4, 602), (0, 123)]) 0
    (fun v2 h1 =>
    cv_ (fj_run d 500 h1 [(4, 602), (0, v2), (0, 1), (0, h1 396 602 0)])
      (fun h4 =>
      if 1200 < h4 398 602 0 then
        c_526_210 d x1 x2 x3 x4 x5 602 0 h4
      else
        c_526_210 d x1 x2 x3 x4 x5 602 1 h4)
      (fun q6 h4 => tx_ q6 h4))
    (fun q3 h1 => tx_ q3 h1) := by
  unfold c_526_179
  exact
    have D : fk_D 526 [(179, some [0, 1, 2, 3, 4, 5], .aload_n 0, 1, 0, 0, 0), (180, none, .aload_n 0, 1, 0, 0, 0), (181, none, .bipush 123, 2, 0, 123, 0), (183, none, .invokevirtual 564, 3, 1, 350, 1), (186, none, .iconst 1, 1, 0, 1, 0), (187, none, .aload_n 0, 1, 0, 0, 0), (188, none, .getfield 507, 3, 396, 129, 10), (191, none, .invokevirtual 557, 3, 3, 348, 0), (194, none, .aload_n 0, 1, 0, 0, 0), (195, none, .aload_n 0, 1, 0, 0, 0), (196, none, .getfield 510, 3, 398, 129, 10), (199, none, .sipush 1200, 3, 0, 1200, 0), (202, none, .if_icmp .gt 7, 3, 209, 0, 0), (205, none, .iconst 1, 1, 0, 1, 0), (206, none, .goto 4, 3, 210, 0, 0)] := fq_of2 cd_526 ow_526 cl_526 rfl (pc := 179) (by decide +kernel)
    j_aldn (pc := 179) D rfl rfl rfl fun D =>
    j_aldn (pc := 180) D rfl rfl rfl fun D =>
    j_bp (pc := 181) D rfl fun D =>
    j_iv (pc := 183) (m := 506) (dd := 350) (a := [(0, 123)]) (rest := [(4, 602)]) D rfl rfl rfl rfl rfl (by decide) (s0_602 H) (by decide +kernel) (fun v2 h1 e1 D =>
      have T := fj_run_ok _ _ _ _ _ _ H.1 e1
      have H := shp_st H T
      j_ic (pc := 186) D rfl fun D =>
      j_aldn (pc := 187) D rfl rfl rfl fun D =>
      j_gf (pc := 188) (a := 602) D rfl rfl (by decide) rfl (s0_602 H) rfl fun D =>
      j_ivv (pc := 191) (m := 500) (dd := 348) (a := [(0, v2), (0, 1), (0, h1 396 602 0)]) (rest := []) D rfl rfl rfl rfl rfl (by decide) (s0_602 H) (by decide +kernel) (fun h4 e1 D =>
        have T := fj_run_ok _ _ _ _ _ _ H.1 e1
        have H := shp_st H T
        j_aldn (pc := 194) D rfl rfl rfl fun D =>
        j_aldn (pc := 195) D rfl rfl rfl fun D =>
        j_gf (pc := 196) (a := 602) D rfl rfl (by decide) rfl (s0_602 H) rfl fun D =>
        j_sp (pc := 199) D rfl fun D =>
        j_igt (pc := 202) D rfl (fun q =>
          have D : fk_D 526 [(209, none, .iconst 0, 1, 0, 0, 0)] := fq_of2 cd_526 ow_526 cl_526 rfl (pc := 209) (by decide +kernel)
          j_ic (pc := 209) D rfl fun D =>
          fk_jump cut_526_210 rfl rfl) (fun q D =>
          j_ic (pc := 205) D rfl fun D =>
          j_goto (pc := 206) D rfl <|
          fk_jump cut_526_210 rfl rfl)) (fun q6 h4 e1 =>
        j_tx (hx_526 _))) (fun q3 h1 e1 =>
      j_tx (hx_526 _))
theorem e_526_210 (d : Nat) (x1 x2 x3 x4 x5 s0 s1 : Int) {h : fi_H} (H : Shp h) : c_526_210 d x1 x2 x3 x4 x5 s0 s1 h =
  dv_ (fi_vt 348 (h 0 s0.toNat 0)) fun m4 => cv_ (fj_run d m4 h [(4, s0), (0, s1), (0, 4), (0, h 396 602 0)])
    (fun h1 =>
    if 0 ≤ x5 ∧ x5 < 240 then
    lt_ (fi_upd h1 10 638 x5.toNat 0) fun h5 =>
    if x3 = 0 then
      c_526_332 d x1 x2 x3 x5 h5
    else
      ca_ (fj_run d 528 h5 [(4, 602), (0, x1), (0, h5 10 635 x5.toNat), (0, h5 10 636 x5.toNat), (0, x2)]) 0
        (fun v8 h7 =>
        if v8 = (-1) then
          c_526_264 d x1 x2 x3 x4 x5 v8 602 0 h7
        else
          c_526_264 d x1 x2 x3 x4 x5 v8 602 1 h7)
        (fun q9 h7 => tx_ q9 h7)
    else none)
    (fun q3 h1 => tx_ q3 h1) := by
  unfold c_526_210
  exact
    have D : fk_D 526 [(210, some [0, 1, 2, 3, 4, 5], .iconst 4, 1, 0, 4, 0), (211, none, .aload_n 0, 1, 0, 0, 0), (212, none, .getfield 507, 3, 396, 129, 10), (215, none, .invokevirtual 557, 3, 3, 348, 0), (218, none, .aload_n 0, 1, 0, 0, 0), (219, none, .getfield 125, 3, 443, 129, 12), (222, none, .iload 5, 2, 0, 0, 0), (224, none, .iconst 0, 1, 0, 0, 0), (225, none, .iastore, 1, 0, 0, 0), (226, none, .iload_n 3, 1, 0, 0, 0), (227, none, .ifCond .eq 105, 3, 332, 0, 0), (230, none, .aload_n 0, 1, 0, 0, 0), (231, none, .iload_n 1, 1, 0, 0, 0), (232, none, .aload_n 0, 1, 0, 0, 0), (233, none, .getfield 116, 3, 440, 129, 12), (236, none, .iload 5, 2, 0, 0, 0), (238, none, .iaload, 1, 0, 0, 0), (239, none, .aload_n 0, 1, 0, 0, 0), (240, none, .getfield 119, 3, 441, 129, 12), (243, none, .iload 5, 2, 0, 0, 0)] := fq_of2 cd_526 ow_526 cl_526 rfl (pc := 210) (by decide +kernel)
    j_ic (pc := 210) D rfl fun D =>
    j_aldn (pc := 211) D rfl rfl rfl fun D =>
    j_gf (pc := 212) (a := 602) D rfl rfl (by decide) rfl (s0_602 H) rfl fun D =>
    j_ivuv (pc := 215) (dd := 348) (a := [(0, s1), (0, 4), (0, h 396 602 0)]) (rest := []) H.2.1 D rfl rfl rfl rfl rfl (fun m4 h1 e1 D =>
      have T := fj_run_ok _ _ _ _ _ _ H.1 e1
      have H := shp_st H T
      j_aldn (pc := 218) D rfl rfl rfl fun D =>
      j_gfc (pc := 219) (a := 602) D rfl rfl (by decide) rfl (s0_602 H) rfl (sf_443_602 H) fun D =>
      j_ild (pc := 222) D rfl rfl rfl fun D =>
      j_ic (pc := 224) D rfl fun D =>
      j_as (pc := 225) (a := 638) (e := 10) D rfl ⟨rfl, rfl⟩ rfl (by decide) (s0_638 H) (s1_638 H) ⟨rfl, rfl, rfl⟩ rfl gn (gy rfl) fun h5 eh5 S qb6 D =>
      have T := fj_hs_ok H.1 S
      have H := shp_st H T
      j_ildn (pc := 226) D rfl rfl rfl fun D =>
      j_ifeq (pc := 227) D rfl (fun q =>
        fk_jump cut_526_332 rfl rfl) (fun q D =>
        j_aldn (pc := 230) D rfl rfl rfl fun D =>
        j_ildn (pc := 231) D rfl rfl rfl fun D =>
        j_aldn (pc := 232) D rfl rfl rfl fun D =>
        j_gfc (pc := 233) (a := 602) D rfl rfl (by decide) rfl (s0_602 H) rfl (sf_440_602 H) fun D =>
        j_ild (pc := 236) D rfl rfl rfl fun D =>
        j_al (pc := 238) (a := 635) (e := 10) D rfl rfl rfl (by decide) (s0_635 H) (s1_635 H) ⟨rfl, rfl, rfl⟩ rfl (gy qb6) fun q D =>
        j_aldn (pc := 239) D rfl rfl rfl fun D =>
        j_gfc (pc := 240) (a := 602) D rfl rfl (by decide) rfl (s0_602 H) rfl (sf_441_602 H) fun D =>
        j_ild (pc := 243) D rfl rfl rfl fun D =>
        have D : fk_D 526 [(245, none, .iaload, 1, 0, 0, 0), (246, none, .iload_n 2, 1, 0, 0, 0), (247, none, .invokevirtual 794, 3, 4, 393, 1), (250, none, .istore 6, 2, 0, 0, 0), (252, none, .aload_n 0, 1, 0, 0, 0), (253, none, .iload 6, 2, 0, 0, 0), (255, none, .iconst (-1), 1, 0, (-1), 0), (256, none, .if_icmp .eq 7, 3, 263, 0, 0), (259, none, .iconst 1, 1, 0, 1, 0), (260, none, .goto 4, 3, 264, 0, 0)] := fq_of2 cd_526 ow_526 cl_526 rfl (pc := 245) (by decide +kernel)
        j_al (pc := 245) (a := 636) (e := 10) D rfl rfl rfl (by decide) (s0_636 H) (s1_636 H) ⟨rfl, rfl, rfl⟩ rfl (gy qb6) fun q D =>
        j_ildn (pc := 246) D rfl rfl rfl fun D =>
        j_iv (pc := 247) (m := 528) (dd := 393) (a := [(0, x1), (0, h5 10 635 x5.toNat), (0, h5 10 636 x5.toNat), (0, x2)]) (rest := []) D rfl rfl rfl rfl rfl (by decide) (s0_602 H) (by decide +kernel) (fun v8 h7 e1 D =>
          have T := fj_run_ok _ _ _ _ _ _ H.1 e1
          have H := shp_st H T
          j_ist (pc := 250) (L' := [(6, (0, v8)), (0, (4, 602)), (1, (0, x1)), (2, (0, x2)), (3, (0, x3)), (4, (0, x4)), (5, (0, x5))]) D rfl nl_526 rfl rfl fun D =>
          j_aldn (pc := 252) D rfl rfl rfl fun D =>
          j_ild (pc := 253) D rfl rfl rfl fun D =>
          j_ic (pc := 255) D rfl fun D =>
          j_ieq (pc := 256) D rfl (fun q =>
            have D : fk_D 526 [(263, none, .iconst 0, 1, 0, 0, 0)] := fq_of2 cd_526 ow_526 cl_526 rfl (pc := 263) (by decide +kernel)
            j_ic (pc := 263) D rfl fun D =>
            fk_jump cut_526_264 rfl rfl) (fun q D =>
            j_ic (pc := 259) D rfl fun D =>
            j_goto (pc := 260) D rfl <|
            fk_jump cut_526_264 rfl rfl)) (fun q9 h7 e1 =>
          j_tx (hx_526 _)))) (fun m4 q3 h1 e1 =>
      j_tx (hx_526 _))
theorem e_526_264 (d : Nat) (x1 x2 x3 x4 x5 x6 s0 s1 : Int) {h : fi_H} (H : Shp h) : c_526_264 d x1 x2 x3 x4 x5 x6 s0 s1 h =
  dv_ (fi_vt 348 (h 0 s0.toNat 0)) fun m4 => cv_ (fj_run d m4 h [(4, s0), (0, s1), (0, 7), (0, x4)])
    (fun h1 =>
    if 0 ≤ x6 ∧ x6 < 240 then
    if 0 ≤ x5 ∧ x5 < 240 then
    lt_ (fi_upd h1 10 638 x5.toNat (h1 10 638 x6.toNat)) fun h6 =>
    c_526_288 d x1 x2 x3 x5 x6 0 h6
    else none
    else none)
    (fun q3 h1 => tx_ q3 h1) := by
  unfold c_526_264
  exact
    have D : fk_D 526 [(264, some [0, 1, 2, 3, 4, 5, 6], .bipush 7, 2, 0, 7, 0), (266, none, .iload 4, 2, 0, 0, 0), (268, none, .invokevirtual 557, 3, 3, 348, 0), (271, none, .aload_n 0, 1, 0, 0, 0), (272, none, .getfield 125, 3, 443, 129, 12), (275, none, .iload 5, 2, 0, 0, 0), (277, none, .aload_n 0, 1, 0, 0, 0), (278, none, .getfield 125, 3, 443, 129, 12), (281, none, .iload 6, 2, 0, 0, 0), (283, none, .iaload, 1, 0, 0, 0), (284, none, .iastore, 1, 0, 0, 0), (285, none, .iconst 0, 1, 0, 0, 0), (286, none, .istore 7, 2, 0, 0, 0)] := fq_of2 cd_526 ow_526 cl_526 rfl (pc := 264) (by decide +kernel)
    j_bp (pc := 264) D rfl fun D =>
    j_ild (pc := 266) D rfl rfl rfl fun D =>
    j_ivuv (pc := 268) (dd := 348) (a := [(0, s1), (0, 7), (0, x4)]) (rest := []) H.2.1 D rfl rfl rfl rfl rfl (fun m4 h1 e1 D =>
      have T := fj_run_ok _ _ _ _ _ _ H.1 e1
      have H := shp_st H T
      j_aldn (pc := 271) D rfl rfl rfl fun D =>
      j_gfc (pc := 272) (a := 602) D rfl rfl (by decide) rfl (s0_602 H) rfl (sf_443_602 H) fun D =>
      j_ild (pc := 275) D rfl rfl rfl fun D =>
      j_aldn (pc := 277) D rfl rfl rfl fun D =>
      j_gfc (pc := 278) (a := 602) D rfl rfl (by decide) rfl (s0_602 H) rfl (sf_443_602 H) fun D =>
      j_ild (pc := 281) D rfl rfl rfl fun D =>
      j_al (pc := 283) (a := 638) (e := 10) D rfl rfl rfl (by decide) (s0_638 H) (s1_638 H) ⟨rfl, rfl, rfl⟩ rfl gn fun qb5 D =>
      j_as (pc := 284) (a := 638) (e := 10) D rfl ⟨rfl, rfl⟩ rfl (by decide) (s0_638 H) (s1_638 H) ⟨rfl, rfl, rfl⟩ rfl gn (gy rfl) fun h6 eh6 S qb7 D =>
      have T := fj_hs_ok H.1 S
      have H := shp_st H T
      j_ic (pc := 285) D rfl fun D =>
      j_ist (pc := 286) (L' := [(7, (0, 0)), (0, (4, 602)), (1, (0, x1)), (2, (0, x2)), (3, (0, x3)), (4, (0, x4)), (5, (0, x5)), (6, (0, x6))]) D rfl nl_526 rfl rfl fun D =>
      fk_jump cut_526_288 rfl rfl) (fun m4 q3 h1 e1 =>
      j_tx (hx_526 _))
theorem e_526_288 (d : Nat) (x1 x2 x3 x5 x6 x7 : Int) {h : fi_H} (H : Shp h) : c_526_288 d x1 x2 x3 x5 x6 x7 h =
  if 0 ≤ x5 ∧ x5 < 240 then
  if x7 < h 10 638 x5.toNat then
    if 0 ≤ wI ((wI (40 * x6)) + x7) ∧ wI ((wI (40 * x6)) + x7) < 9600 then
    if 0 ≤ wI ((wI (40 * x5)) + x7) ∧ wI ((wI (40 * x5)) + x7) < 9600 then
    lt_ (fi_upd h 10 637 (wI ((wI (40 * x5)) + x7)).toNat (h 10 637 (wI ((wI (40 * x6)) + x7)).toNat)) fun h3 =>
    c_526_288 d x1 x2 x3 x5 x6 (wI (x7 + 1)) h3
    else none
    else none
  else
    c_526_332 d x1 x2 x3 x5 h
  else none := by
  unfold c_526_288
  exact
    have D : fk_D 526 [(288, some [0, 1, 2, 3, 5, 6, 7], .iload 7, 2, 0, 0, 0), (290, none, .aload_n 0, 1, 0, 0, 0), (291, none, .getfield 125, 3, 443, 129, 12), (294, none, .iload 5, 2, 0, 0, 0), (296, none, .iaload, 1, 0, 0, 0), (297, none, .if_icmp .ge 35, 3, 332, 0, 0), (300, none, .aload_n 0, 1, 0, 0, 0), (301, none, .getfield 122, 3, 442, 129, 12), (304, none, .bipush 40, 2, 0, 40, 0), (306, none, .iload 5, 2, 0, 0, 0), (308, none, .imul, 1, 0, 0, 0), (309, none, .iload 7, 2, 0, 0, 0), (311, none, .iadd, 1, 0, 0, 0), (312, none, .aload_n 0, 1, 0, 0, 0), (313, none, .getfield 122, 3, 442, 129, 12), (316, none, .bipush 40, 2, 0, 40, 0), (318, none, .iload 6, 2, 0, 0, 0), (320, none, .imul, 1, 0, 0, 0), (321, none, .iload 7, 2, 0, 0, 0), (323, none, .iadd, 1, 0, 0, 0)] := fq_of2 cd_526 ow_526 cl_526 rfl (pc := 288) (by decide +kernel)
    j_ild (pc := 288) D rfl rfl rfl fun D =>
    j_aldn (pc := 290) D rfl rfl rfl fun D =>
    j_gfc (pc := 291) (a := 602) D rfl rfl (by decide) rfl (s0_602 H) rfl (sf_443_602 H) fun D =>
    j_ild (pc := 294) D rfl rfl rfl fun D =>
    j_al (pc := 296) (a := 638) (e := 10) D rfl rfl rfl (by decide) (s0_638 H) (s1_638 H) ⟨rfl, rfl, rfl⟩ rfl gn fun qb1 D =>
    j_ige (pc := 297) D rfl (fun q D =>
      j_aldn (pc := 300) D rfl rfl rfl fun D =>
      j_gfc (pc := 301) (a := 602) D rfl rfl (by decide) rfl (s0_602 H) rfl (sf_442_602 H) fun D =>
      j_bp (pc := 304) D rfl fun D =>
      j_ild (pc := 306) D rfl rfl rfl fun D =>
      j_imul (pc := 308) D rfl fun D =>
      j_ild (pc := 309) D rfl rfl rfl fun D =>
      j_iadd (pc := 311) D rfl fun D =>
      j_aldn (pc := 312) D rfl rfl rfl fun D =>
      j_gfc (pc := 313) (a := 602) D rfl rfl (by decide) rfl (s0_602 H) rfl (sf_442_602 H) fun D =>
      j_bp (pc := 316) D rfl fun D =>
      j_ild (pc := 318) D rfl rfl rfl fun D =>
      j_imul (pc := 320) D rfl fun D =>
      j_ild (pc := 321) D rfl rfl rfl fun D =>
      j_iadd (pc := 323) D rfl fun D =>
      have D : fk_D 526 [(324, none, .iaload, 1, 0, 0, 0), (325, none, .iastore, 1, 0, 0, 0), (326, none, .iinc 7 1, 3, 0, 1, 0), (329, none, .goto (-41), 3, 288, 0, 0)] := fq_of2 cd_526 ow_526 cl_526 rfl (pc := 324) (by decide +kernel)
      j_al (pc := 324) (a := 637) (e := 10) D rfl rfl rfl (by decide) (s0_637 H) (s1_637 H) ⟨rfl, rfl, rfl⟩ rfl gn fun qb2 D =>
      j_as (pc := 325) (a := 637) (e := 10) D rfl ⟨rfl, rfl⟩ rfl (by decide) (s0_637 H) (s1_637 H) ⟨rfl, rfl, rfl⟩ rfl gn (gy rfl) fun h3 eh3 S qb4 D =>
      have T := fj_hs_ok H.1 S
      have H := shp_st H T
      j_inc (pc := 326) (L' := [(7, (0, wI (x7 + 1))), (0, (4, 602)), (1, (0, x1)), (2, (0, x2)), (3, (0, x3)), (5, (0, x5)), (6, (0, x6))]) D rfl rfl rfl (by decide +kernel) rfl fun D =>
      j_goto (pc := 329) D rfl <|
      fk_jump cut_526_288 rfl rfl) (fun q =>
      fk_jump cut_526_332 rfl rfl)
theorem e_526_332 (d : Nat) (x1 x2 x3 x5 : Int) {h : fi_H} (H : Shp h) : c_526_332 d x1 x2 x3 x5 h =
  cv_ (fj_run d 502 h [(4, 602)])
    (fun h1 =>
    c_526_336 d x1 x2 x3 x5 h1)
    (fun q3 h1 => tx_ q3 h1) := by
  unfold c_526_332
  exact
    have D : fk_D 526 [(332, some [0, 1, 2, 3, 5], .aload_n 0, 1, 0, 0, 0), (333, none, .invokevirtual 567, 3, 0, 351, 0)] := fq_of2 cd_526 ow_526 cl_526 rfl (pc := 332) (by decide +kernel)
    j_aldn (pc := 332) D rfl rfl rfl fun D =>
    j_ivv (pc := 333) (m := 502) (dd := 351) (a := []) (rest := []) D rfl rfl rfl rfl rfl (by decide) (s0_602 H) (by decide +kernel) (fun h1 e1 D =>
      have T := fj_run_ok _ _ _ _ _ _ H.1 e1
      have H := shp_st H T
      fk_jump cut_526_336 rfl rfl) (fun q3 h1 e1 =>
      j_tx (hx_526 _))
theorem e_526_336 (d : Nat) (x1 x2 x3 x5 : Int) {h : fi_H} (H : Shp h) : c_526_336 d x1 x2 x3 x5 h =
  ca_ (fj_run d 506 h [(4, 602), (0, 125)]) 0
    (fun v2 h1 =>
    if v2 = 0 then
      if x3 = 0 then
        if 0 ≤ x5 ∧ x5 < 240 then
        if h1 10 638 x5.toNat < 40 then
          c_526_389 d x1 x2 x3 x5 (h1 10 638 x5.toNat) 637 (wI (40 * x5)) (h1 10 638 x5.toNat) h1
        else
          c_526_389 d x1 x2 x3 x5 (h1 10 638 x5.toNat) 637 (wI (40 * x5)) 0 h1
        else none
      else
        cv_ (fj_run d 529 h1 [(4, 602), (0, x5)])
          (fun h5 =>
          c_526_336 d x1 x2 x3 x5 h5)
          (fun q7 h5 => tx_ q7 h5)
    else
      cv_ (fj_run d 502 h1 [(4, 602)])
        (fun h8 =>
        lt_ (fi_upd h8 444 602 0 (wI ((h8 444 602 0) + 1))) fun h11 =>
        if h11 394 602 0 = 7 then
          some (.inl none, h11)
        else
          c_526_5 d x1 x2 h11)
        (fun q10 h8 => tx_ q10 h8))
    (fun q3 h1 => tx_ q3 h1) := by
  unfold c_526_336
  exact
    have D : fk_D 526 [(336, some [0, 1, 2, 3, 5], .aload_n 0, 1, 0, 0, 0), (337, none, .bipush 125, 2, 0, 125, 0), (339, none, .invokevirtual 564, 3, 1, 350, 1), (342, none, .ifCond .ne 71, 3, 413, 0, 0), (345, none, .iload_n 3, 1, 0, 0, 0), (346, none, .ifCond .eq 12, 3, 358, 0, 0), (349, none, .aload_n 0, 1, 0, 0, 0), (350, none, .iload 5, 2, 0, 0, 0), (352, none, .invokevirtual 797, 3, 1, 394, 0), (355, none, .goto (-19), 3, 336, 0, 0)] := fq_of2 cd_526 ow_526 cl_526 rfl (pc := 336) (by decide +kernel)
    j_aldn (pc := 336) D rfl rfl rfl fun D =>
    j_bp (pc := 337) D rfl fun D =>
    j_iv (pc := 339) (m := 506) (dd := 350) (a := [(0, 125)]) (rest := []) D rfl rfl rfl rfl rfl (by decide) (s0_602 H) (by decide +kernel) (fun v2 h1 e1 D =>
      have T := fj_run_ok _ _ _ _ _ _ H.1 e1
      have H := shp_st H T
      j_ifne (pc := 342) D rfl (fun q D =>
        j_ildn (pc := 345) D rfl rfl rfl fun D =>
        j_ifeq (pc := 346) D rfl (fun q =>
          have D : fk_D 526 [(358, none, .aload_n 0, 1, 0, 0, 0), (359, none, .getfield 125, 3, 443, 129, 12), (362, none, .iload 5, 2, 0, 0, 0), (364, none, .iaload, 1, 0, 0, 0), (365, none, .istore 6, 2, 0, 0, 0), (367, none, .aload_n 0, 1, 0, 0, 0), (368, none, .getfield 122, 3, 442, 129, 12), (371, none, .bipush 40, 2, 0, 40, 0), (373, none, .iload 5, 2, 0, 0, 0), (375, none, .imul, 1, 0, 0, 0), (376, none, .iload 6, 2, 0, 0, 0), (378, none, .bipush 40, 2, 0, 40, 0), (380, none, .if_icmp .ge 8, 3, 388, 0, 0), (383, none, .iload 6, 2, 0, 0, 0), (385, none, .goto 4, 3, 389, 0, 0)] := fq_of2 cd_526 ow_526 cl_526 rfl (pc := 358) (by decide +kernel)
          j_aldn (pc := 358) D rfl rfl rfl fun D =>
          j_gfc (pc := 359) (a := 602) D rfl rfl (by decide) rfl (s0_602 H) rfl (sf_443_602 H) fun D =>
          j_ild (pc := 362) D rfl rfl rfl fun D =>
          j_al (pc := 364) (a := 638) (e := 10) D rfl rfl rfl (by decide) (s0_638 H) (s1_638 H) ⟨rfl, rfl, rfl⟩ rfl gn fun qb4 D =>
          j_ist (pc := 365) (L' := [(6, (0, h1 10 638 x5.toNat)), (0, (4, 602)), (1, (0, x1)), (2, (0, x2)), (3, (0, x3)), (5, (0, x5))]) D rfl nl_526 rfl rfl fun D =>
          j_aldn (pc := 367) D rfl rfl rfl fun D =>
          j_gfc (pc := 368) (a := 602) D rfl rfl (by decide) rfl (s0_602 H) rfl (sf_442_602 H) fun D =>
          j_bp (pc := 371) D rfl fun D =>
          j_ild (pc := 373) D rfl rfl rfl fun D =>
          j_imul (pc := 375) D rfl fun D =>
          j_ild (pc := 376) D rfl rfl rfl fun D =>
          j_bp (pc := 378) D rfl fun D =>
          j_ige (pc := 380) D rfl (fun q D =>
            j_ild (pc := 383) D rfl rfl rfl fun D =>
            j_goto (pc := 385) D rfl <|
            fk_jump cut_526_389 rfl rfl) (fun q =>
            have D : fk_D 526 [(388, none, .iconst 0, 1, 0, 0, 0)] := fq_of2 cd_526 ow_526 cl_526 rfl (pc := 388) (by decide +kernel)
            j_ic (pc := 388) D rfl fun D =>
            fk_jump cut_526_389 rfl rfl)) (fun q D =>
          j_aldn (pc := 349) D rfl rfl rfl fun D =>
          j_ild (pc := 350) D rfl rfl rfl fun D =>
          j_ivv (pc := 352) (m := 529) (dd := 394) (a := [(0, x5)]) (rest := []) D rfl rfl rfl rfl rfl (by decide) (s0_602 H) (by decide +kernel) (fun h5 e1 D =>
            have T := fj_run_ok _ _ _ _ _ _ H.1 e1
            have H := shp_st H T
            j_goto (pc := 355) D rfl <|
            fk_jump cut_526_336 rfl rfl) (fun q7 h5 e1 =>
            j_tx (hx_526 _)))) (fun q =>
        have D : fk_D 526 [(413, none, .aload_n 0, 1, 0, 0, 0), (414, none, .invokevirtual 567, 3, 0, 351, 0), (417, none, .aload_n 0, 1, 0, 0, 0), (418, none, .dup, 1, 0, 0, 0), (419, none, .getfield 788, 3, 444, 129, 10), (422, none, .iconst 1, 1, 0, 1, 0), (423, none, .iadd, 1, 0, 0, 0), (424, none, .putfield 788, 3, 444, 129, 10), (427, none, .aload_n 0, 1, 0, 0, 0), (428, none, .getfield 513, 3, 394, 129, 10), (431, none, .bipush 7, 2, 0, 7, 0), (433, none, .if_icmp .ne (-428), 3, 5, 0, 0), (436, none, .return_, 1, 0, 0, 0)] := fq_of2 cd_526 ow_526 cl_526 rfl (pc := 413) (by decide +kernel)
        j_aldn (pc := 413) D rfl rfl rfl fun D =>
        j_ivv (pc := 414) (m := 502) (dd := 351) (a := []) (rest := []) D rfl rfl rfl rfl rfl (by decide) (s0_602 H) (by decide +kernel) (fun h8 e1 D =>
          have T := fj_run_ok _ _ _ _ _ _ H.1 e1
          have H := shp_st H T
          j_aldn (pc := 417) D rfl rfl rfl fun D =>
          j_sh (pc := 418) D rfl rfl rfl fun D =>
          j_gf (pc := 419) (a := 602) D rfl rfl (by decide) rfl (s0_602 H) rfl fun D =>
          j_ic (pc := 422) D rfl fun D =>
          j_iadd (pc := 423) D rfl fun D =>
          j_pf (pc := 424) (a := 602) D rfl rfl rfl (s0_602 H) rfl rfl (gy (by decide)) (gy rfl) fun h11 eh11 S D =>
          have T := fj_hs_ok H.1 S
          have H := shp_st H T
          j_aldn (pc := 427) D rfl rfl rfl fun D =>
          j_gf (pc := 428) (a := 602) D rfl rfl (by decide) rfl (s0_602 H) rfl fun D =>
          j_bp (pc := 431) D rfl fun D =>
          j_ine (pc := 433) D rfl (fun q D =>
            j_vret D rt_526) (fun q =>
            fk_jump cut_526_5 rfl rfl)) (fun q10 h8 e1 =>
          j_tx (hx_526 _)))) (fun q3 h1 e1 =>
      j_tx (hx_526 _))
theorem e_526_389 (d : Nat) (x1 x2 x3 x5 x6 s0 s1 s2 : Int) {h : fi_H} (H : Shp h) : c_526_389 d x1 x2 x3 x5 x6 s0 s1 s2 h =
  ca_ (fj_run d 530 h [(4, 602), (0, x6), (0, x5)]) 0
    (fun v2 h1 =>
    if 302 < s0 ∧ h1 0 s0.toNat 0 = 10 then
    if 0 ≤ wI (s1 + s2) ∧ wI (s1 + s2) < h1 1 s0.toNat 0 then
    lt_ (fi_upd h1 10 s0.toNat (wI (s1 + s2)).toNat v2) fun h4 =>
    if 0 ≤ x5 ∧ x5 < 240 then
    lt_ (fi_upd h4 10 638 x5.toNat (wI ((h4 10 638 x5.toNat) + 1))) fun h6 =>
    c_526_336 d x1 x2 x3 x5 h6
    else none
    else none
    else none)
    (fun q3 h1 => tx_ q3 h1) := by
  unfold c_526_389
  exact
    have D : fk_D 526 [(389, some [0, 1, 2, 3, 5, 6], .iadd, 1, 0, 0, 0), (390, none, .aload_n 0, 1, 0, 0, 0), (391, none, .iload 6, 2, 0, 0, 0), (393, none, .iload 5, 2, 0, 0, 0), (395, none, .invokevirtual 800, 3, 2, 395, 1), (398, none, .iastore, 1, 0, 0, 0), (399, none, .aload_n 0, 1, 0, 0, 0), (400, none, .getfield 125, 3, 443, 129, 12), (403, none, .iload 5, 2, 0, 0, 0), (405, none, .dup2, 1, 0, 0, 0), (406, none, .iaload, 1, 0, 0, 0), (407, none, .iconst 1, 1, 0, 1, 0), (408, none, .iadd, 1, 0, 0, 0), (409, none, .iastore, 1, 0, 0, 0), (410, none, .goto (-74), 3, 336, 0, 0)] := fq_of2 cd_526 ow_526 cl_526 rfl (pc := 389) (by decide +kernel)
    j_iadd (pc := 389) D rfl fun D =>
    j_aldn (pc := 390) D rfl rfl rfl fun D =>
    j_ild (pc := 391) D rfl rfl rfl fun D =>
    j_ild (pc := 393) D rfl rfl rfl fun D =>
    j_iv (pc := 395) (m := 530) (dd := 395) (a := [(0, x6), (0, x5)]) (rest := [(0, wI (s1 + s2)), (4, s0)]) D rfl rfl rfl rfl rfl (by decide) (s0_602 H) (by decide +kernel) (fun v2 h1 e1 D =>
      have T := fj_run_ok _ _ _ _ _ _ H.1 e1
      have H := shp_st H T
      j_asu (pc := 398) (e := 10) D rfl rfl ⟨rfl, rfl, rfl⟩ rfl gn gn (gy rfl) fun h4 eh4 S q q2 D =>
      have T := fj_hs_ok H.1 S
      have H := shp_st H T
      j_aldn (pc := 399) D rfl rfl rfl fun D =>
      j_gfc (pc := 400) (a := 602) D rfl rfl (by decide) rfl (s0_602 H) rfl (sf_443_602 H) fun D =>
      j_ild (pc := 403) D rfl rfl rfl fun D =>
      j_sh (pc := 405) D rfl rfl rfl fun D =>
      j_al (pc := 406) (a := 638) (e := 10) D rfl rfl rfl (by decide) (s0_638 H) (s1_638 H) ⟨rfl, rfl, rfl⟩ rfl gn fun qb5 D =>
      j_ic (pc := 407) D rfl fun D =>
      j_iadd (pc := 408) D rfl fun D =>
      j_as (pc := 409) (a := 638) (e := 10) D rfl ⟨rfl, rfl⟩ rfl (by decide) (s0_638 H) (s1_638 H) ⟨rfl, rfl, rfl⟩ rfl (gy qb5) (gy rfl) fun h6 eh6 S q D =>
      have T := fj_hs_ok H.1 S
      have H := shp_st H T
      j_goto (pc := 410) D rfl <|
      fk_jump cut_526_336 rfl rfl) (fun q3 h1 e1 =>
      j_tx (hx_526 _))
theorem m_526 (d : Nat) (x1 : Int) {h : fi_H} (H : Shp h) : fj_run (d + 1) 526 h [(4, 602), (0, x1)] =
  c_526_5 d x1 (h 444 602 0) h := by
  rw [fj_run_eq d (by decide) h [(4, 602), (0, x1)] (Nat.le_of_ble_eq_true (by rw [nl_526]; rfl))]
  show gG (fj_run d) 526 0 [(0, (4, 602)), (1, (0, x1))] [] h = _
  exact
    have D : fk_D 526 [(0, none, .aload_n 0, 1, 0, 0, 0), (1, none, .getfield 788, 3, 444, 129, 10), (4, none, .istore_n 2, 1, 0, 0, 0)] := fq_of2 cd_526 ow_526 cl_526 rfl (pc := 0) (by decide +kernel)
    j_aldn (pc := 0) D rfl rfl rfl fun D =>
    j_gf (pc := 1) (a := 602) D rfl rfl (by decide) rfl (s0_602 H) rfl fun D =>
    j_istn (pc := 4) (L' := [(2, (0, h 444 602 0)), (0, (4, 602)), (1, (0, x1))]) D rfl nl_526 rfl rfl fun D =>
    fk_jump cut_526_5 rfl rfl
/-! 527 StatuteHouseModel.address()I -/
theorem cd_527 : fi_code 527 = prog_69_method_80_code := rfl
theorem hx_527 : ∀ pc, fi_hat 527 pc = none := fun pc => by unfold fi_hat; rw [show fi_hh 527 = [] from rfl]; rfl
theorem rt_527 : fi_ret 527 = some .int := rfl
theorem nl_527 : fi_nl 527 = 4 := rfl
theorem ow_527 : fi_ow 527 = 29 := rfl
theorem cl_527 : fj_cutT.getD 527 [] = [(35, [0, 1]), (36, [0, 1])] := rfl
theorem cut_527_35 : fj_cut 527 35 = some [0, 1] := by decide +kernel
noncomputable def c_527_35 (d : Nat) (x1 : Int) (h : fi_H) : fk_R := gG (fj_run d) 527 35 [(0, (4, 602)), (1, (0, x1))] [] h
theorem cut_527_36 : fj_cut 527 36 = some [0, 1] := by decide +kernel
noncomputable def c_527_36 (d : Nat) (x1 s0 : Int) (h : fi_H) : fk_R := gG (fj_run d) 527 36 [(0, (4, 602)), (1, (0, x1))] [(0, s0)] h
theorem e_527_35 (d : Nat) (x1 : Int) {h : fi_H} (H : Shp h) : c_527_35 d x1 h =
  c_527_36 d x1 0 h := by
  unfold c_527_35
  exact
    have D : fk_D 527 [(35, some [0, 1], .iconst 0, 1, 0, 0, 0)] := fq_of2 cd_527 ow_527 cl_527 rfl (pc := 35) (by decide +kernel)
    j_ic (pc := 35) D rfl fun D =>
    fk_jump cut_527_36 rfl rfl
theorem e_527_36 (d : Nat) (x1 s0 : Int) {h : fi_H} (H : Shp h) : c_527_36 d x1 s0 h =
  if s0 = 0 then
    some (.inl (some (0, wI (27 * x1))), h)
  else
    ca_ (fj_run d 488 h [(4, 602), (0, h 396 602 0)]) 0
      (fun v2 h1 =>
      cv_ (fj_run d 502 h1 [(4, 602)])
        (fun h4 =>
        some (.inl (some (0, wI ((wI (27 * x1)) + (wI ((wI (v2 - 97)) + 1))))), h4))
        (fun q6 h4 => tx_ q6 h4))
      (fun q3 h1 => tx_ q3 h1) := by
  unfold c_527_36
  exact
    have D : fk_D 527 [(36, some [0, 1], .istore_n 2, 1, 0, 0, 0), (37, none, .iload_n 2, 1, 0, 0, 0), (38, none, .ifCond .ne 8, 3, 46, 0, 0), (41, none, .bipush 27, 2, 0, 27, 0), (43, none, .iload_n 1, 1, 0, 0, 0), (44, none, .imul, 1, 0, 0, 0), (45, none, .ireturn, 1, 0, 0, 0)] := fq_of2 cd_527 ow_527 cl_527 rfl (pc := 36) (by decide +kernel)
    j_istn (pc := 36) (L' := [(2, (0, s0)), (0, (4, 602)), (1, (0, x1))]) D rfl nl_527 rfl rfl fun D =>
    j_ildn (pc := 37) D rfl rfl rfl fun D =>
    j_ifne (pc := 38) D rfl (fun q D =>
      j_bp (pc := 41) D rfl fun D =>
      j_ildn (pc := 43) D rfl rfl rfl fun D =>
      j_imul (pc := 44) D rfl fun D =>
      j_iret D rt_527) (fun q =>
      have D : fk_D 527 [(46, none, .aload_n 0, 1, 0, 0, 0), (47, none, .aload_n 0, 1, 0, 0, 0), (48, none, .getfield 507, 3, 396, 129, 10), (51, none, .invokevirtual 483, 3, 1, 340, 1), (54, none, .bipush 97, 2, 0, 97, 0), (56, none, .isub, 1, 0, 0, 0), (57, none, .iconst 1, 1, 0, 1, 0), (58, none, .iadd, 1, 0, 0, 0), (59, none, .istore_n 3, 1, 0, 0, 0), (60, none, .aload_n 0, 1, 0, 0, 0), (61, none, .invokevirtual 567, 3, 0, 351, 0), (64, none, .bipush 27, 2, 0, 27, 0), (66, none, .iload_n 1, 1, 0, 0, 0), (67, none, .imul, 1, 0, 0, 0), (68, none, .iload_n 3, 1, 0, 0, 0), (69, none, .iadd, 1, 0, 0, 0), (70, none, .ireturn, 1, 0, 0, 0)] := fq_of2 cd_527 ow_527 cl_527 rfl (pc := 46) (by decide +kernel)
      j_aldn (pc := 46) D rfl rfl rfl fun D =>
      j_aldn (pc := 47) D rfl rfl rfl fun D =>
      j_gf (pc := 48) (a := 602) D rfl rfl (by decide) rfl (s0_602 H) rfl fun D =>
      j_iv (pc := 51) (m := 488) (dd := 340) (a := [(0, h 396 602 0)]) (rest := []) D rfl rfl rfl rfl rfl (by decide) (s0_602 H) (by decide +kernel) (fun v2 h1 e1 D =>
        have T := fj_run_ok _ _ _ _ _ _ H.1 e1
        have H := shp_st H T
        j_bp (pc := 54) D rfl fun D =>
        j_isub (pc := 56) D rfl fun D =>
        j_ic (pc := 57) D rfl fun D =>
        j_iadd (pc := 58) D rfl fun D =>
        j_istn (pc := 59) (L' := [(3, (0, wI ((wI (v2 - 97)) + 1))), (2, (0, s0)), (0, (4, 602)), (1, (0, x1))]) D rfl nl_527 rfl rfl fun D =>
        j_aldn (pc := 60) D rfl rfl rfl fun D =>
        j_ivv (pc := 61) (m := 502) (dd := 351) (a := []) (rest := []) D rfl rfl rfl rfl rfl (by decide) (s0_602 H) (by decide +kernel) (fun h4 e1 D =>
          have T := fj_run_ok _ _ _ _ _ _ H.1 e1
          have H := shp_st H T
          j_bp (pc := 64) D rfl fun D =>
          j_ildn (pc := 66) D rfl rfl rfl fun D =>
          j_imul (pc := 67) D rfl fun D =>
          j_ildn (pc := 68) D rfl rfl rfl fun D =>
          j_iadd (pc := 69) D rfl fun D =>
          j_iret D rt_527) (fun q6 h4 e1 =>
          j_tx (hx_527 _))) (fun q3 h1 e1 =>
        j_tx (hx_527 _)))
theorem m_527 (d : Nat) {h : fi_H} (H : Shp h) : fj_run (d + 1) 527 h [(4, 602)] =
  ca_ (fj_run d 510 h [(4, 602), (1, 1), (1, 999)]) 1
    (fun v2 h1 =>
    if h1 394 602 0 = 1 then
      if wI ((h1 397 602 0) - (h1 396 602 0)) = 1 then
        c_527_36 d (wI v2) 1 h1
      else
        c_527_35 d (wI v2) h1
    else
      c_527_35 d (wI v2) h1)
    (fun q3 h1 => tx_ q3 h1) := by
  rw [fj_run_eq d (by decide) h [(4, 602)] (Nat.le_of_ble_eq_true (by rw [nl_527]; rfl))]
  show gG (fj_run d) 527 0 [(0, (4, 602))] [] h = _
  exact
    have D : fk_D 527 [(0, none, .aload_n 0, 1, 0, 0, 0), (1, none, .lconst 1, 1, 0, 0, 0), (2, none, .ldc2_w 786, 3, 1, 999, 0), (5, none, .invokevirtual 640, 3, 2, 360, 2), (8, none, .l2i, 1, 0, 0, 0), (9, none, .istore_n 1, 1, 0, 0, 0), (10, none, .aload_n 0, 1, 0, 0, 0), (11, none, .getfield 513, 3, 394, 129, 10), (14, none, .iconst 1, 1, 0, 1, 0), (15, none, .if_icmp .ne 20, 3, 35, 0, 0), (18, none, .aload_n 0, 1, 0, 0, 0), (19, none, .getfield 504, 3, 397, 129, 10), (22, none, .aload_n 0, 1, 0, 0, 0), (23, none, .getfield 507, 3, 396, 129, 10), (26, none, .isub, 1, 0, 0, 0), (27, none, .iconst 1, 1, 0, 1, 0), (28, none, .if_icmp .ne 7, 3, 35, 0, 0), (31, none, .iconst 1, 1, 0, 1, 0), (32, none, .goto 4, 3, 36, 0, 0)] := fq_of2 cd_527 ow_527 cl_527 rfl (pc := 0) (by decide +kernel)
    j_aldn (pc := 0) D rfl rfl rfl fun D =>
    j_c0 (pc := 1) (v := (1, 1)) D rfl rfl (by decide +kernel) fun D =>
    j_ldc2 (pc := 2) D rfl fun D =>
    j_iv (pc := 5) (m := 510) (dd := 360) (a := [(1, 1), (1, 999)]) (rest := []) D rfl rfl rfl rfl rfl (by decide) (s0_602 H) (by decide +kernel) (fun v2 h1 e1 D =>
      have T := fj_run_ok _ _ _ _ _ _ H.1 e1
      have H := shp_st H T
      j_l2i (pc := 8) D rfl fun D =>
      j_istn (pc := 9) (L' := [(1, (0, wI v2)), (0, (4, 602))]) D rfl nl_527 rfl rfl fun D =>
      j_aldn (pc := 10) D rfl rfl rfl fun D =>
      j_gf (pc := 11) (a := 602) D rfl rfl (by decide) rfl (s0_602 H) rfl fun D =>
      j_ic (pc := 14) D rfl fun D =>
      j_ine (pc := 15) D rfl (fun q D =>
        j_aldn (pc := 18) D rfl rfl rfl fun D =>
        j_gf (pc := 19) (a := 602) D rfl rfl (by decide) rfl (s0_602 H) rfl fun D =>
        j_aldn (pc := 22) D rfl rfl rfl fun D =>
        j_gf (pc := 23) (a := 602) D rfl rfl (by decide) rfl (s0_602 H) rfl fun D =>
        j_isub (pc := 26) D rfl fun D =>
        j_ic (pc := 27) D rfl fun D =>
        j_ine (pc := 28) D rfl (fun q D =>
          j_ic (pc := 31) D rfl fun D =>
          j_goto (pc := 32) D rfl <|
          fk_jump cut_527_36 rfl rfl) (fun q =>
          fk_jump cut_527_35 rfl rfl)) (fun q =>
        fk_jump cut_527_35 rfl rfl)) (fun q3 h1 e1 =>
      j_tx (hx_527 _))
/-! 528 StatuteHouseModel.basis(IIII)I -/
theorem cd_528 : fi_code 528 = prog_69_method_81_code := rfl
theorem hx_528 : ∀ pc, fi_hat 528 pc = none := fun pc => by unfold fi_hat; rw [show fi_hh 528 = [] from rfl]; rfl
theorem rt_528 : fi_ret 528 = some .int := rfl
theorem nl_528 : fi_nl 528 = 8 := rfl
theorem ow_528 : fi_ow 528 = 29 := rfl
theorem cl_528 : fj_cutT.getD 528 [] = [(6, [0, 1, 2, 3, 4, 5, 6]), (64, [0, 1, 2, 3, 4, 5, 6]), (111, [0, 1, 2, 3, 4, 6, 7]), (115, [0, 1, 2, 3, 4, 5, 6])] := rfl
theorem cut_528_6 : fj_cut 528 6 = some [0, 1, 2, 3, 4, 5, 6] := by decide +kernel
noncomputable def c_528_6 (d : Nat) (x1 x2 x3 x4 x5 x6 : Int) (h : fi_H) : fk_R := gG (fj_run d) 528 6 [(0, (4, 602)), (1, (0, x1)), (2, (0, x2)), (3, (0, x3)), (4, (0, x4)), (5, (0, x5)), (6, (0, x6))] [] h
theorem cut_528_64 : fj_cut 528 64 = some [0, 1, 2, 3, 4, 5, 6] := by decide +kernel
noncomputable def c_528_64 (d : Nat) (x1 x2 x3 x4 x5 x6 s0 : Int) (h : fi_H) : fk_R := gG (fj_run d) 528 64 [(0, (4, 602)), (1, (0, x1)), (2, (0, x2)), (3, (0, x3)), (4, (0, x4)), (5, (0, x5)), (6, (0, x6))] [(0, s0)] h
theorem cut_528_111 : fj_cut 528 111 = some [0, 1, 2, 3, 4, 6, 7] := by decide +kernel
noncomputable def c_528_111 (d : Nat) (x1 x2 x3 x4 x6 x7 : Int) (h : fi_H) : fk_R := gG (fj_run d) 528 111 [(0, (4, 602)), (1, (0, x1)), (2, (0, x2)), (3, (0, x3)), (4, (0, x4)), (6, (0, x6)), (7, (0, x7))] [] h
theorem cut_528_115 : fj_cut 528 115 = some [0, 1, 2, 3, 4, 5, 6] := by decide +kernel
noncomputable def c_528_115 (d : Nat) (x1 x2 x3 x4 x5 x6 : Int) (h : fi_H) : fk_R := gG (fj_run d) 528 115 [(0, (4, 602)), (1, (0, x1)), (2, (0, x2)), (3, (0, x3)), (4, (0, x4)), (5, (0, x5)), (6, (0, x6))] [] h
theorem e_528_6 (d : Nat) (x1 x2 x3 x4 x5 x6 : Int) {h : fi_H} (H : Shp h) : c_528_6 d x1 x2 x3 x4 x5 x6 h =
  if 0 ≤ x1 ∧ x1 < 4 then
  if x6 < wI ((wI ((h 10 642 x1.toNat) + (h 444 602 0))) - x4) then
    if x6 < h 10 642 x1.toNat then
      if 0 ≤ wI ((wI (200 * x1)) + x6) ∧ wI ((wI (200 * x1)) + x6) < 800 then
      c_528_64 d x1 x2 x3 x4 x5 x6 (h 10 639 (wI ((wI (200 * x1)) + x6)).toNat) h
      else none
    else
      c_528_64 d x1 x2 x3 x4 x5 x6 (wI ((wI (x4 + x6)) - (h 10 642 x1.toNat))) h
  else
    some (.inl (some (0, x5)), h)
  else none := by
  unfold c_528_6
  exact
    have D : fk_D 528 [(6, some [0, 1, 2, 3, 4, 5, 6], .iload 6, 2, 0, 0, 0), (8, none, .aload_n 0, 1, 0, 0, 0), (9, none, .getfield 137, 3, 448, 129, 12), (12, none, .iload_n 1, 1, 0, 0, 0), (13, none, .iaload, 1, 0, 0, 0), (14, none, .aload_n 0, 1, 0, 0, 0), (15, none, .getfield 788, 3, 444, 129, 10), (18, none, .iadd, 1, 0, 0, 0), (19, none, .iload 4, 2, 0, 0, 0), (21, none, .isub, 1, 0, 0, 0), (22, none, .if_icmp .ge 99, 3, 121, 0, 0), (25, none, .iload 6, 2, 0, 0, 0), (27, none, .aload_n 0, 1, 0, 0, 0), (28, none, .getfield 137, 3, 448, 129, 12), (31, none, .iload_n 1, 1, 0, 0, 0), (32, none, .iaload, 1, 0, 0, 0), (33, none, .if_icmp .ge 19, 3, 52, 0, 0), (36, none, .aload_n 0, 1, 0, 0, 0), (37, none, .getfield 128, 3, 445, 129, 12), (40, none, .sipush 200, 3, 0, 200, 0)] := fq_of2 cd_528 ow_528 cl_528 rfl (pc := 6) (by decide +kernel)
    j_ild (pc := 6) D rfl rfl rfl fun D =>
    j_aldn (pc := 8) D rfl rfl rfl fun D =>
    j_gfc (pc := 9) (a := 602) D rfl rfl (by decide) rfl (s0_602 H) rfl (sf_448_602 H) fun D =>
    j_ildn (pc := 12) D rfl rfl rfl fun D =>
    j_al (pc := 13) (a := 642) (e := 10) D rfl rfl rfl (by decide) (s0_642 H) (s1_642 H) ⟨rfl, rfl, rfl⟩ rfl gn fun qb1 D =>
    j_aldn (pc := 14) D rfl rfl rfl fun D =>
    j_gf (pc := 15) (a := 602) D rfl rfl (by decide) rfl (s0_602 H) rfl fun D =>
    j_iadd (pc := 18) D rfl fun D =>
    j_ild (pc := 19) D rfl rfl rfl fun D =>
    j_isub (pc := 21) D rfl fun D =>
    j_ige (pc := 22) D rfl (fun q D =>
      j_ild (pc := 25) D rfl rfl rfl fun D =>
      j_aldn (pc := 27) D rfl rfl rfl fun D =>
      j_gfc (pc := 28) (a := 602) D rfl rfl (by decide) rfl (s0_602 H) rfl (sf_448_602 H) fun D =>
      j_ildn (pc := 31) D rfl rfl rfl fun D =>
      j_al (pc := 32) (a := 642) (e := 10) D rfl rfl rfl (by decide) (s0_642 H) (s1_642 H) ⟨rfl, rfl, rfl⟩ rfl (gy qb1) fun q D =>
      j_ige (pc := 33) D rfl (fun q D =>
        j_aldn (pc := 36) D rfl rfl rfl fun D =>
        j_gfc (pc := 37) (a := 602) D rfl rfl (by decide) rfl (s0_602 H) rfl (sf_445_602 H) fun D =>
        j_sp (pc := 40) D rfl fun D =>
        have D : fk_D 528 [(43, none, .iload_n 1, 1, 0, 0, 0), (44, none, .imul, 1, 0, 0, 0), (45, none, .iload 6, 2, 0, 0, 0), (47, none, .iadd, 1, 0, 0, 0), (48, none, .iaload, 1, 0, 0, 0), (49, none, .goto 15, 3, 64, 0, 0)] := fq_of2 cd_528 ow_528 cl_528 rfl (pc := 43) (by decide +kernel)
        j_ildn (pc := 43) D rfl rfl rfl fun D =>
        j_imul (pc := 44) D rfl fun D =>
        j_ild (pc := 45) D rfl rfl rfl fun D =>
        j_iadd (pc := 47) D rfl fun D =>
        j_al (pc := 48) (a := 639) (e := 10) D rfl rfl rfl (by decide) (s0_639 H) (s1_639 H) ⟨rfl, rfl, rfl⟩ rfl gn fun qb2 D =>
        j_goto (pc := 49) D rfl <|
        fk_jump cut_528_64 rfl rfl) (fun q =>
        have D : fk_D 528 [(52, none, .iload 4, 2, 0, 0, 0), (54, none, .iload 6, 2, 0, 0, 0), (56, none, .iadd, 1, 0, 0, 0), (57, none, .aload_n 0, 1, 0, 0, 0), (58, none, .getfield 137, 3, 448, 129, 12), (61, none, .iload_n 1, 1, 0, 0, 0), (62, none, .iaload, 1, 0, 0, 0), (63, none, .isub, 1, 0, 0, 0)] := fq_of2 cd_528 ow_528 cl_528 rfl (pc := 52) (by decide +kernel)
        j_ild (pc := 52) D rfl rfl rfl fun D =>
        j_ild (pc := 54) D rfl rfl rfl fun D =>
        j_iadd (pc := 56) D rfl fun D =>
        j_aldn (pc := 57) D rfl rfl rfl fun D =>
        j_gfc (pc := 58) (a := 602) D rfl rfl (by decide) rfl (s0_602 H) rfl (sf_448_602 H) fun D =>
        j_ildn (pc := 61) D rfl rfl rfl fun D =>
        j_al (pc := 62) (a := 642) (e := 10) D rfl rfl rfl (by decide) (s0_642 H) (s1_642 H) ⟨rfl, rfl, rfl⟩ rfl (gy qb1) fun q D =>
        j_isub (pc := 63) D rfl fun D =>
        fk_jump cut_528_64 rfl rfl)) (fun q =>
      have D : fk_D 528 [(121, none, .iload 5, 2, 0, 0, 0), (123, none, .ireturn, 1, 0, 0, 0)] := fq_of2 cd_528 ow_528 cl_528 rfl (pc := 121) (by decide +kernel)
      j_ild (pc := 121) D rfl rfl rfl fun D =>
      j_iret D rt_528)
theorem e_528_64 (d : Nat) (x1 x2 x3 x4 x5 x6 s0 : Int) {h : fi_H} (H : Shp h) : c_528_64 d x1 x2 x3 x4 x5 x6 s0 h =
  if 0 ≤ s0 ∧ s0 < 240 then
  if h 10 635 s0.toNat = x2 then
    if x3 < h 10 636 s0.toNat then
      c_528_115 d x1 x2 x3 x4 x5 x6 h
    else
      if x5 = (-1) then
        c_528_111 d x1 x2 x3 x4 x6 s0 h
      else
        if 0 ≤ x5 ∧ x5 < 240 then
        if h 10 636 s0.toNat < h 10 636 x5.toNat then
          c_528_115 d x1 x2 x3 x4 x5 x6 h
        else
          c_528_111 d x1 x2 x3 x4 x6 s0 h
        else none
  else
    c_528_115 d x1 x2 x3 x4 x5 x6 h
  else none := by
  unfold c_528_64
  exact
    have D : fk_D 528 [(64, some [0, 1, 2, 3, 4, 5, 6], .istore 7, 2, 0, 0, 0), (66, none, .aload_n 0, 1, 0, 0, 0), (67, none, .getfield 116, 3, 440, 129, 12), (70, none, .iload 7, 2, 0, 0, 0), (72, none, .iaload, 1, 0, 0, 0), (73, none, .iload_n 2, 1, 0, 0, 0), (74, none, .if_icmp .ne 41, 3, 115, 0, 0), (77, none, .aload_n 0, 1, 0, 0, 0), (78, none, .getfield 119, 3, 441, 129, 12), (81, none, .iload 7, 2, 0, 0, 0), (83, none, .iaload, 1, 0, 0, 0), (84, none, .iload_n 3, 1, 0, 0, 0), (85, none, .if_icmp .gt 30, 3, 115, 0, 0), (88, none, .iload 5, 2, 0, 0, 0), (90, none, .iconst (-1), 1, 0, (-1), 0), (91, none, .if_icmp .eq 20, 3, 111, 0, 0), (94, none, .aload_n 0, 1, 0, 0, 0), (95, none, .getfield 119, 3, 441, 129, 12), (98, none, .iload 7, 2, 0, 0, 0), (100, none, .iaload, 1, 0, 0, 0)] := fq_of2 cd_528 ow_528 cl_528 rfl (pc := 64) (by decide +kernel)
    j_ist (pc := 64) (L' := [(7, (0, s0)), (0, (4, 602)), (1, (0, x1)), (2, (0, x2)), (3, (0, x3)), (4, (0, x4)), (5, (0, x5)), (6, (0, x6))]) D rfl nl_528 rfl rfl fun D =>
    j_aldn (pc := 66) D rfl rfl rfl fun D =>
    j_gfc (pc := 67) (a := 602) D rfl rfl (by decide) rfl (s0_602 H) rfl (sf_440_602 H) fun D =>
    j_ild (pc := 70) D rfl rfl rfl fun D =>
    j_al (pc := 72) (a := 635) (e := 10) D rfl rfl rfl (by decide) (s0_635 H) (s1_635 H) ⟨rfl, rfl, rfl⟩ rfl gn fun qb1 D =>
    j_ildn (pc := 73) D rfl rfl rfl fun D =>
    j_ine (pc := 74) D rfl (fun q D =>
      j_aldn (pc := 77) D rfl rfl rfl fun D =>
      j_gfc (pc := 78) (a := 602) D rfl rfl (by decide) rfl (s0_602 H) rfl (sf_441_602 H) fun D =>
      j_ild (pc := 81) D rfl rfl rfl fun D =>
      j_al (pc := 83) (a := 636) (e := 10) D rfl rfl rfl (by decide) (s0_636 H) (s1_636 H) ⟨rfl, rfl, rfl⟩ rfl (gy qb1) fun q D =>
      j_ildn (pc := 84) D rfl rfl rfl fun D =>
      j_igt (pc := 85) D rfl (fun q =>
        fk_jump cut_528_115 rfl rfl) (fun q D =>
        j_ild (pc := 88) D rfl rfl rfl fun D =>
        j_ic (pc := 90) D rfl fun D =>
        j_ieq (pc := 91) D rfl (fun q =>
          fk_jump cut_528_111 rfl rfl) (fun q D =>
          j_aldn (pc := 94) D rfl rfl rfl fun D =>
          j_gfc (pc := 95) (a := 602) D rfl rfl (by decide) rfl (s0_602 H) rfl (sf_441_602 H) fun D =>
          j_ild (pc := 98) D rfl rfl rfl fun D =>
          j_al (pc := 100) (a := 636) (e := 10) D rfl rfl rfl (by decide) (s0_636 H) (s1_636 H) ⟨rfl, rfl, rfl⟩ rfl (gy qb1) fun q D =>
          have D : fk_D 528 [(101, none, .aload_n 0, 1, 0, 0, 0), (102, none, .getfield 119, 3, 441, 129, 12), (105, none, .iload 5, 2, 0, 0, 0), (107, none, .iaload, 1, 0, 0, 0), (108, none, .if_icmp .lt 7, 3, 115, 0, 0)] := fq_of2 cd_528 ow_528 cl_528 rfl (pc := 101) (by decide +kernel)
          j_aldn (pc := 101) D rfl rfl rfl fun D =>
          j_gfc (pc := 102) (a := 602) D rfl rfl (by decide) rfl (s0_602 H) rfl (sf_441_602 H) fun D =>
          j_ild (pc := 105) D rfl rfl rfl fun D =>
          j_al (pc := 107) (a := 636) (e := 10) D rfl rfl rfl (by decide) (s0_636 H) (s1_636 H) ⟨rfl, rfl, rfl⟩ rfl gn fun qb2 D =>
          j_ilt (pc := 108) D rfl (fun q =>
            fk_jump cut_528_115 rfl rfl) (fun q D =>
            fk_jump cut_528_111 rfl rfl)))) (fun q =>
      fk_jump cut_528_115 rfl rfl)
theorem e_528_111 (d : Nat) (x1 x2 x3 x4 x6 x7 : Int) {h : fi_H} (H : Shp h) : c_528_111 d x1 x2 x3 x4 x6 x7 h =
  c_528_115 d x1 x2 x3 x4 x7 x6 h := by
  unfold c_528_111
  exact
    have D : fk_D 528 [(111, some [0, 1, 2, 3, 4, 6, 7], .iload 7, 2, 0, 0, 0), (113, none, .istore 5, 2, 0, 0, 0)] := fq_of2 cd_528 ow_528 cl_528 rfl (pc := 111) (by decide +kernel)
    j_ild (pc := 111) D rfl rfl rfl fun D =>
    j_ist (pc := 113) (L' := [(5, (0, x7)), (0, (4, 602)), (1, (0, x1)), (2, (0, x2)), (3, (0, x3)), (4, (0, x4)), (6, (0, x6)), (7, (0, x7))]) D rfl nl_528 rfl rfl fun D =>
    fk_jump cut_528_115 rfl rfl
theorem e_528_115 (d : Nat) (x1 x2 x3 x4 x5 x6 : Int) {h : fi_H} (H : Shp h) : c_528_115 d x1 x2 x3 x4 x5 x6 h =
  c_528_6 d x1 x2 x3 x4 x5 (wI (x6 + 1)) h := by
  unfold c_528_115
  exact
    have D : fk_D 528 [(115, some [0, 1, 2, 3, 4, 5, 6], .iinc 6 1, 3, 0, 1, 0), (118, none, .goto (-112), 3, 6, 0, 0)] := fq_of2 cd_528 ow_528 cl_528 rfl (pc := 115) (by decide +kernel)
    j_inc (pc := 115) (L' := [(6, (0, wI (x6 + 1))), (0, (4, 602)), (1, (0, x1)), (2, (0, x2)), (3, (0, x3)), (4, (0, x4)), (5, (0, x5))]) D rfl rfl rfl (by decide +kernel) rfl fun D =>
    j_goto (pc := 118) D rfl <|
    fk_jump cut_528_6 rfl rfl
theorem m_528 (d : Nat) (x1 x2 x3 x4 : Int) {h : fi_H} (H : Shp h) : fj_run (d + 1) 528 h [(4, 602), (0, x1), (0, x2), (0, x3), (0, x4)] =
  c_528_6 d x1 x2 x3 x4 (-1) 0 h := by
  rw [fj_run_eq d (by decide) h [(4, 602), (0, x1), (0, x2), (0, x3), (0, x4)] (Nat.le_of_ble_eq_true (by rw [nl_528]; rfl))]
  show gG (fj_run d) 528 0 [(0, (4, 602)), (1, (0, x1)), (2, (0, x2)), (3, (0, x3)), (4, (0, x4))] [] h = _
  exact
    have D : fk_D 528 [(0, none, .iconst (-1), 1, 0, (-1), 0), (1, none, .istore 5, 2, 0, 0, 0), (3, none, .iconst 0, 1, 0, 0, 0), (4, none, .istore 6, 2, 0, 0, 0)] := fq_of2 cd_528 ow_528 cl_528 rfl (pc := 0) (by decide +kernel)
    j_ic (pc := 0) D rfl fun D =>
    j_ist (pc := 1) (L' := [(5, (0, (-1))), (0, (4, 602)), (1, (0, x1)), (2, (0, x2)), (3, (0, x3)), (4, (0, x4))]) D rfl nl_528 rfl rfl fun D =>
    j_ic (pc := 3) D rfl fun D =>
    j_ist (pc := 4) (L' := [(6, (0, 0)), (5, (0, (-1))), (0, (4, 602)), (1, (0, x1)), (2, (0, x2)), (3, (0, x3)), (4, (0, x4))]) D rfl nl_528 rfl rfl fun D =>
    fk_jump cut_528_6 rfl rfl
/-! 529 StatuteHouseModel.amend(I)V -/
theorem cd_529 : fi_code 529 = prog_69_method_83_code := rfl
theorem hx_529 : ∀ pc, fi_hat 529 pc = none := fun pc => by unfold fi_hat; rw [show fi_hh 529 = [] from rfl]; rfl
theorem rt_529 : fi_ret 529 = none := rfl
theorem nl_529 : fi_nl 529 = 5 := rfl
theorem ow_529 : fi_ow 529 = 29 := rfl
theorem cl_529 : fj_cutT.getD 529 [] = [(28, [0, 1]), (33, [0, 1]), (67, [0, 1]), (119, [0, 1, 2]), (137, [0, 1, 2]), (181, [0, 1, 2]), (210, [0, 1, 2]), (285, [])] := rfl
theorem cut_529_28 : fj_cut 529 28 = some [0, 1] := by decide +kernel
noncomputable def c_529_28 (d : Nat) (x1 s0 : Int) (h : fi_H) : fk_R := gG (fj_run d) 529 28 [(0, (4, 602)), (1, (0, x1))] [(4, s0)] h
theorem cut_529_33 : fj_cut 529 33 = some [0, 1] := by decide +kernel
noncomputable def c_529_33 (d : Nat) (x1 s0 s1 : Int) (h : fi_H) : fk_R := gG (fj_run d) 529 33 [(0, (4, 602)), (1, (0, x1))] [(0, s1), (4, s0)] h
theorem cut_529_67 : fj_cut 529 67 = some [0, 1] := by decide +kernel
noncomputable def c_529_67 (d : Nat) (x1 s0 s1 : Int) (h : fi_H) : fk_R := gG (fj_run d) 529 67 [(0, (4, 602)), (1, (0, x1))] [(0, s1), (4, s0)] h
theorem cut_529_119 : fj_cut 529 119 = some [0, 1, 2] := by decide +kernel
noncomputable def c_529_119 (d : Nat) (x1 x2 : Int) (h : fi_H) : fk_R := gG (fj_run d) 529 119 [(0, (4, 602)), (1, (0, x1)), (2, (0, x2))] [] h
theorem cut_529_137 : fj_cut 529 137 = some [0, 1, 2] := by decide +kernel
noncomputable def c_529_137 (d : Nat) (x1 x2 s0 s1 : Int) (h : fi_H) : fk_R := gG (fj_run d) 529 137 [(0, (4, 602)), (1, (0, x1)), (2, (0, x2))] [(0, s1), (4, s0)] h
theorem cut_529_181 : fj_cut 529 181 = some [0, 1, 2] := by decide +kernel
noncomputable def c_529_181 (d : Nat) (x1 x2 s0 s1 : Int) (h : fi_H) : fk_R := gG (fj_run d) 529 181 [(0, (4, 602)), (1, (0, x1)), (2, (0, x2))] [(0, s1), (4, s0)] h
theorem cut_529_210 : fj_cut 529 210 = some [0, 1, 2] := by decide +kernel
noncomputable def c_529_210 (d : Nat) (x1 x2 s0 s1 : Int) (h : fi_H) : fk_R := gG (fj_run d) 529 210 [(0, (4, 602)), (1, (0, x1)), (2, (0, x2))] [(0, s1), (4, s0)] h
theorem cut_529_285 : fj_cut 529 285 = some [] := by decide +kernel
noncomputable def c_529_285 (d : Nat) (h : fi_H) : fk_R := gG (fj_run d) 529 285 [] [] h
theorem e_529_28 (d : Nat) (x1 s0 : Int) {h : fi_H} (H : Shp h) : c_529_28 d x1 s0 h =
  c_529_33 d x1 s0 1 h := by
  unfold c_529_28
  exact
    have D : fk_D 529 [(28, some [0, 1], .iconst 1, 1, 0, 1, 0), (29, none, .goto 4, 3, 33, 0, 0)] := fq_of2 cd_529 ow_529 cl_529 rfl (pc := 28) (by decide +kernel)
    j_ic (pc := 28) D rfl fun D =>
    j_goto (pc := 29) D rfl <|
    fk_jump cut_529_33 rfl rfl
theorem e_529_33 (d : Nat) (x1 s0 s1 : Int) {h : fi_H} (H : Shp h) : c_529_33 d x1 s0 s1 h =
  dv_ (fi_vt 348 (h 0 s0.toNat 0)) fun m4 => cv_ (fj_run d m4 h [(4, s0), (0, s1), (0, 1), (0, h 396 602 0)])
    (fun h1 =>
    ca_ (fj_run d 499 h1 [(4, 602), (0, 74)]) 0
      (fun v6 h5 =>
      if v6 = 0 then
        ca_ (fj_run d 499 h5 [(4, 602), (0, 73)]) 0
          (fun v9 h8 =>
          c_529_119 d x1 v9 h8)
          (fun q10 h8 => tx_ q10 h8)
      else
        if 0 ≤ x1 ∧ x1 < 240 then
        if h5 10 638 x1.toNat < 40 then
          c_529_67 d x1 602 1 h5
        else
          c_529_67 d x1 602 0 h5
        else none)
      (fun q7 h5 => tx_ q7 h5))
    (fun q3 h1 => tx_ q3 h1) := by
  unfold c_529_33
  exact
    have D : fk_D 529 [(33, some [0, 1], .iconst 1, 1, 0, 1, 0), (34, none, .aload_n 0, 1, 0, 0, 0), (35, none, .getfield 507, 3, 396, 129, 10), (38, none, .invokevirtual 557, 3, 3, 348, 0), (41, none, .aload_n 0, 1, 0, 0, 0), (42, none, .bipush 74, 2, 0, 74, 0), (44, none, .invokevirtual 570, 3, 1, 352, 1), (47, none, .ifCond .eq 65, 3, 112, 0, 0), (50, none, .aload_n 0, 1, 0, 0, 0), (51, none, .aload_n 0, 1, 0, 0, 0), (52, none, .getfield 125, 3, 443, 129, 12), (55, none, .iload_n 1, 1, 0, 0, 0), (56, none, .iaload, 1, 0, 0, 0), (57, none, .bipush 40, 2, 0, 40, 0), (59, none, .if_icmp .ge 7, 3, 66, 0, 0), (62, none, .iconst 1, 1, 0, 1, 0), (63, none, .goto 4, 3, 67, 0, 0)] := fq_of2 cd_529 ow_529 cl_529 rfl (pc := 33) (by decide +kernel)
    j_ic (pc := 33) D rfl fun D =>
    j_aldn (pc := 34) D rfl rfl rfl fun D =>
    j_gf (pc := 35) (a := 602) D rfl rfl (by decide) rfl (s0_602 H) rfl fun D =>
    j_ivuv (pc := 38) (dd := 348) (a := [(0, s1), (0, 1), (0, h 396 602 0)]) (rest := []) H.2.1 D rfl rfl rfl rfl rfl (fun m4 h1 e1 D =>
      have T := fj_run_ok _ _ _ _ _ _ H.1 e1
      have H := shp_st H T
      j_aldn (pc := 41) D rfl rfl rfl fun D =>
      j_bp (pc := 42) D rfl fun D =>
      j_iv (pc := 44) (m := 499) (dd := 352) (a := [(0, 74)]) (rest := []) D rfl rfl rfl rfl rfl (by decide) (s0_602 H) (by decide +kernel) (fun v6 h5 e1 D =>
        have T := fj_run_ok _ _ _ _ _ _ H.1 e1
        have H := shp_st H T
        j_ifeq (pc := 47) D rfl (fun q =>
          have D : fk_D 529 [(112, none, .aload_n 0, 1, 0, 0, 0), (113, none, .bipush 73, 2, 0, 73, 0), (115, none, .invokevirtual 570, 3, 1, 352, 1), (118, none, .istore_n 2, 1, 0, 0, 0)] := fq_of2 cd_529 ow_529 cl_529 rfl (pc := 112) (by decide +kernel)
          j_aldn (pc := 112) D rfl rfl rfl fun D =>
          j_bp (pc := 113) D rfl fun D =>
          j_iv (pc := 115) (m := 499) (dd := 352) (a := [(0, 73)]) (rest := []) D rfl rfl rfl rfl rfl (by decide) (s0_602 H) (by decide +kernel) (fun v9 h8 e1 D =>
            have T := fj_run_ok _ _ _ _ _ _ H.1 e1
            have H := shp_st H T
            j_istn (pc := 118) (L' := [(2, (0, v9)), (0, (4, 602)), (1, (0, x1))]) D rfl nl_529 rfl rfl fun D =>
            fk_jump cut_529_119 rfl rfl) (fun q10 h8 e1 =>
            j_tx (hx_529 _))) (fun q D =>
          j_aldn (pc := 50) D rfl rfl rfl fun D =>
          j_aldn (pc := 51) D rfl rfl rfl fun D =>
          j_gfc (pc := 52) (a := 602) D rfl rfl (by decide) rfl (s0_602 H) rfl (sf_443_602 H) fun D =>
          j_ildn (pc := 55) D rfl rfl rfl fun D =>
          j_al (pc := 56) (a := 638) (e := 10) D rfl rfl rfl (by decide) (s0_638 H) (s1_638 H) ⟨rfl, rfl, rfl⟩ rfl gn fun qb11 D =>
          j_bp (pc := 57) D rfl fun D =>
          j_ige (pc := 59) D rfl (fun q D =>
            j_ic (pc := 62) D rfl fun D =>
            j_goto (pc := 63) D rfl <|
            fk_jump cut_529_67 rfl rfl) (fun q =>
            have D : fk_D 529 [(66, none, .iconst 0, 1, 0, 0, 0)] := fq_of2 cd_529 ow_529 cl_529 rfl (pc := 66) (by decide +kernel)
            j_ic (pc := 66) D rfl fun D =>
            fk_jump cut_529_67 rfl rfl))) (fun q7 h5 e1 =>
        j_tx (hx_529 _))) (fun m4 q3 h1 e1 =>
      j_tx (hx_529 _))
theorem e_529_67 (d : Nat) (x1 s0 s1 : Int) {h : fi_H} (H : Shp h) : c_529_67 d x1 s0 s1 h =
  dv_ (fi_vt 348 (h 0 s0.toNat 0)) fun m4 => cv_ (fj_run d m4 h [(4, s0), (0, s1), (0, 4), (0, h 396 602 0)])
    (fun h1 =>
    cv_ (fj_run d 502 h1 [(4, 602)])
      (fun h5 =>
      if 0 ≤ x1 ∧ x1 < 240 then
      ca_ (fj_run d 530 h5 [(4, 602), (0, 0), (0, x1)]) 0
        (fun v10 h9 =>
        if 0 ≤ wI ((wI (40 * x1)) + (h5 10 638 x1.toNat)) ∧ wI ((wI (40 * x1)) + (h5 10 638 x1.toNat)) < 9600 then
        lt_ (fi_upd h9 10 637 (wI ((wI (40 * x1)) + (h5 10 638 x1.toNat))).toNat v10) fun h12 =>
        lt_ (fi_upd h12 10 638 x1.toNat (wI ((h12 10 638 x1.toNat) + 1))) fun h14 =>
        some (.inl none, h14)
        else none)
        (fun q11 h9 => tx_ q11 h9)
      else none)
      (fun q7 h5 => tx_ q7 h5))
    (fun q3 h1 => tx_ q3 h1) := by
  unfold c_529_67
  exact
    have D : fk_D 529 [(67, some [0, 1], .iconst 4, 1, 0, 4, 0), (68, none, .aload_n 0, 1, 0, 0, 0), (69, none, .getfield 507, 3, 396, 129, 10), (72, none, .invokevirtual 557, 3, 3, 348, 0), (75, none, .aload_n 0, 1, 0, 0, 0), (76, none, .invokevirtual 567, 3, 0, 351, 0), (79, none, .aload_n 0, 1, 0, 0, 0), (80, none, .getfield 122, 3, 442, 129, 12), (83, none, .bipush 40, 2, 0, 40, 0), (85, none, .iload_n 1, 1, 0, 0, 0), (86, none, .imul, 1, 0, 0, 0), (87, none, .aload_n 0, 1, 0, 0, 0), (88, none, .getfield 125, 3, 443, 129, 12), (91, none, .iload_n 1, 1, 0, 0, 0), (92, none, .iaload, 1, 0, 0, 0), (93, none, .iadd, 1, 0, 0, 0), (94, none, .aload_n 0, 1, 0, 0, 0), (95, none, .iconst 0, 1, 0, 0, 0), (96, none, .iload_n 1, 1, 0, 0, 0), (97, none, .invokevirtual 800, 3, 2, 395, 1)] := fq_of2 cd_529 ow_529 cl_529 rfl (pc := 67) (by decide +kernel)
    j_ic (pc := 67) D rfl fun D =>
    j_aldn (pc := 68) D rfl rfl rfl fun D =>
    j_gf (pc := 69) (a := 602) D rfl rfl (by decide) rfl (s0_602 H) rfl fun D =>
    j_ivuv (pc := 72) (dd := 348) (a := [(0, s1), (0, 4), (0, h 396 602 0)]) (rest := []) H.2.1 D rfl rfl rfl rfl rfl (fun m4 h1 e1 D =>
      have T := fj_run_ok _ _ _ _ _ _ H.1 e1
      have H := shp_st H T
      j_aldn (pc := 75) D rfl rfl rfl fun D =>
      j_ivv (pc := 76) (m := 502) (dd := 351) (a := []) (rest := []) D rfl rfl rfl rfl rfl (by decide) (s0_602 H) (by decide +kernel) (fun h5 e1 D =>
        have T := fj_run_ok _ _ _ _ _ _ H.1 e1
        have H := shp_st H T
        j_aldn (pc := 79) D rfl rfl rfl fun D =>
        j_gfc (pc := 80) (a := 602) D rfl rfl (by decide) rfl (s0_602 H) rfl (sf_442_602 H) fun D =>
        j_bp (pc := 83) D rfl fun D =>
        j_ildn (pc := 85) D rfl rfl rfl fun D =>
        j_imul (pc := 86) D rfl fun D =>
        j_aldn (pc := 87) D rfl rfl rfl fun D =>
        j_gfc (pc := 88) (a := 602) D rfl rfl (by decide) rfl (s0_602 H) rfl (sf_443_602 H) fun D =>
        j_ildn (pc := 91) D rfl rfl rfl fun D =>
        j_al (pc := 92) (a := 638) (e := 10) D rfl rfl rfl (by decide) (s0_638 H) (s1_638 H) ⟨rfl, rfl, rfl⟩ rfl gn fun qb8 D =>
        j_iadd (pc := 93) D rfl fun D =>
        j_aldn (pc := 94) D rfl rfl rfl fun D =>
        j_ic (pc := 95) D rfl fun D =>
        j_ildn (pc := 96) D rfl rfl rfl fun D =>
        j_iv (pc := 97) (m := 530) (dd := 395) (a := [(0, 0), (0, x1)]) (rest := [(0, wI ((wI (40 * x1)) + (h5 10 638 x1.toNat))), (4, 637)]) D rfl rfl rfl rfl rfl (by decide) (s0_602 H) (by decide +kernel) (fun v10 h9 e1 D =>
          have T := fj_run_ok _ _ _ _ _ _ H.1 e1
          have H := shp_st H T
          have D : fk_D 529 [(100, none, .iastore, 1, 0, 0, 0), (101, none, .aload_n 0, 1, 0, 0, 0), (102, none, .getfield 125, 3, 443, 129, 12), (105, none, .iload_n 1, 1, 0, 0, 0), (106, none, .dup2, 1, 0, 0, 0), (107, none, .iaload, 1, 0, 0, 0), (108, none, .iconst 1, 1, 0, 1, 0), (109, none, .iadd, 1, 0, 0, 0), (110, none, .iastore, 1, 0, 0, 0), (111, none, .return_, 1, 0, 0, 0)] := fq_of2 cd_529 ow_529 cl_529 rfl (pc := 100) (by decide +kernel)
          j_as (pc := 100) (a := 637) (e := 10) D rfl ⟨rfl, rfl⟩ rfl (by decide) (s0_637 H) (s1_637 H) ⟨rfl, rfl, rfl⟩ rfl gn (gy rfl) fun h12 eh12 S qb13 D =>
          have T := fj_hs_ok H.1 S
          have H := shp_st H T
          j_aldn (pc := 101) D rfl rfl rfl fun D =>
          j_gfc (pc := 102) (a := 602) D rfl rfl (by decide) rfl (s0_602 H) rfl (sf_443_602 H) fun D =>
          j_ildn (pc := 105) D rfl rfl rfl fun D =>
          j_sh (pc := 106) D rfl rfl rfl fun D =>
          j_al (pc := 107) (a := 638) (e := 10) D rfl rfl rfl (by decide) (s0_638 H) (s1_638 H) ⟨rfl, rfl, rfl⟩ rfl (gy qb8) fun q D =>
          j_ic (pc := 108) D rfl fun D =>
          j_iadd (pc := 109) D rfl fun D =>
          j_as (pc := 110) (a := 638) (e := 10) D rfl ⟨rfl, rfl⟩ rfl (by decide) (s0_638 H) (s1_638 H) ⟨rfl, rfl, rfl⟩ rfl (gy qb8) (gy rfl) fun h14 eh14 S q D =>
          have T := fj_hs_ok H.1 S
          have H := shp_st H T
          j_vret D rt_529) (fun q11 h9 e1 =>
          j_tx (hx_529 _))) (fun q7 h5 e1 =>
        j_tx (hx_529 _))) (fun m4 q3 h1 e1 =>
      j_tx (hx_529 _))
theorem e_529_119 (d : Nat) (x1 x2 : Int) {h : fi_H} (H : Shp h) : c_529_119 d x1 x2 h =
  cv_ (fj_run d 502 h [(4, 602)])
    (fun h1 =>
    if h1 394 602 0 = 3 then
      c_529_137 d x1 x2 602 1 h1
    else
      c_529_137 d x1 x2 602 0 h1)
    (fun q3 h1 => tx_ q3 h1) := by
  unfold c_529_119
  exact
    have D : fk_D 529 [(119, some [0, 1, 2], .aload_n 0, 1, 0, 0, 0), (120, none, .invokevirtual 567, 3, 0, 351, 0), (123, none, .aload_n 0, 1, 0, 0, 0), (124, none, .aload_n 0, 1, 0, 0, 0), (125, none, .getfield 513, 3, 394, 129, 10), (128, none, .iconst 3, 1, 0, 3, 0), (129, none, .if_icmp .ne 7, 3, 136, 0, 0), (132, none, .iconst 1, 1, 0, 1, 0), (133, none, .goto 4, 3, 137, 0, 0)] := fq_of2 cd_529 ow_529 cl_529 rfl (pc := 119) (by decide +kernel)
    j_aldn (pc := 119) D rfl rfl rfl fun D =>
    j_ivv (pc := 120) (m := 502) (dd := 351) (a := []) (rest := []) D rfl rfl rfl rfl rfl (by decide) (s0_602 H) (by decide +kernel) (fun h1 e1 D =>
      have T := fj_run_ok _ _ _ _ _ _ H.1 e1
      have H := shp_st H T
      j_aldn (pc := 123) D rfl rfl rfl fun D =>
      j_aldn (pc := 124) D rfl rfl rfl fun D =>
      j_gf (pc := 125) (a := 602) D rfl rfl (by decide) rfl (s0_602 H) rfl fun D =>
      j_ic (pc := 128) D rfl fun D =>
      j_ine (pc := 129) D rfl (fun q D =>
        j_ic (pc := 132) D rfl fun D =>
        j_goto (pc := 133) D rfl <|
        fk_jump cut_529_137 rfl rfl) (fun q =>
        have D : fk_D 529 [(136, none, .iconst 0, 1, 0, 0, 0)] := fq_of2 cd_529 ow_529 cl_529 rfl (pc := 136) (by decide +kernel)
        j_ic (pc := 136) D rfl fun D =>
        fk_jump cut_529_137 rfl rfl)) (fun q3 h1 e1 =>
      j_tx (hx_529 _))
theorem e_529_137 (d : Nat) (x1 x2 s0 s1 : Int) {h : fi_H} (H : Shp h) : c_529_137 d x1 x2 s0 s1 h =
  dv_ (fi_vt 348 (h 0 s0.toNat 0)) fun m4 => cv_ (fj_run d m4 h [(4, s0), (0, s1), (0, 1), (0, h 396 602 0)])
    (fun h1 =>
    ca_ (fj_run d 508 h1 [(1, h1 399 602 0), (1, 1), (1, 99)]) 0
      (fun v6 h5 =>
      cv_ (fj_run d 500 h5 [(4, 602), (0, v6), (0, 3), (0, h5 396 602 0)])
        (fun h8 =>
        if 1200 < h8 398 602 0 then
          c_529_181 d x1 x2 602 0 h8
        else
          c_529_181 d x1 x2 602 1 h8)
        (fun q10 h8 => tx_ q10 h8))
      (fun q7 h5 => tx_ q7 h5))
    (fun q3 h1 => tx_ q3 h1) := by
  unfold c_529_137
  exact
    have D : fk_D 529 [(137, some [0, 1, 2], .iconst 1, 1, 0, 1, 0), (138, none, .aload_n 0, 1, 0, 0, 0), (139, none, .getfield 507, 3, 396, 129, 10), (142, none, .invokevirtual 557, 3, 3, 348, 0), (145, none, .aload_n 0, 1, 0, 0, 0), (146, none, .aload_n 0, 1, 0, 0, 0), (147, none, .getfield 550, 3, 399, 129, 11), (150, none, .lconst 1, 1, 0, 0, 0), (151, none, .ldc2_w 803, 3, 1, 99, 0), (154, none, .invokestatic 434, 3, 3, 508, 1), (157, none, .iconst 3, 1, 0, 3, 0), (158, none, .aload_n 0, 1, 0, 0, 0), (159, none, .getfield 507, 3, 396, 129, 10), (162, none, .invokevirtual 557, 3, 3, 348, 0), (165, none, .aload_n 0, 1, 0, 0, 0), (166, none, .aload_n 0, 1, 0, 0, 0), (167, none, .getfield 510, 3, 398, 129, 10), (170, none, .sipush 1200, 3, 0, 1200, 0), (173, none, .if_icmp .gt 7, 3, 180, 0, 0), (176, none, .iconst 1, 1, 0, 1, 0)] := fq_of2 cd_529 ow_529 cl_529 rfl (pc := 137) (by decide +kernel)
    j_ic (pc := 137) D rfl fun D =>
    j_aldn (pc := 138) D rfl rfl rfl fun D =>
    j_gf (pc := 139) (a := 602) D rfl rfl (by decide) rfl (s0_602 H) rfl fun D =>
    j_ivuv (pc := 142) (dd := 348) (a := [(0, s1), (0, 1), (0, h 396 602 0)]) (rest := []) H.2.1 D rfl rfl rfl rfl rfl (fun m4 h1 e1 D =>
      have T := fj_run_ok _ _ _ _ _ _ H.1 e1
      have H := shp_st H T
      j_aldn (pc := 145) D rfl rfl rfl fun D =>
      j_aldn (pc := 146) D rfl rfl rfl fun D =>
      j_gf (pc := 147) (a := 602) D rfl rfl (by decide) rfl (s0_602 H) rfl fun D =>
      j_c0 (pc := 150) (v := (1, 1)) D rfl rfl (by decide +kernel) fun D =>
      j_ldc2 (pc := 151) D rfl fun D =>
      j_is (pc := 154) (m := 508) (a := [(1, h1 399 602 0), (1, 1), (1, 99)]) (rest := [(4, 602)]) D rfl rfl rfl rfl (fun v6 h5 e1 D =>
        have T := fj_run_ok _ _ _ _ _ _ H.1 e1
        have H := shp_st H T
        j_ic (pc := 157) D rfl fun D =>
        j_aldn (pc := 158) D rfl rfl rfl fun D =>
        j_gf (pc := 159) (a := 602) D rfl rfl (by decide) rfl (s0_602 H) rfl fun D =>
        j_ivv (pc := 162) (m := 500) (dd := 348) (a := [(0, v6), (0, 3), (0, h5 396 602 0)]) (rest := []) D rfl rfl rfl rfl rfl (by decide) (s0_602 H) (by decide +kernel) (fun h8 e1 D =>
          have T := fj_run_ok _ _ _ _ _ _ H.1 e1
          have H := shp_st H T
          j_aldn (pc := 165) D rfl rfl rfl fun D =>
          j_aldn (pc := 166) D rfl rfl rfl fun D =>
          j_gf (pc := 167) (a := 602) D rfl rfl (by decide) rfl (s0_602 H) rfl fun D =>
          j_sp (pc := 170) D rfl fun D =>
          j_igt (pc := 173) D rfl (fun q =>
            have D : fk_D 529 [(180, none, .iconst 0, 1, 0, 0, 0)] := fq_of2 cd_529 ow_529 cl_529 rfl (pc := 180) (by decide +kernel)
            j_ic (pc := 180) D rfl fun D =>
            fk_jump cut_529_181 rfl rfl) (fun q D =>
            j_ic (pc := 176) D rfl fun D =>
            have D : fk_D 529 [(177, none, .goto 4, 3, 181, 0, 0)] := fq_of2 cd_529 ow_529 cl_529 rfl (pc := 177) (by decide +kernel)
            j_goto (pc := 177) D rfl <|
            fk_jump cut_529_181 rfl rfl)) (fun q10 h8 e1 =>
          j_tx (hx_529 _))) (fun q7 h5 e1 =>
        j_tx (hx_529 _))) (fun m4 q3 h1 e1 =>
      j_tx (hx_529 _))
theorem e_529_181 (d : Nat) (x1 x2 s0 s1 : Int) {h : fi_H} (H : Shp h) : c_529_181 d x1 x2 s0 s1 h =
  dv_ (fi_vt 348 (h 0 s0.toNat 0)) fun m4 => cv_ (fj_run d m4 h [(4, s0), (0, s1), (0, 4), (0, h 396 602 0)])
    (fun h1 =>
    if 0 ≤ x1 ∧ x1 < 240 then
    if 0 < lc_ (h1 399 602 0) (wI (h1 10 638 x1.toNat)) then
      c_529_210 d x1 x2 602 0 h1
    else
      c_529_210 d x1 x2 602 1 h1
    else none)
    (fun q3 h1 => tx_ q3 h1) := by
  unfold c_529_181
  exact
    have D : fk_D 529 [(181, some [0, 1, 2], .iconst 4, 1, 0, 4, 0), (182, none, .aload_n 0, 1, 0, 0, 0), (183, none, .getfield 507, 3, 396, 129, 10), (186, none, .invokevirtual 557, 3, 3, 348, 0), (189, none, .aload_n 0, 1, 0, 0, 0), (190, none, .aload_n 0, 1, 0, 0, 0), (191, none, .getfield 550, 3, 399, 129, 11), (194, none, .aload_n 0, 1, 0, 0, 0), (195, none, .getfield 125, 3, 443, 129, 12), (198, none, .iload_n 1, 1, 0, 0, 0), (199, none, .iaload, 1, 0, 0, 0), (200, none, .i2l, 1, 0, 0, 0), (201, none, .lcmp, 1, 0, 0, 0), (202, none, .ifCond .gt 7, 3, 209, 0, 0), (205, none, .iconst 1, 1, 0, 1, 0), (206, none, .goto 4, 3, 210, 0, 0)] := fq_of2 cd_529 ow_529 cl_529 rfl (pc := 181) (by decide +kernel)
    j_ic (pc := 181) D rfl fun D =>
    j_aldn (pc := 182) D rfl rfl rfl fun D =>
    j_gf (pc := 183) (a := 602) D rfl rfl (by decide) rfl (s0_602 H) rfl fun D =>
    j_ivuv (pc := 186) (dd := 348) (a := [(0, s1), (0, 4), (0, h 396 602 0)]) (rest := []) H.2.1 D rfl rfl rfl rfl rfl (fun m4 h1 e1 D =>
      have T := fj_run_ok _ _ _ _ _ _ H.1 e1
      have H := shp_st H T
      j_aldn (pc := 189) D rfl rfl rfl fun D =>
      j_aldn (pc := 190) D rfl rfl rfl fun D =>
      j_gf (pc := 191) (a := 602) D rfl rfl (by decide) rfl (s0_602 H) rfl fun D =>
      j_aldn (pc := 194) D rfl rfl rfl fun D =>
      j_gfc (pc := 195) (a := 602) D rfl rfl (by decide) rfl (s0_602 H) rfl (sf_443_602 H) fun D =>
      j_ildn (pc := 198) D rfl rfl rfl fun D =>
      j_al (pc := 199) (a := 638) (e := 10) D rfl rfl rfl (by decide) (s0_638 H) (s1_638 H) ⟨rfl, rfl, rfl⟩ rfl gn fun qb5 D =>
      j_i2l (pc := 200) D rfl fun D =>
      j_lcmp (pc := 201) D rfl fun D =>
      j_ifgt (pc := 202) D rfl (fun q =>
        have D : fk_D 529 [(209, none, .iconst 0, 1, 0, 0, 0)] := fq_of2 cd_529 ow_529 cl_529 rfl (pc := 209) (by decide +kernel)
        j_ic (pc := 209) D rfl fun D =>
        fk_jump cut_529_210 rfl rfl) (fun q D =>
        j_ic (pc := 205) D rfl fun D =>
        j_goto (pc := 206) D rfl <|
        fk_jump cut_529_210 rfl rfl)) (fun m4 q3 h1 e1 =>
      j_tx (hx_529 _))
theorem e_529_210 (d : Nat) (x1 x2 s0 s1 : Int) {h : fi_H} (H : Shp h) : c_529_210 d x1 x2 s0 s1 h =
  dv_ (fi_vt 348 (h 0 s0.toNat 0)) fun m4 => cv_ (fj_run d m4 h [(4, s0), (0, s1), (0, 7), (0, h 396 602 0)])
    (fun h1 =>
    cv_ (fj_run d 502 h1 [(4, 602)])
      (fun h5 =>
      if x2 = 0 then
        cv_ (fj_run d 505 h5 [(4, 602), (0, 59)])
          (fun h8 =>
          if 0 ≤ wI ((wI ((wI (40 * x1)) + (wI (h1 399 602 0)))) - 1) ∧ wI ((wI ((wI (40 * x1)) + (wI (h1 399 602 0)))) - 1) < 9600 then
          lt_ (fi_upd h8 10 637 (wI ((wI ((wI (40 * x1)) + (wI (h1 399 602 0)))) - 1)).toNat (-1)) fun h11 =>
          c_529_285 d h11
          else none)
          (fun q10 h8 => tx_ q10 h8)
      else
        cv_ (fj_run d 505 h5 [(4, 602), (0, 58)])
          (fun h13 =>
          ca_ (fj_run d 530 h13 [(4, 602), (0, 0), (0, x1)]) 0
            (fun v17 h16 =>
            if 0 ≤ wI ((wI ((wI (40 * x1)) + (wI (h1 399 602 0)))) - 1) ∧ wI ((wI ((wI (40 * x1)) + (wI (h1 399 602 0)))) - 1) < 9600 then
            lt_ (fi_upd h16 10 637 (wI ((wI ((wI (40 * x1)) + (wI (h1 399 602 0)))) - 1)).toNat v17) fun h19 =>
            c_529_285 d h19
            else none)
            (fun q18 h16 => tx_ q18 h16))
          (fun q15 h13 => tx_ q15 h13))
      (fun q7 h5 => tx_ q7 h5))
    (fun q3 h1 => tx_ q3 h1) := by
  unfold c_529_210
  exact
    have D : fk_D 529 [(210, some [0, 1, 2], .bipush 7, 2, 0, 7, 0), (212, none, .aload_n 0, 1, 0, 0, 0), (213, none, .getfield 507, 3, 396, 129, 10), (216, none, .invokevirtual 557, 3, 3, 348, 0), (219, none, .aload_n 0, 1, 0, 0, 0), (220, none, .getfield 550, 3, 399, 129, 11), (223, none, .l2i, 1, 0, 0, 0), (224, none, .istore_n 3, 1, 0, 0, 0), (225, none, .aload_n 0, 1, 0, 0, 0), (226, none, .invokevirtual 567, 3, 0, 351, 0), (229, none, .iload_n 2, 1, 0, 0, 0), (230, none, .ifCond .eq 35, 3, 265, 0, 0), (233, none, .aload_n 0, 1, 0, 0, 0), (234, none, .bipush 58, 2, 0, 58, 0), (236, none, .invokevirtual 624, 3, 1, 356, 0), (239, none, .aload_n 0, 1, 0, 0, 0), (240, none, .iconst 0, 1, 0, 0, 0), (241, none, .iload_n 1, 1, 0, 0, 0), (242, none, .invokevirtual 800, 3, 2, 395, 1), (245, none, .istore 4, 2, 0, 0, 0)] := fq_of2 cd_529 ow_529 cl_529 rfl (pc := 210) (by decide +kernel)
    j_bp (pc := 210) D rfl fun D =>
    j_aldn (pc := 212) D rfl rfl rfl fun D =>
    j_gf (pc := 213) (a := 602) D rfl rfl (by decide) rfl (s0_602 H) rfl fun D =>
    j_ivuv (pc := 216) (dd := 348) (a := [(0, s1), (0, 7), (0, h 396 602 0)]) (rest := []) H.2.1 D rfl rfl rfl rfl rfl (fun m4 h1 e1 D =>
      have T := fj_run_ok _ _ _ _ _ _ H.1 e1
      have H := shp_st H T
      j_aldn (pc := 219) D rfl rfl rfl fun D =>
      j_gf (pc := 220) (a := 602) D rfl rfl (by decide) rfl (s0_602 H) rfl fun D =>
      j_l2i (pc := 223) D rfl fun D =>
      j_istn (pc := 224) (L' := [(3, (0, wI (h1 399 602 0))), (0, (4, 602)), (1, (0, x1)), (2, (0, x2))]) D rfl nl_529 rfl rfl fun D =>
      j_aldn (pc := 225) D rfl rfl rfl fun D =>
      j_ivv (pc := 226) (m := 502) (dd := 351) (a := []) (rest := []) D rfl rfl rfl rfl rfl (by decide) (s0_602 H) (by decide +kernel) (fun h5 e1 D =>
        have T := fj_run_ok _ _ _ _ _ _ H.1 e1
        have H := shp_st H T
        j_ildn (pc := 229) D rfl rfl rfl fun D =>
        j_ifeq (pc := 230) D rfl (fun q =>
          have D : fk_D 529 [(265, none, .aload_n 0, 1, 0, 0, 0), (266, none, .bipush 59, 2, 0, 59, 0), (268, none, .invokevirtual 624, 3, 1, 356, 0), (271, none, .aload_n 0, 1, 0, 0, 0), (272, none, .getfield 122, 3, 442, 129, 12), (275, none, .bipush 40, 2, 0, 40, 0), (277, none, .iload_n 1, 1, 0, 0, 0), (278, none, .imul, 1, 0, 0, 0), (279, none, .iload_n 3, 1, 0, 0, 0), (280, none, .iadd, 1, 0, 0, 0), (281, none, .iconst 1, 1, 0, 1, 0), (282, none, .isub, 1, 0, 0, 0), (283, none, .iconst (-1), 1, 0, (-1), 0), (284, none, .iastore, 1, 0, 0, 0)] := fq_of2 cd_529 ow_529 cl_529 rfl (pc := 265) (by decide +kernel)
          j_aldn (pc := 265) D rfl rfl rfl fun D =>
          j_bp (pc := 266) D rfl fun D =>
          j_ivv (pc := 268) (m := 505) (dd := 356) (a := [(0, 59)]) (rest := []) D rfl rfl rfl rfl rfl (by decide) (s0_602 H) (by decide +kernel) (fun h8 e1 D =>
            have T := fj_run_ok _ _ _ _ _ _ H.1 e1
            have H := shp_st H T
            j_aldn (pc := 271) D rfl rfl rfl fun D =>
            j_gfc (pc := 272) (a := 602) D rfl rfl (by decide) rfl (s0_602 H) rfl (sf_442_602 H) fun D =>
            j_bp (pc := 275) D rfl fun D =>
            j_ildn (pc := 277) D rfl rfl rfl fun D =>
            j_imul (pc := 278) D rfl fun D =>
            j_ildn (pc := 279) D rfl rfl rfl fun D =>
            j_iadd (pc := 280) D rfl fun D =>
            j_ic (pc := 281) D rfl fun D =>
            j_isub (pc := 282) D rfl fun D =>
            j_ic (pc := 283) D rfl fun D =>
            j_as (pc := 284) (a := 637) (e := 10) D rfl ⟨rfl, rfl⟩ rfl (by decide) (s0_637 H) (s1_637 H) ⟨rfl, rfl, rfl⟩ rfl gn (gy rfl) fun h11 eh11 S qb12 D =>
            have T := fj_hs_ok H.1 S
            have H := shp_st H T
            fk_jump cut_529_285 rfl rfl) (fun q10 h8 e1 =>
            j_tx (hx_529 _))) (fun q D =>
          j_aldn (pc := 233) D rfl rfl rfl fun D =>
          j_bp (pc := 234) D rfl fun D =>
          j_ivv (pc := 236) (m := 505) (dd := 356) (a := [(0, 58)]) (rest := []) D rfl rfl rfl rfl rfl (by decide) (s0_602 H) (by decide +kernel) (fun h13 e1 D =>
            have T := fj_run_ok _ _ _ _ _ _ H.1 e1
            have H := shp_st H T
            j_aldn (pc := 239) D rfl rfl rfl fun D =>
            j_ic (pc := 240) D rfl fun D =>
            j_ildn (pc := 241) D rfl rfl rfl fun D =>
            j_iv (pc := 242) (m := 530) (dd := 395) (a := [(0, 0), (0, x1)]) (rest := []) D rfl rfl rfl rfl rfl (by decide) (s0_602 H) (by decide +kernel) (fun v17 h16 e1 D =>
              have T := fj_run_ok _ _ _ _ _ _ H.1 e1
              have H := shp_st H T
              j_ist (pc := 245) (L' := [(4, (0, v17)), (3, (0, wI (h1 399 602 0))), (0, (4, 602)), (1, (0, x1)), (2, (0, x2))]) D rfl nl_529 rfl rfl fun D =>
              have D : fk_D 529 [(247, none, .aload_n 0, 1, 0, 0, 0), (248, none, .getfield 122, 3, 442, 129, 12), (251, none, .bipush 40, 2, 0, 40, 0), (253, none, .iload_n 1, 1, 0, 0, 0), (254, none, .imul, 1, 0, 0, 0), (255, none, .iload_n 3, 1, 0, 0, 0), (256, none, .iadd, 1, 0, 0, 0), (257, none, .iconst 1, 1, 0, 1, 0), (258, none, .isub, 1, 0, 0, 0), (259, none, .iload 4, 2, 0, 0, 0), (261, none, .iastore, 1, 0, 0, 0), (262, none, .goto 23, 3, 285, 0, 0)] := fq_of2 cd_529 ow_529 cl_529 rfl (pc := 247) (by decide +kernel)
              j_aldn (pc := 247) D rfl rfl rfl fun D =>
              j_gfc (pc := 248) (a := 602) D rfl rfl (by decide) rfl (s0_602 H) rfl (sf_442_602 H) fun D =>
              j_bp (pc := 251) D rfl fun D =>
              j_ildn (pc := 253) D rfl rfl rfl fun D =>
              j_imul (pc := 254) D rfl fun D =>
              j_ildn (pc := 255) D rfl rfl rfl fun D =>
              j_iadd (pc := 256) D rfl fun D =>
              j_ic (pc := 257) D rfl fun D =>
              j_isub (pc := 258) D rfl fun D =>
              j_ild (pc := 259) D rfl rfl rfl fun D =>
              j_as (pc := 261) (a := 637) (e := 10) D rfl ⟨rfl, rfl⟩ rfl (by decide) (s0_637 H) (s1_637 H) ⟨rfl, rfl, rfl⟩ rfl gn (gy rfl) fun h19 eh19 S qb20 D =>
              have T := fj_hs_ok H.1 S
              have H := shp_st H T
              j_goto (pc := 262) D rfl <|
              fk_jump cut_529_285 rfl rfl) (fun q18 h16 e1 =>
              j_tx (hx_529 _))) (fun q15 h13 e1 =>
            j_tx (hx_529 _)))) (fun q7 h5 e1 =>
        j_tx (hx_529 _))) (fun m4 q3 h1 e1 =>
      j_tx (hx_529 _))
theorem e_529_285 (d : Nat) {h : fi_H} (H : Shp h) : c_529_285 d h =
  some (.inl none, h) := by
  unfold c_529_285
  exact
    have D : fk_D 529 [(285, some [], .return_, 1, 0, 0, 0)] := fq_of2 cd_529 ow_529 cl_529 rfl (pc := 285) (by decide +kernel)
    j_vret D rt_529
theorem m_529 (d : Nat) (x1 : Int) {h : fi_H} (H : Shp h) : fj_run (d + 1) 529 h [(4, 602), (0, x1)] =
  ca_ (fj_run d 499 h [(4, 602), (0, 72)]) 0
    (fun v2 h1 =>
    if v2 = 0 then
      ca_ (fj_run d 499 h1 [(4, 602), (0, 73)]) 0
        (fun v5 h4 =>
        if v5 = 0 then
          ca_ (fj_run d 499 h4 [(4, 602), (0, 74)]) 0
            (fun v8 h7 =>
            if v8 = 0 then
              c_529_33 d x1 602 0 h7
            else
              c_529_28 d x1 602 h7)
            (fun q9 h7 => tx_ q9 h7)
        else
          c_529_28 d x1 602 h4)
        (fun q6 h4 => tx_ q6 h4)
    else
      c_529_28 d x1 602 h1)
    (fun q3 h1 => tx_ q3 h1) := by
  rw [fj_run_eq d (by decide) h [(4, 602), (0, x1)] (Nat.le_of_ble_eq_true (by rw [nl_529]; rfl))]
  show gG (fj_run d) 529 0 [(0, (4, 602)), (1, (0, x1))] [] h = _
  exact
    have D : fk_D 529 [(0, none, .aload_n 0, 1, 0, 0, 0), (1, none, .aload_n 0, 1, 0, 0, 0), (2, none, .bipush 72, 2, 0, 72, 0), (4, none, .invokevirtual 570, 3, 1, 352, 1), (7, none, .ifCond .ne 21, 3, 28, 0, 0), (10, none, .aload_n 0, 1, 0, 0, 0), (11, none, .bipush 73, 2, 0, 73, 0), (13, none, .invokevirtual 570, 3, 1, 352, 1), (16, none, .ifCond .ne 12, 3, 28, 0, 0), (19, none, .aload_n 0, 1, 0, 0, 0), (20, none, .bipush 74, 2, 0, 74, 0), (22, none, .invokevirtual 570, 3, 1, 352, 1), (25, none, .ifCond .eq 7, 3, 32, 0, 0)] := fq_of2 cd_529 ow_529 cl_529 rfl (pc := 0) (by decide +kernel)
    j_aldn (pc := 0) D rfl rfl rfl fun D =>
    j_aldn (pc := 1) D rfl rfl rfl fun D =>
    j_bp (pc := 2) D rfl fun D =>
    j_iv (pc := 4) (m := 499) (dd := 352) (a := [(0, 72)]) (rest := [(4, 602)]) D rfl rfl rfl rfl rfl (by decide) (s0_602 H) (by decide +kernel) (fun v2 h1 e1 D =>
      have T := fj_run_ok _ _ _ _ _ _ H.1 e1
      have H := shp_st H T
      j_ifne (pc := 7) D rfl (fun q D =>
        j_aldn (pc := 10) D rfl rfl rfl fun D =>
        j_bp (pc := 11) D rfl fun D =>
        j_iv (pc := 13) (m := 499) (dd := 352) (a := [(0, 73)]) (rest := [(4, 602)]) D rfl rfl rfl rfl rfl (by decide) (s0_602 H) (by decide +kernel) (fun v5 h4 e1 D =>
          have T := fj_run_ok _ _ _ _ _ _ H.1 e1
          have H := shp_st H T
          j_ifne (pc := 16) D rfl (fun q D =>
            j_aldn (pc := 19) D rfl rfl rfl fun D =>
            j_bp (pc := 20) D rfl fun D =>
            j_iv (pc := 22) (m := 499) (dd := 352) (a := [(0, 74)]) (rest := [(4, 602)]) D rfl rfl rfl rfl rfl (by decide) (s0_602 H) (by decide +kernel) (fun v8 h7 e1 D =>
              have T := fj_run_ok _ _ _ _ _ _ H.1 e1
              have H := shp_st H T
              j_ifeq (pc := 25) D rfl (fun q =>
                have D : fk_D 529 [(32, none, .iconst 0, 1, 0, 0, 0)] := fq_of2 cd_529 ow_529 cl_529 rfl (pc := 32) (by decide +kernel)
                j_ic (pc := 32) D rfl fun D =>
                fk_jump cut_529_33 rfl rfl) (fun q D =>
                fk_jump cut_529_28 rfl rfl)) (fun q9 h7 e1 =>
              j_tx (hx_529 _))) (fun q =>
            fk_jump cut_529_28 rfl rfl)) (fun q6 h4 e1 =>
          j_tx (hx_529 _))) (fun q =>
        fk_jump cut_529_28 rfl rfl)) (fun q3 h1 e1 =>
      j_tx (hx_529 _))
/-! 530 StatuteHouseModel.readRule(II)I -/
theorem cd_530 : fi_code 530 = prog_69_method_85_code := rfl
theorem hx_530 : ∀ pc, fi_hat 530 pc = none := fun pc => by unfold fi_hat; rw [show fi_hh 530 = [] from rfl]; rfl
theorem rt_530 : fi_ret 530 = some .int := rfl
theorem nl_530 : fi_nl 530 = 7 := rfl
theorem ow_530 : fi_ow 530 = 29 := rfl
theorem cl_530 : fj_cutT.getD 530 [] = [(154, [0, 1, 3, 4]), (168, [0, 1, 3, 4]), (204, [0, 1, 3, 4, 5]), (205, [0, 1, 3, 4, 5]), (224, [0, 3, 5]), (285, [0, 3, 6]), (343, [0, 3, 6]), (349, [0, 3])] := rfl
theorem cut_530_154 : fj_cut 530 154 = some [0, 1, 3, 4] := by decide +kernel
noncomputable def c_530_154 (d : Nat) (x1 x3 x4 : Int) (h : fi_H) : fk_R := gG (fj_run d) 530 154 [(0, (4, 602)), (1, (0, x1)), (3, (0, x3)), (4, (0, x4))] [] h
theorem cut_530_168 : fj_cut 530 168 = some [0, 1, 3, 4] := by decide +kernel
noncomputable def c_530_168 (d : Nat) (x1 x3 x4 s0 s1 : Int) (h : fi_H) : fk_R := gG (fj_run d) 530 168 [(0, (4, 602)), (1, (0, x1)), (3, (0, x3)), (4, (0, x4))] [(0, s1), (4, s0)] h
theorem cut_530_204 : fj_cut 530 204 = some [0, 1, 3, 4, 5] := by decide +kernel
noncomputable def c_530_204 (d : Nat) (x1 x3 x4 x5 s0 : Int) (h : fi_H) : fk_R := gG (fj_run d) 530 204 [(0, (4, 602)), (1, (0, x1)), (3, (0, x3)), (4, (0, x4)), (5, (0, x5))] [(4, s0)] h
theorem cut_530_205 : fj_cut 530 205 = some [0, 1, 3, 4, 5] := by decide +kernel
noncomputable def c_530_205 (d : Nat) (x1 x3 x4 x5 s0 s1 : Int) (h : fi_H) : fk_R := gG (fj_run d) 530 205 [(0, (4, 602)), (1, (0, x1)), (3, (0, x3)), (4, (0, x4)), (5, (0, x5))] [(0, s1), (4, s0)] h
theorem cut_530_224 : fj_cut 530 224 = some [0, 3, 5] := by decide +kernel
noncomputable def c_530_224 (d : Nat) (x3 x5 : Int) (h : fi_H) : fk_R := gG (fj_run d) 530 224 [(0, (4, 602)), (3, (0, x3)), (5, (0, x5))] [] h
theorem cut_530_285 : fj_cut 530 285 = some [0, 3, 6] := by decide +kernel
noncomputable def c_530_285 (d : Nat) (x3 x6 s0 s1 : Int) (h : fi_H) : fk_R := gG (fj_run d) 530 285 [(0, (4, 602)), (3, (0, x3)), (6, (0, x6))] [(0, s1), (4, s0)] h
theorem cut_530_343 : fj_cut 530 343 = some [0, 3, 6] := by decide +kernel
noncomputable def c_530_343 (d : Nat) (x3 x6 s0 s1 : Int) (h : fi_H) : fk_R := gG (fj_run d) 530 343 [(0, (4, 602)), (3, (0, x3)), (6, (0, x6))] [(0, s1), (4, s0)] h
theorem cut_530_349 : fj_cut 530 349 = some [0, 3] := by decide +kernel
noncomputable def c_530_349 (d : Nat) (x3 : Int) (h : fi_H) : fk_R := gG (fj_run d) 530 349 [(0, (4, 602)), (3, (0, x3))] [] h
theorem e_530_154 (d : Nat) (x1 x3 x4 : Int) {h : fi_H} (H : Shp h) : c_530_154 d x1 x3 x4 h =
  if h 394 602 0 = 1 then
    c_530_168 d x1 x3 x4 602 1 h
  else
    c_530_168 d x1 x3 x4 602 0 h := by
  unfold c_530_154
  exact
    have D : fk_D 530 [(154, some [0, 1, 3, 4], .aload_n 0, 1, 0, 0, 0), (155, none, .aload_n 0, 1, 0, 0, 0), (156, none, .getfield 513, 3, 394, 129, 10), (159, none, .iconst 1, 1, 0, 1, 0), (160, none, .if_icmp .ne 7, 3, 167, 0, 0), (163, none, .iconst 1, 1, 0, 1, 0), (164, none, .goto 4, 3, 168, 0, 0)] := fq_of2 cd_530 ow_530 cl_530 rfl (pc := 154) (by decide +kernel)
    j_aldn (pc := 154) D rfl rfl rfl fun D =>
    j_aldn (pc := 155) D rfl rfl rfl fun D =>
    j_gf (pc := 156) (a := 602) D rfl rfl (by decide) rfl (s0_602 H) rfl fun D =>
    j_ic (pc := 159) D rfl fun D =>
    j_ine (pc := 160) D rfl (fun q D =>
      j_ic (pc := 163) D rfl fun D =>
      j_goto (pc := 164) D rfl <|
      fk_jump cut_530_168 rfl rfl) (fun q =>
      have D : fk_D 530 [(167, none, .iconst 0, 1, 0, 0, 0)] := fq_of2 cd_530 ow_530 cl_530 rfl (pc := 167) (by decide +kernel)
      j_ic (pc := 167) D rfl fun D =>
      fk_jump cut_530_168 rfl rfl)
theorem e_530_168 (d : Nat) (x1 x3 x4 s0 s1 : Int) {h : fi_H} (H : Shp h) : c_530_168 d x1 x3 x4 s0 s1 h =
  dv_ (fi_vt 348 (h 0 s0.toNat 0)) fun m4 => cv_ (fj_run d m4 h [(4, s0), (0, s1), (0, 1), (0, h 396 602 0)])
    (fun h1 =>
    ca_ (fj_run d 504 h1 [(4, 602)]) 0
      (fun v6 h5 =>
      if v6 = (-1) then
        c_530_204 d x1 x3 x4 v6 602 h5
      else
        if 0 ≤ v6 ∧ v6 < 41 then
        if h5 10 610 v6.toNat = 1 then
          c_530_205 d x1 x3 x4 v6 602 1 h5
        else
          c_530_204 d x1 x3 x4 v6 602 h5
        else none)
      (fun q7 h5 => tx_ q7 h5))
    (fun q3 h1 => tx_ q3 h1) := by
  unfold c_530_168
  exact
    have D : fk_D 530 [(168, some [0, 1, 3, 4], .iconst 1, 1, 0, 1, 0), (169, none, .aload_n 0, 1, 0, 0, 0), (170, none, .getfield 507, 3, 396, 129, 10), (173, none, .invokevirtual 557, 3, 3, 348, 0), (176, none, .aload_n 0, 1, 0, 0, 0), (177, none, .invokevirtual 621, 3, 0, 355, 1), (180, none, .istore 5, 2, 0, 0, 0), (182, none, .aload_n 0, 1, 0, 0, 0), (183, none, .iload 5, 2, 0, 0, 0), (185, none, .iconst (-1), 1, 0, (-1), 0), (186, none, .if_icmp .eq 18, 3, 204, 0, 0), (189, none, .aload_n 0, 1, 0, 0, 0), (190, none, .getfield 40, 3, 406, 129, 12), (193, none, .iload 5, 2, 0, 0, 0), (195, none, .iaload, 1, 0, 0, 0), (196, none, .iconst 1, 1, 0, 1, 0), (197, none, .if_icmp .ne 7, 3, 204, 0, 0), (200, none, .iconst 1, 1, 0, 1, 0), (201, none, .goto 4, 3, 205, 0, 0)] := fq_of2 cd_530 ow_530 cl_530 rfl (pc := 168) (by decide +kernel)
    j_ic (pc := 168) D rfl fun D =>
    j_aldn (pc := 169) D rfl rfl rfl fun D =>
    j_gf (pc := 170) (a := 602) D rfl rfl (by decide) rfl (s0_602 H) rfl fun D =>
    j_ivuv (pc := 173) (dd := 348) (a := [(0, s1), (0, 1), (0, h 396 602 0)]) (rest := []) H.2.1 D rfl rfl rfl rfl rfl (fun m4 h1 e1 D =>
      have T := fj_run_ok _ _ _ _ _ _ H.1 e1
      have H := shp_st H T
      j_aldn (pc := 176) D rfl rfl rfl fun D =>
      j_iv (pc := 177) (m := 504) (dd := 355) (a := []) (rest := []) D rfl rfl rfl rfl rfl (by decide) (s0_602 H) (by decide +kernel) (fun v6 h5 e1 D =>
        have T := fj_run_ok _ _ _ _ _ _ H.1 e1
        have H := shp_st H T
        j_ist (pc := 180) (L' := [(5, (0, v6)), (0, (4, 602)), (1, (0, x1)), (3, (0, x3)), (4, (0, x4))]) D rfl nl_530 rfl rfl fun D =>
        j_aldn (pc := 182) D rfl rfl rfl fun D =>
        j_ild (pc := 183) D rfl rfl rfl fun D =>
        j_ic (pc := 185) D rfl fun D =>
        j_ieq (pc := 186) D rfl (fun q =>
          fk_jump cut_530_204 rfl rfl) (fun q D =>
          j_aldn (pc := 189) D rfl rfl rfl fun D =>
          j_gfc (pc := 190) (a := 602) D rfl rfl (by decide) rfl (s0_602 H) rfl (sf_406_602 H) fun D =>
          j_ild (pc := 193) D rfl rfl rfl fun D =>
          j_al (pc := 195) (a := 610) (e := 10) D rfl rfl rfl (by decide) (s0_610 H) (s1_610 H) ⟨rfl, rfl, rfl⟩ rfl gn fun qb8 D =>
          j_ic (pc := 196) D rfl fun D =>
          j_ine (pc := 197) D rfl (fun q D =>
            j_ic (pc := 200) D rfl fun D =>
            j_goto (pc := 201) D rfl <|
            fk_jump cut_530_205 rfl rfl) (fun q =>
            fk_jump cut_530_204 rfl rfl))) (fun q7 h5 e1 =>
        j_tx (hx_530 _))) (fun m4 q3 h1 e1 =>
      j_tx (hx_530 _))
theorem e_530_204 (d : Nat) (x1 x3 x4 x5 s0 : Int) {h : fi_H} (H : Shp h) : c_530_204 d x1 x3 x4 x5 s0 h =
  c_530_205 d x1 x3 x4 x5 s0 0 h := by
  unfold c_530_204
  exact
    have D : fk_D 530 [(204, some [0, 1, 3, 4, 5], .iconst 0, 1, 0, 0, 0)] := fq_of2 cd_530 ow_530 cl_530 rfl (pc := 204) (by decide +kernel)
    j_ic (pc := 204) D rfl fun D =>
    fk_jump cut_530_205 rfl rfl
theorem e_530_205 (d : Nat) (x1 x3 x4 x5 s0 s1 : Int) {h : fi_H} (H : Shp h) : c_530_205 d x1 x3 x4 x5 s0 s1 h =
  dv_ (fi_vt 348 (h 0 s0.toNat 0)) fun m4 => cv_ (fj_run d m4 h [(4, s0), (0, s1), (0, 2), (0, h 396 602 0)])
    (fun h1 =>
    if x4 = 0 then
      cv_ (fj_run d 531 h1 [(4, 602), (0, x1), (0, 1)])
        (fun h5 =>
        c_530_224 d x3 x5 h5)
        (fun q7 h5 => tx_ q7 h5)
    else
      c_530_224 d x3 x5 h1)
    (fun q3 h1 => tx_ q3 h1) := by
  unfold c_530_205
  exact
    have D : fk_D 530 [(205, some [0, 1, 3, 4, 5], .iconst 2, 1, 0, 2, 0), (206, none, .aload_n 0, 1, 0, 0, 0), (207, none, .getfield 507, 3, 396, 129, 10), (210, none, .invokevirtual 557, 3, 3, 348, 0), (213, none, .iload 4, 2, 0, 0, 0), (215, none, .ifCond .ne 9, 3, 224, 0, 0), (218, none, .aload_n 0, 1, 0, 0, 0), (219, none, .iload_n 1, 1, 0, 0, 0), (220, none, .iconst 1, 1, 0, 1, 0), (221, none, .invokevirtual 808, 3, 2, 396, 0)] := fq_of2 cd_530 ow_530 cl_530 rfl (pc := 205) (by decide +kernel)
    j_ic (pc := 205) D rfl fun D =>
    j_aldn (pc := 206) D rfl rfl rfl fun D =>
    j_gf (pc := 207) (a := 602) D rfl rfl (by decide) rfl (s0_602 H) rfl fun D =>
    j_ivuv (pc := 210) (dd := 348) (a := [(0, s1), (0, 2), (0, h 396 602 0)]) (rest := []) H.2.1 D rfl rfl rfl rfl rfl (fun m4 h1 e1 D =>
      have T := fj_run_ok _ _ _ _ _ _ H.1 e1
      have H := shp_st H T
      j_ild (pc := 213) D rfl rfl rfl fun D =>
      j_ifne (pc := 215) D rfl (fun q D =>
        j_aldn (pc := 218) D rfl rfl rfl fun D =>
        j_ildn (pc := 219) D rfl rfl rfl fun D =>
        j_ic (pc := 220) D rfl fun D =>
        j_ivv (pc := 221) (m := 531) (dd := 396) (a := [(0, x1), (0, 1)]) (rest := []) D rfl rfl rfl rfl rfl (by decide) (s0_602 H) (by decide +kernel) (fun h5 e1 D =>
          have T := fj_run_ok _ _ _ _ _ _ H.1 e1
          have H := shp_st H T
          fk_jump cut_530_224 rfl rfl) (fun q7 h5 e1 =>
          j_tx (hx_530 _))) (fun q =>
        fk_jump cut_530_224 rfl rfl)) (fun m4 q3 h1 e1 =>
      j_tx (hx_530 _))
theorem e_530_224 (d : Nat) (x3 x5 : Int) {h : fi_H} (H : Shp h) : c_530_224 d x3 x5 h =
  if 0 ≤ x3 ∧ x3 < 560 then
  lt_ (fi_upd h 10 625 x3.toNat x5) fun h1 =>
  cv_ (fj_run d 502 h1 [(4, 602)])
    (fun h3 =>
    cv_ (fj_run d 523 h3 [(4, 602), (0, 23)])
      (fun h6 =>
      ca_ (fj_run d 535 h6 [(4, 602)]) 0
        (fun v10 h9 =>
        lt_ (fi_upd h9 10 626 x3.toNat v10) fun h12 =>
        if 0 ≤ h12 10 626 x3.toNat ∧ h12 10 626 x3.toNat < 9300 then
        if 0 ≤ x5 ∧ x5 < 41 then
        if h12 10 618 (h12 10 626 x3.toNat).toNat = h12 10 611 x5.toNat then
          c_530_285 d x3 (h6 396 602 0) 602 1 h12
        else
          c_530_285 d x3 (h6 396 602 0) 602 0 h12
        else none
        else none)
        (fun q11 h9 => tx_ q11 h9))
      (fun q8 h6 => tx_ q8 h6))
    (fun q5 h3 => tx_ q5 h3)
  else none := by
  unfold c_530_224
  exact
    have D : fk_D 530 [(224, some [0, 3, 5], .aload_n 0, 1, 0, 0, 0), (225, none, .getfield 86, 3, 428, 129, 12), (228, none, .iload_n 3, 1, 0, 0, 0), (229, none, .iload 5, 2, 0, 0, 0), (231, none, .iastore, 1, 0, 0, 0), (232, none, .aload_n 0, 1, 0, 0, 0), (233, none, .invokevirtual 567, 3, 0, 351, 0), (236, none, .aload_n 0, 1, 0, 0, 0), (237, none, .bipush 23, 2, 0, 23, 0), (239, none, .invokevirtual 661, 3, 1, 365, 0), (242, none, .aload_n 0, 1, 0, 0, 0), (243, none, .getfield 507, 3, 396, 129, 10), (246, none, .istore 6, 2, 0, 0, 0), (248, none, .aload_n 0, 1, 0, 0, 0), (249, none, .getfield 89, 3, 429, 129, 12), (252, none, .iload_n 3, 1, 0, 0, 0), (253, none, .aload_n 0, 1, 0, 0, 0), (254, none, .invokevirtual 731, 3, 0, 383, 1), (257, none, .iastore, 1, 0, 0, 0), (258, none, .aload_n 0, 1, 0, 0, 0)] := fq_of2 cd_530 ow_530 cl_530 rfl (pc := 224) (by decide +kernel)
    j_aldn (pc := 224) D rfl rfl rfl fun D =>
    j_gfc (pc := 225) (a := 602) D rfl rfl (by decide) rfl (s0_602 H) rfl (sf_428_602 H) fun D =>
    j_ildn (pc := 228) D rfl rfl rfl fun D =>
    j_ild (pc := 229) D rfl rfl rfl fun D =>
    j_as (pc := 231) (a := 625) (e := 10) D rfl ⟨rfl, rfl⟩ rfl (by decide) (s0_625 H) (s1_625 H) ⟨rfl, rfl, rfl⟩ rfl gn (gy rfl) fun h1 eh1 S qb2 D =>
    have T := fj_hs_ok H.1 S
    have H := shp_st H T
    j_aldn (pc := 232) D rfl rfl rfl fun D =>
    j_ivv (pc := 233) (m := 502) (dd := 351) (a := []) (rest := []) D rfl rfl rfl rfl rfl (by decide) (s0_602 H) (by decide +kernel) (fun h3 e1 D =>
      have T := fj_run_ok _ _ _ _ _ _ H.1 e1
      have H := shp_st H T
      j_aldn (pc := 236) D rfl rfl rfl fun D =>
      j_bp (pc := 237) D rfl fun D =>
      j_ivv (pc := 239) (m := 523) (dd := 365) (a := [(0, 23)]) (rest := []) D rfl rfl rfl rfl rfl (by decide) (s0_602 H) (by decide +kernel) (fun h6 e1 D =>
        have T := fj_run_ok _ _ _ _ _ _ H.1 e1
        have H := shp_st H T
        j_aldn (pc := 242) D rfl rfl rfl fun D =>
        j_gf (pc := 243) (a := 602) D rfl rfl (by decide) rfl (s0_602 H) rfl fun D =>
        j_ist (pc := 246) (L' := [(6, (0, h6 396 602 0)), (0, (4, 602)), (3, (0, x3)), (5, (0, x5))]) D rfl nl_530 rfl rfl fun D =>
        j_aldn (pc := 248) D rfl rfl rfl fun D =>
        j_gfc (pc := 249) (a := 602) D rfl rfl (by decide) rfl (s0_602 H) rfl (sf_429_602 H) fun D =>
        j_ildn (pc := 252) D rfl rfl rfl fun D =>
        j_aldn (pc := 253) D rfl rfl rfl fun D =>
        j_iv (pc := 254) (m := 535) (dd := 383) (a := []) (rest := [(0, x3), (4, 626)]) D rfl rfl rfl rfl rfl (by decide) (s0_602 H) (by decide +kernel) (fun v10 h9 e1 D =>
          have T := fj_run_ok _ _ _ _ _ _ H.1 e1
          have H := shp_st H T
          j_as (pc := 257) (a := 626) (e := 10) D rfl ⟨rfl, rfl⟩ rfl (by decide) (s0_626 H) (s1_626 H) ⟨rfl, rfl, rfl⟩ rfl (gy qb2) (gy rfl) fun h12 eh12 S q D =>
          have T := fj_hs_ok H.1 S
          have H := shp_st H T
          j_aldn (pc := 258) D rfl rfl rfl fun D =>
          have D : fk_D 530 [(259, none, .aload_n 0, 1, 0, 0, 0), (260, none, .getfield 65, 3, 419, 129, 12), (263, none, .aload_n 0, 1, 0, 0, 0), (264, none, .getfield 89, 3, 429, 129, 12), (267, none, .iload_n 3, 1, 0, 0, 0), (268, none, .iaload, 1, 0, 0, 0), (269, none, .iaload, 1, 0, 0, 0), (270, none, .aload_n 0, 1, 0, 0, 0), (271, none, .getfield 43, 3, 407, 129, 12), (274, none, .iload 5, 2, 0, 0, 0), (276, none, .iaload, 1, 0, 0, 0), (277, none, .if_icmp .ne 7, 3, 284, 0, 0), (280, none, .iconst 1, 1, 0, 1, 0), (281, none, .goto 4, 3, 285, 0, 0)] := fq_of2 cd_530 ow_530 cl_530 rfl (pc := 259) (by decide +kernel)
          j_aldn (pc := 259) D rfl rfl rfl fun D =>
          j_gfc (pc := 260) (a := 602) D rfl rfl (by decide) rfl (s0_602 H) rfl (sf_419_602 H) fun D =>
          j_aldn (pc := 263) D rfl rfl rfl fun D =>
          j_gfc (pc := 264) (a := 602) D rfl rfl (by decide) rfl (s0_602 H) rfl (sf_429_602 H) fun D =>
          j_ildn (pc := 267) D rfl rfl rfl fun D =>
          j_al (pc := 268) (a := 626) (e := 10) D rfl rfl rfl (by decide) (s0_626 H) (s1_626 H) ⟨rfl, rfl, rfl⟩ rfl (gy qb2) fun q D =>
          j_al (pc := 269) (a := 618) (e := 10) D rfl rfl rfl (by decide) (s0_618 H) (s1_618 H) ⟨rfl, rfl, rfl⟩ rfl gn fun qb13 D =>
          j_aldn (pc := 270) D rfl rfl rfl fun D =>
          j_gfc (pc := 271) (a := 602) D rfl rfl (by decide) rfl (s0_602 H) rfl (sf_407_602 H) fun D =>
          j_ild (pc := 274) D rfl rfl rfl fun D =>
          j_al (pc := 276) (a := 611) (e := 10) D rfl rfl rfl (by decide) (s0_611 H) (s1_611 H) ⟨rfl, rfl, rfl⟩ rfl gn fun qb14 D =>
          j_ine (pc := 277) D rfl (fun q D =>
            j_ic (pc := 280) D rfl fun D =>
            j_goto (pc := 281) D rfl <|
            fk_jump cut_530_285 rfl rfl) (fun q =>
            have D : fk_D 530 [(284, none, .iconst 0, 1, 0, 0, 0)] := fq_of2 cd_530 ow_530 cl_530 rfl (pc := 284) (by decide +kernel)
            j_ic (pc := 284) D rfl fun D =>
            fk_jump cut_530_285 rfl rfl)) (fun q11 h9 e1 =>
          j_tx (hx_530 _))) (fun q8 h6 e1 =>
        j_tx (hx_530 _))) (fun q5 h3 e1 =>
      j_tx (hx_530 _))
theorem e_530_285 (d : Nat) (x3 x6 s0 s1 : Int) {h : fi_H} (H : Shp h) : c_530_285 d x3 x6 s0 s1 h =
  dv_ (fi_vt 348 (h 0 s0.toNat 0)) fun m4 => cv_ (fj_run d m4 h [(4, s0), (0, s1), (0, 5), (0, x6)])
    (fun h1 =>
    if 0 ≤ x3 ∧ x3 < 560 then
    lt_ (fi_upd h1 10 627 x3.toNat (-1)) fun h5 =>
    ca_ (fj_run d 511 h5 [(4, 602), (0, 24)]) 0
      (fun v8 h7 =>
      if v8 = 0 then
        c_530_349 d x3 h7
      else
        ca_ (fj_run d 535 h7 [(4, 602)]) 0
          (fun v11 h10 =>
          lt_ (fi_upd h10 10 627 x3.toNat v11) fun h13 =>
          if 0 ≤ h13 10 627 x3.toNat ∧ h13 10 627 x3.toNat < 9300 then
          if h13 10 618 (h13 10 627 x3.toNat).toNat = 0 then
            c_530_343 d x3 (h7 396 602 0) 602 1 h13
          else
            c_530_343 d x3 (h7 396 602 0) 602 0 h13
          else none)
          (fun q12 h10 => tx_ q12 h10))
      (fun q9 h7 => tx_ q9 h7)
    else none)
    (fun q3 h1 => tx_ q3 h1) := by
  unfold c_530_285
  exact
    have D : fk_D 530 [(285, some [0, 3, 6], .iconst 5, 1, 0, 5, 0), (286, none, .iload 6, 2, 0, 0, 0), (288, none, .invokevirtual 557, 3, 3, 348, 0), (291, none, .aload_n 0, 1, 0, 0, 0), (292, none, .getfield 92, 3, 430, 129, 12), (295, none, .iload_n 3, 1, 0, 0, 0), (296, none, .iconst (-1), 1, 0, (-1), 0), (297, none, .iastore, 1, 0, 0, 0), (298, none, .aload_n 0, 1, 0, 0, 0), (299, none, .bipush 24, 2, 0, 24, 0), (301, none, .invokevirtual 643, 3, 1, 361, 1), (304, none, .ifCond .eq 45, 3, 349, 0, 0), (307, none, .aload_n 0, 1, 0, 0, 0), (308, none, .getfield 507, 3, 396, 129, 10), (311, none, .istore 6, 2, 0, 0, 0), (313, none, .aload_n 0, 1, 0, 0, 0), (314, none, .getfield 92, 3, 430, 129, 12), (317, none, .iload_n 3, 1, 0, 0, 0), (318, none, .aload_n 0, 1, 0, 0, 0), (319, none, .invokevirtual 731, 3, 0, 383, 1)] := fq_of2 cd_530 ow_530 cl_530 rfl (pc := 285) (by decide +kernel)
    j_ic (pc := 285) D rfl fun D =>
    j_ild (pc := 286) D rfl rfl rfl fun D =>
    j_ivuv (pc := 288) (dd := 348) (a := [(0, s1), (0, 5), (0, x6)]) (rest := []) H.2.1 D rfl rfl rfl rfl rfl (fun m4 h1 e1 D =>
      have T := fj_run_ok _ _ _ _ _ _ H.1 e1
      have H := shp_st H T
      j_aldn (pc := 291) D rfl rfl rfl fun D =>
      j_gfc (pc := 292) (a := 602) D rfl rfl (by decide) rfl (s0_602 H) rfl (sf_430_602 H) fun D =>
      j_ildn (pc := 295) D rfl rfl rfl fun D =>
      j_ic (pc := 296) D rfl fun D =>
      j_as (pc := 297) (a := 627) (e := 10) D rfl ⟨rfl, rfl⟩ rfl (by decide) (s0_627 H) (s1_627 H) ⟨rfl, rfl, rfl⟩ rfl gn (gy rfl) fun h5 eh5 S qb6 D =>
      have T := fj_hs_ok H.1 S
      have H := shp_st H T
      j_aldn (pc := 298) D rfl rfl rfl fun D =>
      j_bp (pc := 299) D rfl fun D =>
      j_iv (pc := 301) (m := 511) (dd := 361) (a := [(0, 24)]) (rest := []) D rfl rfl rfl rfl rfl (by decide) (s0_602 H) (by decide +kernel) (fun v8 h7 e1 D =>
        have T := fj_run_ok _ _ _ _ _ _ H.1 e1
        have H := shp_st H T
        j_ifeq (pc := 304) D rfl (fun q =>
          fk_jump cut_530_349 rfl rfl) (fun q D =>
          j_aldn (pc := 307) D rfl rfl rfl fun D =>
          j_gf (pc := 308) (a := 602) D rfl rfl (by decide) rfl (s0_602 H) rfl fun D =>
          j_ist (pc := 311) (L' := [(6, (0, h7 396 602 0)), (0, (4, 602)), (3, (0, x3))]) D rfl nl_530 rfl rfl fun D =>
          j_aldn (pc := 313) D rfl rfl rfl fun D =>
          j_gfc (pc := 314) (a := 602) D rfl rfl (by decide) rfl (s0_602 H) rfl (sf_430_602 H) fun D =>
          j_ildn (pc := 317) D rfl rfl rfl fun D =>
          j_aldn (pc := 318) D rfl rfl rfl fun D =>
          j_iv (pc := 319) (m := 535) (dd := 383) (a := []) (rest := [(0, x3), (4, 627)]) D rfl rfl rfl rfl rfl (by decide) (s0_602 H) (by decide +kernel) (fun v11 h10 e1 D =>
            have T := fj_run_ok _ _ _ _ _ _ H.1 e1
            have H := shp_st H T
            have D : fk_D 530 [(322, none, .iastore, 1, 0, 0, 0), (323, none, .aload_n 0, 1, 0, 0, 0), (324, none, .aload_n 0, 1, 0, 0, 0), (325, none, .getfield 65, 3, 419, 129, 12), (328, none, .aload_n 0, 1, 0, 0, 0), (329, none, .getfield 92, 3, 430, 129, 12), (332, none, .iload_n 3, 1, 0, 0, 0), (333, none, .iaload, 1, 0, 0, 0), (334, none, .iaload, 1, 0, 0, 0), (335, none, .ifCond .ne 7, 3, 342, 0, 0), (338, none, .iconst 1, 1, 0, 1, 0), (339, none, .goto 4, 3, 343, 0, 0)] := fq_of2 cd_530 ow_530 cl_530 rfl (pc := 322) (by decide +kernel)
            j_as (pc := 322) (a := 627) (e := 10) D rfl ⟨rfl, rfl⟩ rfl (by decide) (s0_627 H) (s1_627 H) ⟨rfl, rfl, rfl⟩ rfl (gy qb6) (gy rfl) fun h13 eh13 S q D =>
            have T := fj_hs_ok H.1 S
            have H := shp_st H T
            j_aldn (pc := 323) D rfl rfl rfl fun D =>
            j_aldn (pc := 324) D rfl rfl rfl fun D =>
            j_gfc (pc := 325) (a := 602) D rfl rfl (by decide) rfl (s0_602 H) rfl (sf_419_602 H) fun D =>
            j_aldn (pc := 328) D rfl rfl rfl fun D =>
            j_gfc (pc := 329) (a := 602) D rfl rfl (by decide) rfl (s0_602 H) rfl (sf_430_602 H) fun D =>
            j_ildn (pc := 332) D rfl rfl rfl fun D =>
            j_al (pc := 333) (a := 627) (e := 10) D rfl rfl rfl (by decide) (s0_627 H) (s1_627 H) ⟨rfl, rfl, rfl⟩ rfl (gy qb6) fun q D =>
            j_al (pc := 334) (a := 618) (e := 10) D rfl rfl rfl (by decide) (s0_618 H) (s1_618 H) ⟨rfl, rfl, rfl⟩ rfl gn fun qb14 D =>
            j_ifne (pc := 335) D rfl (fun q D =>
              j_ic (pc := 338) D rfl fun D =>
              j_goto (pc := 339) D rfl <|
              fk_jump cut_530_343 rfl rfl) (fun q =>
              have D : fk_D 530 [(342, none, .iconst 0, 1, 0, 0, 0)] := fq_of2 cd_530 ow_530 cl_530 rfl (pc := 342) (by decide +kernel)
              j_ic (pc := 342) D rfl fun D =>
              fk_jump cut_530_343 rfl rfl)) (fun q12 h10 e1 =>
            j_tx (hx_530 _)))) (fun q9 h7 e1 =>
        j_tx (hx_530 _))) (fun m4 q3 h1 e1 =>
      j_tx (hx_530 _))
theorem e_530_343 (d : Nat) (x3 x6 s0 s1 : Int) {h : fi_H} (H : Shp h) : c_530_343 d x3 x6 s0 s1 h =
  dv_ (fi_vt 348 (h 0 s0.toNat 0)) fun m4 => cv_ (fj_run d m4 h [(4, s0), (0, s1), (0, 5), (0, x6)])
    (fun h1 =>
    c_530_349 d x3 h1)
    (fun q3 h1 => tx_ q3 h1) := by
  unfold c_530_343
  exact
    have D : fk_D 530 [(343, some [0, 3, 6], .iconst 5, 1, 0, 5, 0), (344, none, .iload 6, 2, 0, 0, 0), (346, none, .invokevirtual 557, 3, 3, 348, 0)] := fq_of2 cd_530 ow_530 cl_530 rfl (pc := 343) (by decide +kernel)
    j_ic (pc := 343) D rfl fun D =>
    j_ild (pc := 344) D rfl rfl rfl fun D =>
    j_ivuv (pc := 346) (dd := 348) (a := [(0, s1), (0, 5), (0, x6)]) (rest := []) H.2.1 D rfl rfl rfl rfl rfl (fun m4 h1 e1 D =>
      have T := fj_run_ok _ _ _ _ _ _ H.1 e1
      have H := shp_st H T
      fk_jump cut_530_349 rfl rfl) (fun m4 q3 h1 e1 =>
      j_tx (hx_530 _))
theorem e_530_349 (d : Nat) (x3 : Int) {h : fi_H} (H : Shp h) : c_530_349 d x3 h =
  cv_ (fj_run d 505 h [(4, 602), (0, 59)])
    (fun h1 =>
    lt_ (fi_upd h1 434 602 0 (wI ((h1 434 602 0) + 1))) fun h4 =>
    some (.inl (some (0, x3)), h4))
    (fun q3 h1 => tx_ q3 h1) := by
  unfold c_530_349
  exact
    have D : fk_D 530 [(349, some [0, 3], .aload_n 0, 1, 0, 0, 0), (350, none, .bipush 59, 2, 0, 59, 0), (352, none, .invokevirtual 624, 3, 1, 356, 0), (355, none, .aload_n 0, 1, 0, 0, 0), (356, none, .dup, 1, 0, 0, 0), (357, none, .getfield 805, 3, 434, 129, 10), (360, none, .iconst 1, 1, 0, 1, 0), (361, none, .iadd, 1, 0, 0, 0), (362, none, .putfield 805, 3, 434, 129, 10), (365, none, .iload_n 3, 1, 0, 0, 0), (366, none, .ireturn, 1, 0, 0, 0)] := fq_of2 cd_530 ow_530 cl_530 rfl (pc := 349) (by decide +kernel)
    j_aldn (pc := 349) D rfl rfl rfl fun D =>
    j_bp (pc := 350) D rfl fun D =>
    j_ivv (pc := 352) (m := 505) (dd := 356) (a := [(0, 59)]) (rest := []) D rfl rfl rfl rfl rfl (by decide) (s0_602 H) (by decide +kernel) (fun h1 e1 D =>
      have T := fj_run_ok _ _ _ _ _ _ H.1 e1
      have H := shp_st H T
      j_aldn (pc := 355) D rfl rfl rfl fun D =>
      j_sh (pc := 356) D rfl rfl rfl fun D =>
      j_gf (pc := 357) (a := 602) D rfl rfl (by decide) rfl (s0_602 H) rfl fun D =>
      j_ic (pc := 360) D rfl fun D =>
      j_iadd (pc := 361) D rfl fun D =>
      j_pf (pc := 362) (a := 602) D rfl rfl rfl (s0_602 H) rfl rfl (gy (by decide)) (gy rfl) fun h4 eh4 S D =>
      have T := fj_hs_ok H.1 S
      have H := shp_st H T
      j_ildn (pc := 365) D rfl rfl rfl fun D =>
      j_iret D rt_530) (fun q3 h1 e1 =>
      j_tx (hx_530 _))
theorem m_530 (d : Nat) (x1 x2 : Int) {h : fi_H} (H : Shp h) : fj_run (d + 1) 530 h [(4, 602), (0, x1), (0, x2)] =
  ca_ (fj_run d 499 h [(4, 602), (0, 75)]) 0
    (fun v2 h1 =>
    if v2 = 0 then
      if 0 ≤ h1 434 602 0 ∧ h1 434 602 0 < 560 then
      lt_ (fi_upd h1 10 628 (h1 434 602 0).toNat (-1)) fun h4 =>
      lt_ (fi_upd h4 10 629 (h1 434 602 0).toNat 0) fun h6 =>
      ca_ (fj_run d 499 h6 [(4, 602), (0, 70)]) 0
        (fun v8 h7 =>
        if fi_rg 4 v8 = true then
        lt_ (fi_upd h7 4 630 (h1 434 602 0).toNat v8) fun h10 =>
        if h10 4 630 (h1 434 602 0).toNat = 0 then
          ca_ (fj_run d 499 h10 [(4, 602), (0, 22)]) 0
            (fun v12 h11 =>
            if v12 = 0 then
              c_530_154 d x1 (h1 434 602 0) v12 h11
            else
              cv_ (fj_run d 531 h11 [(4, 602), (0, x1), (0, 1)])
                (fun h14 =>
                cv_ (fj_run d 502 h14 [(4, 602)])
                  (fun h17 =>
                  ca_ (fj_run d 527 h17 [(4, 602)]) 0
                    (fun v21 h20 =>
                    lt_ (fi_upd h20 10 628 (h1 434 602 0).toNat v21) fun h23 =>
                    cv_ (fj_run d 505 h23 [(4, 602), (0, 47)])
                      (fun h24 =>
                      ca_ (fj_run d 510 h24 [(4, 602), (1, 1), (1, 99)]) 1
                        (fun v28 h27 =>
                        lt_ (fi_upd h27 10 629 (h1 434 602 0).toNat (wI v28)) fun h30 =>
                        cv_ (fj_run d 505 h30 [(4, 602), (0, 58)])
                          (fun h31 =>
                          c_530_154 d x1 (h1 434 602 0) v12 h31)
                          (fun q33 h31 => tx_ q33 h31))
                        (fun q29 h27 => tx_ q29 h27))
                      (fun q26 h24 => tx_ q26 h24))
                    (fun q22 h20 => tx_ q22 h20))
                  (fun q19 h17 => tx_ q19 h17))
                (fun q16 h14 => tx_ q16 h14))
            (fun q13 h11 => tx_ q13 h11)
        else
          cv_ (fj_run d 531 h10 [(4, 602), (0, x1), (0, 1)])
            (fun h34 =>
            cv_ (fj_run d 502 h34 [(4, 602)])
              (fun h37 =>
              cv_ (fj_run d 532 h37 [(4, 602), (0, h1 434 602 0)])
                (fun h40 =>
                lt_ (fi_upd h40 434 602 0 (wI ((h40 434 602 0) + 1))) fun h43 =>
                some (.inl (some (0, h1 434 602 0)), h43))
                (fun q42 h40 => tx_ q42 h40))
              (fun q39 h37 => tx_ q39 h37))
            (fun q36 h34 => tx_ q36 h34)
        else none)
        (fun q9 h7 => tx_ q9 h7)
      else none
    else
      cv_ (fj_run d 531 h1 [(4, 602), (0, x1), (0, 0)])
        (fun h44 =>
        cv_ (fj_run d 502 h44 [(4, 602)])
          (fun h47 =>
          cv_ (fj_run d 505 h47 [(4, 602), (0, 59)])
            (fun h50 =>
            some (.inl (some (0, (-1))), h50))
            (fun q52 h50 => tx_ q52 h50))
          (fun q49 h47 => tx_ q49 h47))
        (fun q46 h44 => tx_ q46 h44))
    (fun q3 h1 => tx_ q3 h1) := by
  rw [fj_run_eq d (by decide) h [(4, 602), (0, x1), (0, x2)] (Nat.le_of_ble_eq_true (by rw [nl_530]; rfl))]
  show gG (fj_run d) 530 0 [(0, (4, 602)), (1, (0, x1)), (2, (0, x2))] [] h = _
  exact
    have D : fk_D 530 [(0, none, .aload_n 0, 1, 0, 0, 0), (1, none, .bipush 75, 2, 0, 75, 0), (3, none, .invokevirtual 570, 3, 1, 352, 1), (6, none, .ifCond .eq 21, 3, 27, 0, 0), (9, none, .aload_n 0, 1, 0, 0, 0), (10, none, .iload_n 1, 1, 0, 0, 0), (11, none, .iconst 0, 1, 0, 0, 0), (12, none, .invokevirtual 808, 3, 2, 396, 0), (15, none, .aload_n 0, 1, 0, 0, 0), (16, none, .invokevirtual 567, 3, 0, 351, 0), (19, none, .aload_n 0, 1, 0, 0, 0), (20, none, .bipush 59, 2, 0, 59, 0), (22, none, .invokevirtual 624, 3, 1, 356, 0), (25, none, .iconst (-1), 1, 0, (-1), 0), (26, none, .ireturn, 1, 0, 0, 0)] := fq_of2 cd_530 ow_530 cl_530 rfl (pc := 0) (by decide +kernel)
    j_aldn (pc := 0) D rfl rfl rfl fun D =>
    j_bp (pc := 1) D rfl fun D =>
    j_iv (pc := 3) (m := 499) (dd := 352) (a := [(0, 75)]) (rest := []) D rfl rfl rfl rfl rfl (by decide) (s0_602 H) (by decide +kernel) (fun v2 h1 e1 D =>
      have T := fj_run_ok _ _ _ _ _ _ H.1 e1
      have H := shp_st H T
      j_ifeq (pc := 6) D rfl (fun q =>
        have D : fk_D 530 [(27, none, .aload_n 0, 1, 0, 0, 0), (28, none, .getfield 805, 3, 434, 129, 10), (31, none, .istore_n 3, 1, 0, 0, 0), (32, none, .aload_n 0, 1, 0, 0, 0), (33, none, .getfield 95, 3, 431, 129, 12), (36, none, .iload_n 3, 1, 0, 0, 0), (37, none, .iconst (-1), 1, 0, (-1), 0), (38, none, .iastore, 1, 0, 0, 0), (39, none, .aload_n 0, 1, 0, 0, 0), (40, none, .getfield 98, 3, 432, 129, 12), (43, none, .iload_n 3, 1, 0, 0, 0), (44, none, .iconst 0, 1, 0, 0, 0), (45, none, .iastore, 1, 0, 0, 0), (46, none, .aload_n 0, 1, 0, 0, 0), (47, none, .getfield 101, 3, 433, 129, 12), (50, none, .iload_n 3, 1, 0, 0, 0), (51, none, .aload_n 0, 1, 0, 0, 0), (52, none, .bipush 70, 2, 0, 70, 0), (54, none, .invokevirtual 570, 3, 1, 352, 1), (57, none, .bastore, 1, 0, 0, 0)] := fq_of2 cd_530 ow_530 cl_530 rfl (pc := 27) (by decide +kernel)
        j_aldn (pc := 27) D rfl rfl rfl fun D =>
        j_gf (pc := 28) (a := 602) D rfl rfl (by decide) rfl (s0_602 H) rfl fun D =>
        j_istn (pc := 31) (L' := [(3, (0, h1 434 602 0)), (0, (4, 602)), (1, (0, x1)), (2, (0, x2))]) D rfl nl_530 rfl rfl fun D =>
        j_aldn (pc := 32) D rfl rfl rfl fun D =>
        j_gfc (pc := 33) (a := 602) D rfl rfl (by decide) rfl (s0_602 H) rfl (sf_431_602 H) fun D =>
        j_ildn (pc := 36) D rfl rfl rfl fun D =>
        j_ic (pc := 37) D rfl fun D =>
        j_as (pc := 38) (a := 628) (e := 10) D rfl ⟨rfl, rfl⟩ rfl (by decide) (s0_628 H) (s1_628 H) ⟨rfl, rfl, rfl⟩ rfl gn (gy rfl) fun h4 eh4 S qb5 D =>
        have T := fj_hs_ok H.1 S
        have H := shp_st H T
        j_aldn (pc := 39) D rfl rfl rfl fun D =>
        j_gfc (pc := 40) (a := 602) D rfl rfl (by decide) rfl (s0_602 H) rfl (sf_432_602 H) fun D =>
        j_ildn (pc := 43) D rfl rfl rfl fun D =>
        j_ic (pc := 44) D rfl fun D =>
        j_as (pc := 45) (a := 629) (e := 10) D rfl ⟨rfl, rfl⟩ rfl (by decide) (s0_629 H) (s1_629 H) ⟨rfl, rfl, rfl⟩ rfl (gy qb5) (gy rfl) fun h6 eh6 S q D =>
        have T := fj_hs_ok H.1 S
        have H := shp_st H T
        j_aldn (pc := 46) D rfl rfl rfl fun D =>
        j_gfc (pc := 47) (a := 602) D rfl rfl (by decide) rfl (s0_602 H) rfl (sf_433_602 H) fun D =>
        j_ildn (pc := 50) D rfl rfl rfl fun D =>
        j_aldn (pc := 51) D rfl rfl rfl fun D =>
        j_bp (pc := 52) D rfl fun D =>
        j_iv (pc := 54) (m := 499) (dd := 352) (a := [(0, 70)]) (rest := [(0, h1 434 602 0), (4, 630)]) D rfl rfl rfl rfl rfl (by decide) (s0_602 H) (by decide +kernel) (fun v8 h7 e1 D =>
          have T := fj_run_ok _ _ _ _ _ _ H.1 e1
          have H := shp_st H T
          j_as (pc := 57) (a := 630) (e := 4) D rfl ⟨rfl, rfl⟩ rfl (by decide) (s0_630 H) (s1_630 H) ⟨rfl, rfl, rfl⟩ rfl (gy qb5) gn fun h10 eh10 S q D =>
          have T := fj_hs_ok H.1 S
          have H := shp_st H T
          have D : fk_D 530 [(58, none, .aload_n 0, 1, 0, 0, 0), (59, none, .getfield 101, 3, 433, 129, 12), (62, none, .iload_n 3, 1, 0, 0, 0), (63, none, .baload, 1, 0, 0, 0), (64, none, .ifCond .eq 30, 3, 94, 0, 0), (67, none, .aload_n 0, 1, 0, 0, 0), (68, none, .iload_n 1, 1, 0, 0, 0), (69, none, .iconst 1, 1, 0, 1, 0), (70, none, .invokevirtual 808, 3, 2, 396, 0), (73, none, .aload_n 0, 1, 0, 0, 0), (74, none, .invokevirtual 567, 3, 0, 351, 0), (77, none, .aload_n 0, 1, 0, 0, 0), (78, none, .iload_n 3, 1, 0, 0, 0), (79, none, .invokevirtual 812, 3, 1, 397, 0), (82, none, .aload_n 0, 1, 0, 0, 0), (83, none, .dup, 1, 0, 0, 0), (84, none, .getfield 805, 3, 434, 129, 10), (87, none, .iconst 1, 1, 0, 1, 0), (88, none, .iadd, 1, 0, 0, 0), (89, none, .putfield 805, 3, 434, 129, 10)] := fq_of2 cd_530 ow_530 cl_530 rfl (pc := 58) (by decide +kernel)
          j_aldn (pc := 58) D rfl rfl rfl fun D =>
          j_gfc (pc := 59) (a := 602) D rfl rfl (by decide) rfl (s0_602 H) rfl (sf_433_602 H) fun D =>
          j_ildn (pc := 62) D rfl rfl rfl fun D =>
          j_al (pc := 63) (a := 630) (e := 4) D rfl rfl rfl (by decide) (s0_630 H) (s1_630 H) ⟨rfl, rfl, rfl⟩ rfl (gy qb5) fun q D =>
          j_ifeq (pc := 64) D rfl (fun q =>
            have D : fk_D 530 [(94, none, .aload_n 0, 1, 0, 0, 0), (95, none, .bipush 22, 2, 0, 22, 0), (97, none, .invokevirtual 570, 3, 1, 352, 1), (100, none, .istore 4, 2, 0, 0, 0), (102, none, .iload 4, 2, 0, 0, 0), (104, none, .ifCond .eq 50, 3, 154, 0, 0), (107, none, .aload_n 0, 1, 0, 0, 0), (108, none, .iload_n 1, 1, 0, 0, 0), (109, none, .iconst 1, 1, 0, 1, 0), (110, none, .invokevirtual 808, 3, 2, 396, 0), (113, none, .aload_n 0, 1, 0, 0, 0), (114, none, .invokevirtual 567, 3, 0, 351, 0), (117, none, .aload_n 0, 1, 0, 0, 0), (118, none, .getfield 95, 3, 431, 129, 12), (121, none, .iload_n 3, 1, 0, 0, 0), (122, none, .aload_n 0, 1, 0, 0, 0), (123, none, .invokevirtual 791, 3, 0, 392, 1), (126, none, .iastore, 1, 0, 0, 0), (127, none, .aload_n 0, 1, 0, 0, 0), (128, none, .bipush 47, 2, 0, 47, 0)] := fq_of2 cd_530 ow_530 cl_530 rfl (pc := 94) (by decide +kernel)
            j_aldn (pc := 94) D rfl rfl rfl fun D =>
            j_bp (pc := 95) D rfl fun D =>
            j_iv (pc := 97) (m := 499) (dd := 352) (a := [(0, 22)]) (rest := []) D rfl rfl rfl rfl rfl (by decide) (s0_602 H) (by decide +kernel) (fun v12 h11 e1 D =>
              have T := fj_run_ok _ _ _ _ _ _ H.1 e1
              have H := shp_st H T
              j_ist (pc := 100) (L' := [(4, (0, v12)), (3, (0, h1 434 602 0)), (0, (4, 602)), (1, (0, x1)), (2, (0, x2))]) D rfl nl_530 rfl rfl fun D =>
              j_ild (pc := 102) D rfl rfl rfl fun D =>
              j_ifeq (pc := 104) D rfl (fun q =>
                fk_jump cut_530_154 rfl rfl) (fun q D =>
                j_aldn (pc := 107) D rfl rfl rfl fun D =>
                j_ildn (pc := 108) D rfl rfl rfl fun D =>
                j_ic (pc := 109) D rfl fun D =>
                j_ivv (pc := 110) (m := 531) (dd := 396) (a := [(0, x1), (0, 1)]) (rest := []) D rfl rfl rfl rfl rfl (by decide) (s0_602 H) (by decide +kernel) (fun h14 e1 D =>
                  have T := fj_run_ok _ _ _ _ _ _ H.1 e1
                  have H := shp_st H T
                  j_aldn (pc := 113) D rfl rfl rfl fun D =>
                  j_ivv (pc := 114) (m := 502) (dd := 351) (a := []) (rest := []) D rfl rfl rfl rfl rfl (by decide) (s0_602 H) (by decide +kernel) (fun h17 e1 D =>
                    have T := fj_run_ok _ _ _ _ _ _ H.1 e1
                    have H := shp_st H T
                    j_aldn (pc := 117) D rfl rfl rfl fun D =>
                    j_gfc (pc := 118) (a := 602) D rfl rfl (by decide) rfl (s0_602 H) rfl (sf_431_602 H) fun D =>
                    j_ildn (pc := 121) D rfl rfl rfl fun D =>
                    j_aldn (pc := 122) D rfl rfl rfl fun D =>
                    j_iv (pc := 123) (m := 527) (dd := 392) (a := []) (rest := [(0, h1 434 602 0), (4, 628)]) D rfl rfl rfl rfl rfl (by decide) (s0_602 H) (by decide +kernel) (fun v21 h20 e1 D =>
                      have T := fj_run_ok _ _ _ _ _ _ H.1 e1
                      have H := shp_st H T
                      j_as (pc := 126) (a := 628) (e := 10) D rfl ⟨rfl, rfl⟩ rfl (by decide) (s0_628 H) (s1_628 H) ⟨rfl, rfl, rfl⟩ rfl (gy qb5) (gy rfl) fun h23 eh23 S q D =>
                      have T := fj_hs_ok H.1 S
                      have H := shp_st H T
                      j_aldn (pc := 127) D rfl rfl rfl fun D =>
                      j_bp (pc := 128) D rfl fun D =>
                      have D : fk_D 530 [(130, none, .invokevirtual 624, 3, 1, 356, 0), (133, none, .aload_n 0, 1, 0, 0, 0), (134, none, .getfield 98, 3, 432, 129, 12), (137, none, .iload_n 3, 1, 0, 0, 0), (138, none, .aload_n 0, 1, 0, 0, 0), (139, none, .lconst 1, 1, 0, 0, 0), (140, none, .ldc2_w 803, 3, 1, 99, 0), (143, none, .invokevirtual 640, 3, 2, 360, 2), (146, none, .l2i, 1, 0, 0, 0), (147, none, .iastore, 1, 0, 0, 0), (148, none, .aload_n 0, 1, 0, 0, 0), (149, none, .bipush 58, 2, 0, 58, 0), (151, none, .invokevirtual 624, 3, 1, 356, 0)] := fq_of2 cd_530 ow_530 cl_530 rfl (pc := 130) (by decide +kernel)
                      j_ivv (pc := 130) (m := 505) (dd := 356) (a := [(0, 47)]) (rest := []) D rfl rfl rfl rfl rfl (by decide) (s0_602 H) (by decide +kernel) (fun h24 e1 D =>
                        have T := fj_run_ok _ _ _ _ _ _ H.1 e1
                        have H := shp_st H T
                        j_aldn (pc := 133) D rfl rfl rfl fun D =>
                        j_gfc (pc := 134) (a := 602) D rfl rfl (by decide) rfl (s0_602 H) rfl (sf_432_602 H) fun D =>
                        j_ildn (pc := 137) D rfl rfl rfl fun D =>
                        j_aldn (pc := 138) D rfl rfl rfl fun D =>
                        j_c0 (pc := 139) (v := (1, 1)) D rfl rfl (by decide +kernel) fun D =>
                        j_ldc2 (pc := 140) D rfl fun D =>
                        j_iv (pc := 143) (m := 510) (dd := 360) (a := [(1, 1), (1, 99)]) (rest := [(0, h1 434 602 0), (4, 629)]) D rfl rfl rfl rfl rfl (by decide) (s0_602 H) (by decide +kernel) (fun v28 h27 e1 D =>
                          have T := fj_run_ok _ _ _ _ _ _ H.1 e1
                          have H := shp_st H T
                          j_l2i (pc := 146) D rfl fun D =>
                          j_as (pc := 147) (a := 629) (e := 10) D rfl ⟨rfl, rfl⟩ rfl (by decide) (s0_629 H) (s1_629 H) ⟨rfl, rfl, rfl⟩ rfl (gy qb5) (gy rfl) fun h30 eh30 S q D =>
                          have T := fj_hs_ok H.1 S
                          have H := shp_st H T
                          j_aldn (pc := 148) D rfl rfl rfl fun D =>
                          j_bp (pc := 149) D rfl fun D =>
                          j_ivv (pc := 151) (m := 505) (dd := 356) (a := [(0, 58)]) (rest := []) D rfl rfl rfl rfl rfl (by decide) (s0_602 H) (by decide +kernel) (fun h31 e1 D =>
                            have T := fj_run_ok _ _ _ _ _ _ H.1 e1
                            have H := shp_st H T
                            fk_jump cut_530_154 rfl rfl) (fun q33 h31 e1 =>
                            j_tx (hx_530 _))) (fun q29 h27 e1 =>
                          j_tx (hx_530 _))) (fun q26 h24 e1 =>
                        j_tx (hx_530 _))) (fun q22 h20 e1 =>
                      j_tx (hx_530 _))) (fun q19 h17 e1 =>
                    j_tx (hx_530 _))) (fun q16 h14 e1 =>
                  j_tx (hx_530 _)))) (fun q13 h11 e1 =>
              j_tx (hx_530 _))) (fun q D =>
            j_aldn (pc := 67) D rfl rfl rfl fun D =>
            j_ildn (pc := 68) D rfl rfl rfl fun D =>
            j_ic (pc := 69) D rfl fun D =>
            j_ivv (pc := 70) (m := 531) (dd := 396) (a := [(0, x1), (0, 1)]) (rest := []) D rfl rfl rfl rfl rfl (by decide) (s0_602 H) (by decide +kernel) (fun h34 e1 D =>
              have T := fj_run_ok _ _ _ _ _ _ H.1 e1
              have H := shp_st H T
              j_aldn (pc := 73) D rfl rfl rfl fun D =>
              j_ivv (pc := 74) (m := 502) (dd := 351) (a := []) (rest := []) D rfl rfl rfl rfl rfl (by decide) (s0_602 H) (by decide +kernel) (fun h37 e1 D =>
                have T := fj_run_ok _ _ _ _ _ _ H.1 e1
                have H := shp_st H T
                j_aldn (pc := 77) D rfl rfl rfl fun D =>
                j_ildn (pc := 78) D rfl rfl rfl fun D =>
                j_ivv (pc := 79) (m := 532) (dd := 397) (a := [(0, h1 434 602 0)]) (rest := []) D rfl rfl rfl rfl rfl (by decide) (s0_602 H) (by decide +kernel) (fun h40 e1 D =>
                  have T := fj_run_ok _ _ _ _ _ _ H.1 e1
                  have H := shp_st H T
                  j_aldn (pc := 82) D rfl rfl rfl fun D =>
                  j_sh (pc := 83) D rfl rfl rfl fun D =>
                  j_gf (pc := 84) (a := 602) D rfl rfl (by decide) rfl (s0_602 H) rfl fun D =>
                  j_ic (pc := 87) D rfl fun D =>
                  j_iadd (pc := 88) D rfl fun D =>
                  j_pf (pc := 89) (a := 602) D rfl rfl rfl (s0_602 H) rfl rfl (gy (by decide)) (gy rfl) fun h43 eh43 S D =>
                  have T := fj_hs_ok H.1 S
                  have H := shp_st H T
                  have D : fk_D 530 [(92, none, .iload_n 3, 1, 0, 0, 0), (93, none, .ireturn, 1, 0, 0, 0)] := fq_of2 cd_530 ow_530 cl_530 rfl (pc := 92) (by decide +kernel)
                  j_ildn (pc := 92) D rfl rfl rfl fun D =>
                  j_iret D rt_530) (fun q42 h40 e1 =>
                  j_tx (hx_530 _))) (fun q39 h37 e1 =>
                j_tx (hx_530 _))) (fun q36 h34 e1 =>
              j_tx (hx_530 _)))) (fun q9 h7 e1 =>
          j_tx (hx_530 _))) (fun q D =>
        j_aldn (pc := 9) D rfl rfl rfl fun D =>
        j_ildn (pc := 10) D rfl rfl rfl fun D =>
        j_ic (pc := 11) D rfl fun D =>
        j_ivv (pc := 12) (m := 531) (dd := 396) (a := [(0, x1), (0, 0)]) (rest := []) D rfl rfl rfl rfl rfl (by decide) (s0_602 H) (by decide +kernel) (fun h44 e1 D =>
          have T := fj_run_ok _ _ _ _ _ _ H.1 e1
          have H := shp_st H T
          j_aldn (pc := 15) D rfl rfl rfl fun D =>
          j_ivv (pc := 16) (m := 502) (dd := 351) (a := []) (rest := []) D rfl rfl rfl rfl rfl (by decide) (s0_602 H) (by decide +kernel) (fun h47 e1 D =>
            have T := fj_run_ok _ _ _ _ _ _ H.1 e1
            have H := shp_st H T
            j_aldn (pc := 19) D rfl rfl rfl fun D =>
            j_bp (pc := 20) D rfl fun D =>
            j_ivv (pc := 22) (m := 505) (dd := 356) (a := [(0, 59)]) (rest := []) D rfl rfl rfl rfl rfl (by decide) (s0_602 H) (by decide +kernel) (fun h50 e1 D =>
              have T := fj_run_ok _ _ _ _ _ _ H.1 e1
              have H := shp_st H T
              j_ic (pc := 25) D rfl fun D =>
              j_iret D rt_530) (fun q52 h50 e1 =>
              j_tx (hx_530 _))) (fun q49 h47 e1 =>
            j_tx (hx_530 _))) (fun q46 h44 e1 =>
          j_tx (hx_530 _)))) (fun q3 h1 e1 =>
      j_tx (hx_530 _))
/-! 531 StatuteHouseModel.ruleRoom(IZ)V -/
theorem cd_531 : fi_code 531 = prog_69_method_84_code := rfl
theorem hx_531 : ∀ pc, fi_hat 531 pc = none := fun pc => by unfold fi_hat; rw [show fi_hh 531 = [] from rfl]; rfl
theorem rt_531 : fi_ret 531 = none := rfl
theorem nl_531 : fi_nl 531 = 3 := rfl
theorem ow_531 : fi_ow 531 = 29 := rfl
theorem cl_531 : fj_cutT.getD 531 [] = [(21, [0]), (25, [0]), (26, [0])] := rfl
theorem cut_531_21 : fj_cut 531 21 = some [0] := by decide +kernel
noncomputable def c_531_21 (d : Nat) (s0 : Int) (h : fi_H) : fk_R := gG (fj_run d) 531 21 [(0, (4, 602))] [(4, s0)] h
theorem cut_531_25 : fj_cut 531 25 = some [0] := by decide +kernel
noncomputable def c_531_25 (d : Nat) (s0 : Int) (h : fi_H) : fk_R := gG (fj_run d) 531 25 [(0, (4, 602))] [(4, s0)] h
theorem cut_531_26 : fj_cut 531 26 = some [0] := by decide +kernel
noncomputable def c_531_26 (d : Nat) (s0 s1 : Int) (h : fi_H) : fk_R := gG (fj_run d) 531 26 [(0, (4, 602))] [(0, s1), (4, s0)] h
theorem e_531_21 (d : Nat) (s0 : Int) {h : fi_H} (H : Shp h) : c_531_21 d s0 h =
  c_531_26 d s0 1 h := by
  unfold c_531_21
  exact
    have D : fk_D 531 [(21, some [0], .iconst 1, 1, 0, 1, 0), (22, none, .goto 4, 3, 26, 0, 0)] := fq_of2 cd_531 ow_531 cl_531 rfl (pc := 21) (by decide +kernel)
    j_ic (pc := 21) D rfl fun D =>
    j_goto (pc := 22) D rfl <|
    fk_jump cut_531_26 rfl rfl
theorem e_531_25 (d : Nat) (s0 : Int) {h : fi_H} (H : Shp h) : c_531_25 d s0 h =
  c_531_26 d s0 0 h := by
  unfold c_531_25
  exact
    have D : fk_D 531 [(25, some [0], .iconst 0, 1, 0, 0, 0)] := fq_of2 cd_531 ow_531 cl_531 rfl (pc := 25) (by decide +kernel)
    j_ic (pc := 25) D rfl fun D =>
    fk_jump cut_531_26 rfl rfl
theorem e_531_26 (d : Nat) (s0 s1 : Int) {h : fi_H} (H : Shp h) : c_531_26 d s0 s1 h =
  dv_ (fi_vt 348 (h 0 s0.toNat 0)) fun m4 => cv_ (fj_run d m4 h [(4, s0), (0, s1), (0, 4), (0, h 396 602 0)])
    (fun h1 =>
    some (.inl none, h1))
    (fun q3 h1 => tx_ q3 h1) := by
  unfold c_531_26
  exact
    have D : fk_D 531 [(26, some [0], .iconst 4, 1, 0, 4, 0), (27, none, .aload_n 0, 1, 0, 0, 0), (28, none, .getfield 507, 3, 396, 129, 10), (31, none, .invokevirtual 557, 3, 3, 348, 0), (34, none, .return_, 1, 0, 0, 0)] := fq_of2 cd_531 ow_531 cl_531 rfl (pc := 26) (by decide +kernel)
    j_ic (pc := 26) D rfl fun D =>
    j_aldn (pc := 27) D rfl rfl rfl fun D =>
    j_gf (pc := 28) (a := 602) D rfl rfl (by decide) rfl (s0_602 H) rfl fun D =>
    j_ivuv (pc := 31) (dd := 348) (a := [(0, s1), (0, 4), (0, h 396 602 0)]) (rest := []) H.2.1 D rfl rfl rfl rfl rfl (fun m4 h1 e1 D =>
      have T := fj_run_ok _ _ _ _ _ _ H.1 e1
      have H := shp_st H T
      j_vret D rt_531) (fun m4 q3 h1 e1 =>
      j_tx (hx_531 _))
theorem m_531 (d : Nat) (x1 x2 : Int) {h : fi_H} (H : Shp h) : fj_run (d + 1) 531 h [(4, 602), (0, x1), (0, x2)] =
  if x1 < 40 then
    if x2 = 0 then
      c_531_21 d 602 h
    else
      if h 434 602 0 < 500 then
        c_531_21 d 602 h
      else
        c_531_25 d 602 h
  else
    c_531_25 d 602 h := by
  rw [fj_run_eq d (by decide) h [(4, 602), (0, x1), (0, x2)] (Nat.le_of_ble_eq_true (by rw [nl_531]; rfl))]
  show gG (fj_run d) 531 0 [(0, (4, 602)), (1, (0, x1)), (2, (0, x2))] [] h = _
  exact
    have D : fk_D 531 [(0, none, .aload_n 0, 1, 0, 0, 0), (1, none, .iload_n 1, 1, 0, 0, 0), (2, none, .bipush 40, 2, 0, 40, 0), (4, none, .if_icmp .ge 21, 3, 25, 0, 0), (7, none, .iload_n 2, 1, 0, 0, 0), (8, none, .ifCond .eq 13, 3, 21, 0, 0), (11, none, .aload_n 0, 1, 0, 0, 0), (12, none, .getfield 805, 3, 434, 129, 10), (15, none, .sipush 500, 3, 0, 500, 0), (18, none, .if_icmp .ge 7, 3, 25, 0, 0)] := fq_of2 cd_531 ow_531 cl_531 rfl (pc := 0) (by decide +kernel)
    j_aldn (pc := 0) D rfl rfl rfl fun D =>
    j_ildn (pc := 1) D rfl rfl rfl fun D =>
    j_bp (pc := 2) D rfl fun D =>
    j_ige (pc := 4) D rfl (fun q D =>
      j_ildn (pc := 7) D rfl rfl rfl fun D =>
      j_ifeq (pc := 8) D rfl (fun q =>
        fk_jump cut_531_21 rfl rfl) (fun q D =>
        j_aldn (pc := 11) D rfl rfl rfl fun D =>
        j_gf (pc := 12) (a := 602) D rfl rfl (by decide) rfl (s0_602 H) rfl fun D =>
        j_sp (pc := 15) D rfl fun D =>
        j_ige (pc := 18) D rfl (fun q D =>
          fk_jump cut_531_21 rfl rfl) (fun q =>
          fk_jump cut_531_25 rfl rfl))) (fun q =>
      fk_jump cut_531_25 rfl rfl)
/-! 532 StatuteHouseModel.readTable(I)V -/
theorem cd_532 : fi_code 532 = prog_69_method_86_code := rfl
theorem hx_532 : ∀ pc, fi_hat 532 pc = none := fun pc => by unfold fi_hat; rw [show fi_hh 532 = [] from rfl]; rfl
theorem rt_532 : fi_ret 532 = none := rfl
theorem nl_532 : fi_nl 532 = 5 := rfl
theorem ow_532 : fi_ow 532 = 29 := rfl
theorem cl_532 : fj_cutT.getD 532 [] = [(39, [0, 1, 2]), (53, [0, 1, 2]), (101, [0, 1, 2]), (105, [0, 1, 2]), (106, [0, 1, 2]), (140, [0, 1, 2]), (141, [0, 1, 2]), (200, [0, 1, 2, 3])] := rfl
theorem cut_532_39 : fj_cut 532 39 = some [0, 1, 2] := by decide +kernel
noncomputable def c_532_39 (d : Nat) (x1 x2 : Int) (h : fi_H) : fk_R := gG (fj_run d) 532 39 [(0, (4, 602)), (1, (0, x1)), (2, (0, x2))] [] h
theorem cut_532_53 : fj_cut 532 53 = some [0, 1, 2] := by decide +kernel
noncomputable def c_532_53 (d : Nat) (x1 x2 s0 s1 : Int) (h : fi_H) : fk_R := gG (fj_run d) 532 53 [(0, (4, 602)), (1, (0, x1)), (2, (0, x2))] [(0, s1), (4, s0)] h
theorem cut_532_101 : fj_cut 532 101 = some [0, 1, 2] := by decide +kernel
noncomputable def c_532_101 (d : Nat) (x1 x2 s0 : Int) (h : fi_H) : fk_R := gG (fj_run d) 532 101 [(0, (4, 602)), (1, (0, x1)), (2, (0, x2))] [(4, s0)] h
theorem cut_532_105 : fj_cut 532 105 = some [0, 1, 2] := by decide +kernel
noncomputable def c_532_105 (d : Nat) (x1 x2 s0 : Int) (h : fi_H) : fk_R := gG (fj_run d) 532 105 [(0, (4, 602)), (1, (0, x1)), (2, (0, x2))] [(4, s0)] h
theorem cut_532_106 : fj_cut 532 106 = some [0, 1, 2] := by decide +kernel
noncomputable def c_532_106 (d : Nat) (x1 x2 s0 s1 : Int) (h : fi_H) : fk_R := gG (fj_run d) 532 106 [(0, (4, 602)), (1, (0, x1)), (2, (0, x2))] [(0, s1), (4, s0)] h
theorem cut_532_140 : fj_cut 532 140 = some [0, 1, 2] := by decide +kernel
noncomputable def c_532_140 (d : Nat) (x1 x2 s0 : Int) (h : fi_H) : fk_R := gG (fj_run d) 532 140 [(0, (4, 602)), (1, (0, x1)), (2, (0, x2))] [(4, s0)] h
theorem cut_532_141 : fj_cut 532 141 = some [0, 1, 2] := by decide +kernel
noncomputable def c_532_141 (d : Nat) (x1 x2 s0 s1 : Int) (h : fi_H) : fk_R := gG (fj_run d) 532 141 [(0, (4, 602)), (1, (0, x1)), (2, (0, x2))] [(0, s1), (4, s0)] h
theorem cut_532_200 : fj_cut 532 200 = some [0, 1, 2, 3] := by decide +kernel
noncomputable def c_532_200 (d : Nat) (x1 x2 x3 s0 s1 : Int) (h : fi_H) : fk_R := gG (fj_run d) 532 200 [(0, (4, 602)), (1, (0, x1)), (2, (0, x2)), (3, (0, x3))] [(0, s1), (4, s0)] h
theorem e_532_39 (d : Nat) (x1 x2 : Int) {h : fi_H} (H : Shp h) : c_532_39 d x1 x2 h =
  if h 394 602 0 = 4 then
    c_532_53 d x1 x2 602 1 h
  else
    c_532_53 d x1 x2 602 0 h := by
  unfold c_532_39
  exact
    have D : fk_D 532 [(39, some [0, 1, 2], .aload_n 0, 1, 0, 0, 0), (40, none, .aload_n 0, 1, 0, 0, 0), (41, none, .getfield 513, 3, 394, 129, 10), (44, none, .iconst 4, 1, 0, 4, 0), (45, none, .if_icmp .ne 7, 3, 52, 0, 0), (48, none, .iconst 1, 1, 0, 1, 0), (49, none, .goto 4, 3, 53, 0, 0)] := fq_of2 cd_532 ow_532 cl_532 rfl (pc := 39) (by decide +kernel)
    j_aldn (pc := 39) D rfl rfl rfl fun D =>
    j_aldn (pc := 40) D rfl rfl rfl fun D =>
    j_gf (pc := 41) (a := 602) D rfl rfl (by decide) rfl (s0_602 H) rfl fun D =>
    j_ic (pc := 44) D rfl fun D =>
    j_ine (pc := 45) D rfl (fun q D =>
      j_ic (pc := 48) D rfl fun D =>
      j_goto (pc := 49) D rfl <|
      fk_jump cut_532_53 rfl rfl) (fun q =>
      have D : fk_D 532 [(52, none, .iconst 0, 1, 0, 0, 0)] := fq_of2 cd_532 ow_532 cl_532 rfl (pc := 52) (by decide +kernel)
      j_ic (pc := 52) D rfl fun D =>
      fk_jump cut_532_53 rfl rfl)
theorem e_532_53 (d : Nat) (x1 x2 s0 s1 : Int) {h : fi_H} (H : Shp h) : c_532_53 d x1 x2 s0 s1 h =
  dv_ (fi_vt 348 (h 0 s0.toNat 0)) fun m4 => cv_ (fj_run d m4 h [(4, s0), (0, s1), (0, 1), (0, h 396 602 0)])
    (fun h1 =>
    if 0 < lc_ (h1 399 602 0) 999999999 then
      c_532_105 d x1 x2 602 h1
    else
      if 0 ≤ x1 ∧ x1 < 560 then
      if h1 10 627 x1.toNat = 0 then
        c_532_101 d x1 x2 602 h1
      else
        if 0 ≤ wI ((h1 439 602 0) - 1) ∧ wI ((h1 439 602 0) - 1) < 440 then
        if 0 < lc_ (h1 399 602 0) (h1 11 631 (wI ((h1 439 602 0) - 1)).toNat) then
          c_532_101 d x1 x2 602 h1
        else
          c_532_105 d x1 x2 602 h1
        else none
      else none)
    (fun q3 h1 => tx_ q3 h1) := by
  unfold c_532_53
  exact
    have D : fk_D 532 [(53, some [0, 1, 2], .iconst 1, 1, 0, 1, 0), (54, none, .aload_n 0, 1, 0, 0, 0), (55, none, .getfield 507, 3, 396, 129, 10), (58, none, .invokevirtual 557, 3, 3, 348, 0), (61, none, .aload_n 0, 1, 0, 0, 0), (62, none, .aload_n 0, 1, 0, 0, 0), (63, none, .getfield 550, 3, 399, 129, 11), (66, none, .ldc2_w 638, 3, 1, 999999999, 0), (69, none, .lcmp, 1, 0, 0, 0), (70, none, .ifCond .gt 35, 3, 105, 0, 0), (73, none, .aload_n 0, 1, 0, 0, 0), (74, none, .getfield 92, 3, 430, 129, 12), (77, none, .iload_n 1, 1, 0, 0, 0), (78, none, .iaload, 1, 0, 0, 0), (79, none, .ifCond .eq 22, 3, 101, 0, 0), (82, none, .aload_n 0, 1, 0, 0, 0), (83, none, .getfield 550, 3, 399, 129, 11), (86, none, .aload_n 0, 1, 0, 0, 0), (87, none, .getfield 104, 3, 435, 129, 12), (90, none, .aload_n 0, 1, 0, 0, 0)] := fq_of2 cd_532 ow_532 cl_532 rfl (pc := 53) (by decide +kernel)
    j_ic (pc := 53) D rfl fun D =>
    j_aldn (pc := 54) D rfl rfl rfl fun D =>
    j_gf (pc := 55) (a := 602) D rfl rfl (by decide) rfl (s0_602 H) rfl fun D =>
    j_ivuv (pc := 58) (dd := 348) (a := [(0, s1), (0, 1), (0, h 396 602 0)]) (rest := []) H.2.1 D rfl rfl rfl rfl rfl (fun m4 h1 e1 D =>
      have T := fj_run_ok _ _ _ _ _ _ H.1 e1
      have H := shp_st H T
      j_aldn (pc := 61) D rfl rfl rfl fun D =>
      j_aldn (pc := 62) D rfl rfl rfl fun D =>
      j_gf (pc := 63) (a := 602) D rfl rfl (by decide) rfl (s0_602 H) rfl fun D =>
      j_ldc2 (pc := 66) D rfl fun D =>
      j_lcmp (pc := 69) D rfl fun D =>
      j_ifgt (pc := 70) D rfl (fun q =>
        fk_jump cut_532_105 rfl rfl) (fun q D =>
        j_aldn (pc := 73) D rfl rfl rfl fun D =>
        j_gfc (pc := 74) (a := 602) D rfl rfl (by decide) rfl (s0_602 H) rfl (sf_430_602 H) fun D =>
        j_ildn (pc := 77) D rfl rfl rfl fun D =>
        j_al (pc := 78) (a := 627) (e := 10) D rfl rfl rfl (by decide) (s0_627 H) (s1_627 H) ⟨rfl, rfl, rfl⟩ rfl gn fun qb5 D =>
        j_ifeq (pc := 79) D rfl (fun q =>
          fk_jump cut_532_101 rfl rfl) (fun q D =>
          j_aldn (pc := 82) D rfl rfl rfl fun D =>
          j_gf (pc := 83) (a := 602) D rfl rfl (by decide) rfl (s0_602 H) rfl fun D =>
          j_aldn (pc := 86) D rfl rfl rfl fun D =>
          j_gfc (pc := 87) (a := 602) D rfl rfl (by decide) rfl (s0_602 H) rfl (sf_435_602 H) fun D =>
          j_aldn (pc := 90) D rfl rfl rfl fun D =>
          have D : fk_D 532 [(91, none, .getfield 815, 3, 439, 129, 10), (94, none, .iconst 1, 1, 0, 1, 0), (95, none, .isub, 1, 0, 0, 0), (96, none, .laload, 1, 0, 0, 0), (97, none, .lcmp, 1, 0, 0, 0), (98, none, .ifCond .le 7, 3, 105, 0, 0)] := fq_of2 cd_532 ow_532 cl_532 rfl (pc := 91) (by decide +kernel)
          j_gf (pc := 91) (a := 602) D rfl rfl (by decide) rfl (s0_602 H) rfl fun D =>
          j_ic (pc := 94) D rfl fun D =>
          j_isub (pc := 95) D rfl fun D =>
          j_al (pc := 96) (a := 631) (e := 11) D rfl rfl rfl (by decide) (s0_631 H) (s1_631 H) ⟨rfl, rfl, rfl⟩ rfl gn fun qb6 D =>
          j_lcmp (pc := 97) D rfl fun D =>
          j_ifle (pc := 98) D rfl (fun q D =>
            fk_jump cut_532_101 rfl rfl) (fun q =>
            fk_jump cut_532_105 rfl rfl)))) (fun m4 q3 h1 e1 =>
      j_tx (hx_532 _))
theorem e_532_101 (d : Nat) (x1 x2 s0 : Int) {h : fi_H} (H : Shp h) : c_532_101 d x1 x2 s0 h =
  c_532_106 d x1 x2 s0 1 h := by
  unfold c_532_101
  exact
    have D : fk_D 532 [(101, some [0, 1, 2], .iconst 1, 1, 0, 1, 0), (102, none, .goto 4, 3, 106, 0, 0)] := fq_of2 cd_532 ow_532 cl_532 rfl (pc := 101) (by decide +kernel)
    j_ic (pc := 101) D rfl fun D =>
    j_goto (pc := 102) D rfl <|
    fk_jump cut_532_106 rfl rfl
theorem e_532_105 (d : Nat) (x1 x2 s0 : Int) {h : fi_H} (H : Shp h) : c_532_105 d x1 x2 s0 h =
  c_532_106 d x1 x2 s0 0 h := by
  unfold c_532_105
  exact
    have D : fk_D 532 [(105, some [0, 1, 2], .iconst 0, 1, 0, 0, 0)] := fq_of2 cd_532 ow_532 cl_532 rfl (pc := 105) (by decide +kernel)
    j_ic (pc := 105) D rfl fun D =>
    fk_jump cut_532_106 rfl rfl
theorem e_532_106 (d : Nat) (x1 x2 s0 s1 : Int) {h : fi_H} (H : Shp h) : c_532_106 d x1 x2 s0 s1 h =
  dv_ (fi_vt 348 (h 0 s0.toNat 0)) fun m4 => cv_ (fj_run d m4 h [(4, s0), (0, s1), (0, 3), (0, h 396 602 0)])
    (fun h1 =>
    if 0 ≤ x1 ∧ x1 < 560 then
    if h1 10 627 x1.toNat < 20 then
      if h1 439 602 0 < 400 then
        c_532_141 d x1 x2 602 1 h1
      else
        c_532_140 d x1 x2 602 h1
    else
      c_532_140 d x1 x2 602 h1
    else none)
    (fun q3 h1 => tx_ q3 h1) := by
  unfold c_532_106
  exact
    have D : fk_D 532 [(106, some [0, 1, 2], .iconst 3, 1, 0, 3, 0), (107, none, .aload_n 0, 1, 0, 0, 0), (108, none, .getfield 507, 3, 396, 129, 10), (111, none, .invokevirtual 557, 3, 3, 348, 0), (114, none, .aload_n 0, 1, 0, 0, 0), (115, none, .aload_n 0, 1, 0, 0, 0), (116, none, .getfield 92, 3, 430, 129, 12), (119, none, .iload_n 1, 1, 0, 0, 0), (120, none, .iaload, 1, 0, 0, 0), (121, none, .bipush 20, 2, 0, 20, 0), (123, none, .if_icmp .ge 17, 3, 140, 0, 0), (126, none, .aload_n 0, 1, 0, 0, 0), (127, none, .getfield 815, 3, 439, 129, 10), (130, none, .sipush 400, 3, 0, 400, 0), (133, none, .if_icmp .ge 7, 3, 140, 0, 0), (136, none, .iconst 1, 1, 0, 1, 0), (137, none, .goto 4, 3, 141, 0, 0)] := fq_of2 cd_532 ow_532 cl_532 rfl (pc := 106) (by decide +kernel)
    j_ic (pc := 106) D rfl fun D =>
    j_aldn (pc := 107) D rfl rfl rfl fun D =>
    j_gf (pc := 108) (a := 602) D rfl rfl (by decide) rfl (s0_602 H) rfl fun D =>
    j_ivuv (pc := 111) (dd := 348) (a := [(0, s1), (0, 3), (0, h 396 602 0)]) (rest := []) H.2.1 D rfl rfl rfl rfl rfl (fun m4 h1 e1 D =>
      have T := fj_run_ok _ _ _ _ _ _ H.1 e1
      have H := shp_st H T
      j_aldn (pc := 114) D rfl rfl rfl fun D =>
      j_aldn (pc := 115) D rfl rfl rfl fun D =>
      j_gfc (pc := 116) (a := 602) D rfl rfl (by decide) rfl (s0_602 H) rfl (sf_430_602 H) fun D =>
      j_ildn (pc := 119) D rfl rfl rfl fun D =>
      j_al (pc := 120) (a := 627) (e := 10) D rfl rfl rfl (by decide) (s0_627 H) (s1_627 H) ⟨rfl, rfl, rfl⟩ rfl gn fun qb5 D =>
      j_bp (pc := 121) D rfl fun D =>
      j_ige (pc := 123) D rfl (fun q D =>
        j_aldn (pc := 126) D rfl rfl rfl fun D =>
        j_gf (pc := 127) (a := 602) D rfl rfl (by decide) rfl (s0_602 H) rfl fun D =>
        j_sp (pc := 130) D rfl fun D =>
        j_ige (pc := 133) D rfl (fun q D =>
          j_ic (pc := 136) D rfl fun D =>
          j_goto (pc := 137) D rfl <|
          fk_jump cut_532_141 rfl rfl) (fun q =>
          fk_jump cut_532_140 rfl rfl)) (fun q =>
        fk_jump cut_532_140 rfl rfl)) (fun m4 q3 h1 e1 =>
      j_tx (hx_532 _))
theorem e_532_140 (d : Nat) (x1 x2 s0 : Int) {h : fi_H} (H : Shp h) : c_532_140 d x1 x2 s0 h =
  c_532_141 d x1 x2 s0 0 h := by
  unfold c_532_140
  exact
    have D : fk_D 532 [(140, some [0, 1, 2], .iconst 0, 1, 0, 0, 0)] := fq_of2 cd_532 ow_532 cl_532 rfl (pc := 140) (by decide +kernel)
    j_ic (pc := 140) D rfl fun D =>
    fk_jump cut_532_141 rfl rfl
theorem e_532_141 (d : Nat) (x1 x2 s0 s1 : Int) {h : fi_H} (H : Shp h) : c_532_141 d x1 x2 s0 s1 h =
  dv_ (fi_vt 348 (h 0 s0.toNat 0)) fun m4 => cv_ (fj_run d m4 h [(4, s0), (0, s1), (0, 4), (0, h 396 602 0)])
    (fun h1 =>
    if 0 ≤ h1 439 602 0 ∧ h1 439 602 0 < 440 then
    lt_ (fi_upd h1 11 631 (h1 439 602 0).toNat (h1 399 602 0)) fun h5 =>
    cv_ (fj_run d 502 h5 [(4, 602)])
      (fun h7 =>
      cv_ (fj_run d 505 h7 [(4, 602), (0, 58)])
        (fun h10 =>
        ca_ (fj_run d 534 h10 [(4, 602)]) 0
          (fun v14 h13 =>
          if 0 ≤ x2 ∧ x2 < 41 then
          if v14 = h13 10 611 x2.toNat then
            c_532_200 d x1 x2 (h10 396 602 0) 602 1 h13
          else
            c_532_200 d x1 x2 (h10 396 602 0) 602 0 h13
          else none)
          (fun q15 h13 => tx_ q15 h13))
        (fun q12 h10 => tx_ q12 h10))
      (fun q9 h7 => tx_ q9 h7)
    else none)
    (fun q3 h1 => tx_ q3 h1) := by
  unfold c_532_141
  exact
    have D : fk_D 532 [(141, some [0, 1, 2], .iconst 4, 1, 0, 4, 0), (142, none, .aload_n 0, 1, 0, 0, 0), (143, none, .getfield 507, 3, 396, 129, 10), (146, none, .invokevirtual 557, 3, 3, 348, 0), (149, none, .aload_n 0, 1, 0, 0, 0), (150, none, .getfield 104, 3, 435, 129, 12), (153, none, .aload_n 0, 1, 0, 0, 0), (154, none, .getfield 815, 3, 439, 129, 10), (157, none, .aload_n 0, 1, 0, 0, 0), (158, none, .getfield 550, 3, 399, 129, 11), (161, none, .lastore, 1, 0, 0, 0), (162, none, .aload_n 0, 1, 0, 0, 0), (163, none, .invokevirtual 567, 3, 0, 351, 0), (166, none, .aload_n 0, 1, 0, 0, 0), (167, none, .bipush 58, 2, 0, 58, 0), (169, none, .invokevirtual 624, 3, 1, 356, 0), (172, none, .aload_n 0, 1, 0, 0, 0), (173, none, .getfield 507, 3, 396, 129, 10), (176, none, .istore_n 3, 1, 0, 0, 0), (177, none, .aload_n 0, 1, 0, 0, 0)] := fq_of2 cd_532 ow_532 cl_532 rfl (pc := 141) (by decide +kernel)
    j_ic (pc := 141) D rfl fun D =>
    j_aldn (pc := 142) D rfl rfl rfl fun D =>
    j_gf (pc := 143) (a := 602) D rfl rfl (by decide) rfl (s0_602 H) rfl fun D =>
    j_ivuv (pc := 146) (dd := 348) (a := [(0, s1), (0, 4), (0, h 396 602 0)]) (rest := []) H.2.1 D rfl rfl rfl rfl rfl (fun m4 h1 e1 D =>
      have T := fj_run_ok _ _ _ _ _ _ H.1 e1
      have H := shp_st H T
      j_aldn (pc := 149) D rfl rfl rfl fun D =>
      j_gfc (pc := 150) (a := 602) D rfl rfl (by decide) rfl (s0_602 H) rfl (sf_435_602 H) fun D =>
      j_aldn (pc := 153) D rfl rfl rfl fun D =>
      j_gf (pc := 154) (a := 602) D rfl rfl (by decide) rfl (s0_602 H) rfl fun D =>
      j_aldn (pc := 157) D rfl rfl rfl fun D =>
      j_gf (pc := 158) (a := 602) D rfl rfl (by decide) rfl (s0_602 H) rfl fun D =>
      j_as (pc := 161) (a := 631) (e := 11) D rfl ⟨rfl, rfl⟩ rfl (by decide) (s0_631 H) (s1_631 H) ⟨rfl, rfl, rfl⟩ rfl gn (gy rfl) fun h5 eh5 S qb6 D =>
      have T := fj_hs_ok H.1 S
      have H := shp_st H T
      j_aldn (pc := 162) D rfl rfl rfl fun D =>
      j_ivv (pc := 163) (m := 502) (dd := 351) (a := []) (rest := []) D rfl rfl rfl rfl rfl (by decide) (s0_602 H) (by decide +kernel) (fun h7 e1 D =>
        have T := fj_run_ok _ _ _ _ _ _ H.1 e1
        have H := shp_st H T
        j_aldn (pc := 166) D rfl rfl rfl fun D =>
        j_bp (pc := 167) D rfl fun D =>
        j_ivv (pc := 169) (m := 505) (dd := 356) (a := [(0, 58)]) (rest := []) D rfl rfl rfl rfl rfl (by decide) (s0_602 H) (by decide +kernel) (fun h10 e1 D =>
          have T := fj_run_ok _ _ _ _ _ _ H.1 e1
          have H := shp_st H T
          j_aldn (pc := 172) D rfl rfl rfl fun D =>
          j_gf (pc := 173) (a := 602) D rfl rfl (by decide) rfl (s0_602 H) rfl fun D =>
          j_istn (pc := 176) (L' := [(3, (0, h10 396 602 0)), (0, (4, 602)), (1, (0, x1)), (2, (0, x2))]) D rfl nl_532 rfl rfl fun D =>
          j_aldn (pc := 177) D rfl rfl rfl fun D =>
          have D : fk_D 532 [(178, none, .invokevirtual 818, 3, 0, 398, 1), (181, none, .istore 4, 2, 0, 0, 0), (183, none, .aload_n 0, 1, 0, 0, 0), (184, none, .iload 4, 2, 0, 0, 0), (186, none, .aload_n 0, 1, 0, 0, 0), (187, none, .getfield 43, 3, 407, 129, 12), (190, none, .iload_n 2, 1, 0, 0, 0), (191, none, .iaload, 1, 0, 0, 0), (192, none, .if_icmp .ne 7, 3, 199, 0, 0), (195, none, .iconst 1, 1, 0, 1, 0), (196, none, .goto 4, 3, 200, 0, 0)] := fq_of2 cd_532 ow_532 cl_532 rfl (pc := 178) (by decide +kernel)
          j_iv (pc := 178) (m := 534) (dd := 398) (a := []) (rest := []) D rfl rfl rfl rfl rfl (by decide) (s0_602 H) (by decide +kernel) (fun v14 h13 e1 D =>
            have T := fj_run_ok _ _ _ _ _ _ H.1 e1
            have H := shp_st H T
            j_ist (pc := 181) (L' := [(4, (0, v14)), (3, (0, h10 396 602 0)), (0, (4, 602)), (1, (0, x1)), (2, (0, x2))]) D rfl nl_532 rfl rfl fun D =>
            j_aldn (pc := 183) D rfl rfl rfl fun D =>
            j_ild (pc := 184) D rfl rfl rfl fun D =>
            j_aldn (pc := 186) D rfl rfl rfl fun D =>
            j_gfc (pc := 187) (a := 602) D rfl rfl (by decide) rfl (s0_602 H) rfl (sf_407_602 H) fun D =>
            j_ildn (pc := 190) D rfl rfl rfl fun D =>
            j_al (pc := 191) (a := 611) (e := 10) D rfl rfl rfl (by decide) (s0_611 H) (s1_611 H) ⟨rfl, rfl, rfl⟩ rfl gn fun qb16 D =>
            j_ine (pc := 192) D rfl (fun q D =>
              j_ic (pc := 195) D rfl fun D =>
              j_goto (pc := 196) D rfl <|
              fk_jump cut_532_200 rfl rfl) (fun q =>
              have D : fk_D 532 [(199, none, .iconst 0, 1, 0, 0, 0)] := fq_of2 cd_532 ow_532 cl_532 rfl (pc := 199) (by decide +kernel)
              j_ic (pc := 199) D rfl fun D =>
              fk_jump cut_532_200 rfl rfl)) (fun q15 h13 e1 =>
            j_tx (hx_532 _))) (fun q12 h10 e1 =>
          j_tx (hx_532 _))) (fun q9 h7 e1 =>
        j_tx (hx_532 _))) (fun m4 q3 h1 e1 =>
      j_tx (hx_532 _))
theorem e_532_200 (d : Nat) (x1 x2 x3 s0 s1 : Int) {h : fi_H} (H : Shp h) : c_532_200 d x1 x2 x3 s0 s1 h =
  dv_ (fi_vt 348 (h 0 s0.toNat 0)) fun m4 => cv_ (fj_run d m4 h [(4, s0), (0, s1), (0, 5), (0, x3)])
    (fun h1 =>
    cv_ (fj_run d 505 h1 [(4, 602), (0, 59)])
      (fun h5 =>
      lt_ (fi_upd h5 439 602 0 (wI ((h5 439 602 0) + 1))) fun h8 =>
      if 0 ≤ x1 ∧ x1 < 560 then
      lt_ (fi_upd h8 10 627 x1.toNat (wI ((h8 10 627 x1.toNat) + 1))) fun h10 =>
      ca_ (fj_run d 506 h10 [(4, 602), (0, 125)]) 0
        (fun v12 h11 =>
        if v12 = 0 then
          c_532_39 d x1 x2 h11
        else
          cv_ (fj_run d 502 h11 [(4, 602)])
            (fun h14 =>
            some (.inl none, h14))
            (fun q16 h14 => tx_ q16 h14))
        (fun q13 h11 => tx_ q13 h11)
      else none)
      (fun q7 h5 => tx_ q7 h5))
    (fun q3 h1 => tx_ q3 h1) := by
  unfold c_532_200
  exact
    have D : fk_D 532 [(200, some [0, 1, 2, 3], .iconst 5, 1, 0, 5, 0), (201, none, .iload_n 3, 1, 0, 0, 0), (202, none, .invokevirtual 557, 3, 3, 348, 0), (205, none, .aload_n 0, 1, 0, 0, 0), (206, none, .bipush 59, 2, 0, 59, 0), (208, none, .invokevirtual 624, 3, 1, 356, 0), (211, none, .aload_n 0, 1, 0, 0, 0), (212, none, .dup, 1, 0, 0, 0), (213, none, .getfield 815, 3, 439, 129, 10), (216, none, .iconst 1, 1, 0, 1, 0), (217, none, .iadd, 1, 0, 0, 0), (218, none, .putfield 815, 3, 439, 129, 10), (221, none, .aload_n 0, 1, 0, 0, 0), (222, none, .getfield 92, 3, 430, 129, 12), (225, none, .iload_n 1, 1, 0, 0, 0), (226, none, .dup2, 1, 0, 0, 0), (227, none, .iaload, 1, 0, 0, 0), (228, none, .iconst 1, 1, 0, 1, 0), (229, none, .iadd, 1, 0, 0, 0), (230, none, .iastore, 1, 0, 0, 0)] := fq_of2 cd_532 ow_532 cl_532 rfl (pc := 200) (by decide +kernel)
    j_ic (pc := 200) D rfl fun D =>
    j_ildn (pc := 201) D rfl rfl rfl fun D =>
    j_ivuv (pc := 202) (dd := 348) (a := [(0, s1), (0, 5), (0, x3)]) (rest := []) H.2.1 D rfl rfl rfl rfl rfl (fun m4 h1 e1 D =>
      have T := fj_run_ok _ _ _ _ _ _ H.1 e1
      have H := shp_st H T
      j_aldn (pc := 205) D rfl rfl rfl fun D =>
      j_bp (pc := 206) D rfl fun D =>
      j_ivv (pc := 208) (m := 505) (dd := 356) (a := [(0, 59)]) (rest := []) D rfl rfl rfl rfl rfl (by decide) (s0_602 H) (by decide +kernel) (fun h5 e1 D =>
        have T := fj_run_ok _ _ _ _ _ _ H.1 e1
        have H := shp_st H T
        j_aldn (pc := 211) D rfl rfl rfl fun D =>
        j_sh (pc := 212) D rfl rfl rfl fun D =>
        j_gf (pc := 213) (a := 602) D rfl rfl (by decide) rfl (s0_602 H) rfl fun D =>
        j_ic (pc := 216) D rfl fun D =>
        j_iadd (pc := 217) D rfl fun D =>
        j_pf (pc := 218) (a := 602) D rfl rfl rfl (s0_602 H) rfl rfl (gy (by decide)) (gy rfl) fun h8 eh8 S D =>
        have T := fj_hs_ok H.1 S
        have H := shp_st H T
        j_aldn (pc := 221) D rfl rfl rfl fun D =>
        j_gfc (pc := 222) (a := 602) D rfl rfl (by decide) rfl (s0_602 H) rfl (sf_430_602 H) fun D =>
        j_ildn (pc := 225) D rfl rfl rfl fun D =>
        j_sh (pc := 226) D rfl rfl rfl fun D =>
        j_al (pc := 227) (a := 627) (e := 10) D rfl rfl rfl (by decide) (s0_627 H) (s1_627 H) ⟨rfl, rfl, rfl⟩ rfl gn fun qb9 D =>
        j_ic (pc := 228) D rfl fun D =>
        j_iadd (pc := 229) D rfl fun D =>
        j_as (pc := 230) (a := 627) (e := 10) D rfl ⟨rfl, rfl⟩ rfl (by decide) (s0_627 H) (s1_627 H) ⟨rfl, rfl, rfl⟩ rfl (gy qb9) (gy rfl) fun h10 eh10 S q D =>
        have T := fj_hs_ok H.1 S
        have H := shp_st H T
        have D : fk_D 532 [(231, none, .aload_n 0, 1, 0, 0, 0), (232, none, .bipush 125, 2, 0, 125, 0), (234, none, .invokevirtual 564, 3, 1, 350, 1), (237, none, .ifCond .eq (-198), 3, 39, 0, 0), (240, none, .aload_n 0, 1, 0, 0, 0), (241, none, .invokevirtual 567, 3, 0, 351, 0), (244, none, .return_, 1, 0, 0, 0)] := fq_of2 cd_532 ow_532 cl_532 rfl (pc := 231) (by decide +kernel)
        j_aldn (pc := 231) D rfl rfl rfl fun D =>
        j_bp (pc := 232) D rfl fun D =>
        j_iv (pc := 234) (m := 506) (dd := 350) (a := [(0, 125)]) (rest := []) D rfl rfl rfl rfl rfl (by decide) (s0_602 H) (by decide +kernel) (fun v12 h11 e1 D =>
          have T := fj_run_ok _ _ _ _ _ _ H.1 e1
          have H := shp_st H T
          j_ifeq (pc := 237) D rfl (fun q =>
            fk_jump cut_532_39 rfl rfl) (fun q D =>
            j_aldn (pc := 240) D rfl rfl rfl fun D =>
            j_ivv (pc := 241) (m := 502) (dd := 351) (a := []) (rest := []) D rfl rfl rfl rfl rfl (by decide) (s0_602 H) (by decide +kernel) (fun h14 e1 D =>
              have T := fj_run_ok _ _ _ _ _ _ H.1 e1
              have H := shp_st H T
              j_vret D rt_532) (fun q16 h14 e1 =>
              j_tx (hx_532 _)))) (fun q13 h11 e1 =>
          j_tx (hx_532 _))) (fun q7 h5 e1 =>
        j_tx (hx_532 _))) (fun m4 q3 h1 e1 =>
      j_tx (hx_532 _))
theorem m_532 (d : Nat) (x1 : Int) {h : fi_H} (H : Shp h) : fj_run (d + 1) 532 h [(4, 602), (0, x1)] =
  ca_ (fj_run d 533 h [(4, 602)]) 0
    (fun v2 h1 =>
    cv_ (fj_run d 502 h1 [(4, 602)])
      (fun h4 =>
      if 0 ≤ x1 ∧ x1 < 560 then
      lt_ (fi_upd h4 10 625 x1.toNat v2) fun h7 =>
      lt_ (fi_upd h7 10 626 x1.toNat (h7 439 602 0)) fun h9 =>
      lt_ (fi_upd h9 10 627 x1.toNat 0) fun h10 =>
      cv_ (fj_run d 505 h10 [(4, 602), (0, 123)])
        (fun h11 =>
        c_532_39 d x1 v2 h11)
        (fun q13 h11 => tx_ q13 h11)
      else none)
      (fun q6 h4 => tx_ q6 h4))
    (fun q3 h1 => tx_ q3 h1) := by
  rw [fj_run_eq d (by decide) h [(4, 602), (0, x1)] (Nat.le_of_ble_eq_true (by rw [nl_532]; rfl))]
  show gG (fj_run d) 532 0 [(0, (4, 602)), (1, (0, x1))] [] h = _
  exact
    have D : fk_D 532 [(0, none, .aload_n 0, 1, 0, 0, 0), (1, none, .invokevirtual 764, 3, 0, 390, 1), (4, none, .istore_n 2, 1, 0, 0, 0), (5, none, .aload_n 0, 1, 0, 0, 0), (6, none, .invokevirtual 567, 3, 0, 351, 0), (9, none, .aload_n 0, 1, 0, 0, 0), (10, none, .getfield 86, 3, 428, 129, 12), (13, none, .iload_n 1, 1, 0, 0, 0), (14, none, .iload_n 2, 1, 0, 0, 0), (15, none, .iastore, 1, 0, 0, 0), (16, none, .aload_n 0, 1, 0, 0, 0), (17, none, .getfield 89, 3, 429, 129, 12), (20, none, .iload_n 1, 1, 0, 0, 0), (21, none, .aload_n 0, 1, 0, 0, 0), (22, none, .getfield 815, 3, 439, 129, 10), (25, none, .iastore, 1, 0, 0, 0), (26, none, .aload_n 0, 1, 0, 0, 0), (27, none, .getfield 92, 3, 430, 129, 12), (30, none, .iload_n 1, 1, 0, 0, 0), (31, none, .iconst 0, 1, 0, 0, 0)] := fq_of2 cd_532 ow_532 cl_532 rfl (pc := 0) (by decide +kernel)
    j_aldn (pc := 0) D rfl rfl rfl fun D =>
    j_iv (pc := 1) (m := 533) (dd := 390) (a := []) (rest := []) D rfl rfl rfl rfl rfl (by decide) (s0_602 H) (by decide +kernel) (fun v2 h1 e1 D =>
      have T := fj_run_ok _ _ _ _ _ _ H.1 e1
      have H := shp_st H T
      j_istn (pc := 4) (L' := [(2, (0, v2)), (0, (4, 602)), (1, (0, x1))]) D rfl nl_532 rfl rfl fun D =>
      j_aldn (pc := 5) D rfl rfl rfl fun D =>
      j_ivv (pc := 6) (m := 502) (dd := 351) (a := []) (rest := []) D rfl rfl rfl rfl rfl (by decide) (s0_602 H) (by decide +kernel) (fun h4 e1 D =>
        have T := fj_run_ok _ _ _ _ _ _ H.1 e1
        have H := shp_st H T
        j_aldn (pc := 9) D rfl rfl rfl fun D =>
        j_gfc (pc := 10) (a := 602) D rfl rfl (by decide) rfl (s0_602 H) rfl (sf_428_602 H) fun D =>
        j_ildn (pc := 13) D rfl rfl rfl fun D =>
        j_ildn (pc := 14) D rfl rfl rfl fun D =>
        j_as (pc := 15) (a := 625) (e := 10) D rfl ⟨rfl, rfl⟩ rfl (by decide) (s0_625 H) (s1_625 H) ⟨rfl, rfl, rfl⟩ rfl gn (gy rfl) fun h7 eh7 S qb8 D =>
        have T := fj_hs_ok H.1 S
        have H := shp_st H T
        j_aldn (pc := 16) D rfl rfl rfl fun D =>
        j_gfc (pc := 17) (a := 602) D rfl rfl (by decide) rfl (s0_602 H) rfl (sf_429_602 H) fun D =>
        j_ildn (pc := 20) D rfl rfl rfl fun D =>
        j_aldn (pc := 21) D rfl rfl rfl fun D =>
        j_gf (pc := 22) (a := 602) D rfl rfl (by decide) rfl (s0_602 H) rfl fun D =>
        j_as (pc := 25) (a := 626) (e := 10) D rfl ⟨rfl, rfl⟩ rfl (by decide) (s0_626 H) (s1_626 H) ⟨rfl, rfl, rfl⟩ rfl (gy qb8) (gy rfl) fun h9 eh9 S q D =>
        have T := fj_hs_ok H.1 S
        have H := shp_st H T
        j_aldn (pc := 26) D rfl rfl rfl fun D =>
        j_gfc (pc := 27) (a := 602) D rfl rfl (by decide) rfl (s0_602 H) rfl (sf_430_602 H) fun D =>
        j_ildn (pc := 30) D rfl rfl rfl fun D =>
        j_ic (pc := 31) D rfl fun D =>
        have D : fk_D 532 [(32, none, .iastore, 1, 0, 0, 0), (33, none, .aload_n 0, 1, 0, 0, 0), (34, none, .bipush 123, 2, 0, 123, 0), (36, none, .invokevirtual 624, 3, 1, 356, 0)] := fq_of2 cd_532 ow_532 cl_532 rfl (pc := 32) (by decide +kernel)
        j_as (pc := 32) (a := 627) (e := 10) D rfl ⟨rfl, rfl⟩ rfl (by decide) (s0_627 H) (s1_627 H) ⟨rfl, rfl, rfl⟩ rfl (gy qb8) (gy rfl) fun h10 eh10 S q D =>
        have T := fj_hs_ok H.1 S
        have H := shp_st H T
        j_aldn (pc := 33) D rfl rfl rfl fun D =>
        j_bp (pc := 34) D rfl fun D =>
        j_ivv (pc := 36) (m := 505) (dd := 356) (a := [(0, 123)]) (rest := []) D rfl rfl rfl rfl rfl (by decide) (s0_602 H) (by decide +kernel) (fun h11 e1 D =>
          have T := fj_run_ok _ _ _ _ _ _ H.1 e1
          have H := shp_st H T
          fk_jump cut_532_39 rfl rfl) (fun q13 h11 e1 =>
          j_tx (hx_532 _))) (fun q6 h4 e1 =>
        j_tx (hx_532 _))) (fun q3 h1 e1 =>
      j_tx (hx_532 _))
/-! 533 StatuteHouseModel.tableHere()I -/
theorem cd_533 : fi_code 533 = prog_69_method_71_code := rfl
theorem hx_533 : ∀ pc, fi_hat 533 pc = none := fun pc => by unfold fi_hat; rw [show fi_hh 533 = [] from rfl]; rfl
theorem rt_533 : fi_ret 533 = some .int := rfl
theorem nl_533 : fi_nl 533 = 2 := rfl
theorem ow_533 : fi_ow 533 = 29 := rfl
theorem cl_533 : fj_cutT.getD 533 [] = [(14, [0]), (47, [0, 1]), (48, [0, 1])] := rfl
theorem cut_533_14 : fj_cut 533 14 = some [0] := by decide +kernel
noncomputable def c_533_14 (d : Nat) (s0 s1 : Int) (h : fi_H) : fk_R := gG (fj_run d) 533 14 [(0, (4, 602))] [(0, s1), (4, s0)] h
theorem cut_533_47 : fj_cut 533 47 = some [0, 1] := by decide +kernel
noncomputable def c_533_47 (d : Nat) (x1 s0 : Int) (h : fi_H) : fk_R := gG (fj_run d) 533 47 [(0, (4, 602)), (1, (0, x1))] [(4, s0)] h
theorem cut_533_48 : fj_cut 533 48 = some [0, 1] := by decide +kernel
noncomputable def c_533_48 (d : Nat) (x1 s0 s1 : Int) (h : fi_H) : fk_R := gG (fj_run d) 533 48 [(0, (4, 602)), (1, (0, x1))] [(0, s1), (4, s0)] h
theorem e_533_14 (d : Nat) (s0 s1 : Int) {h : fi_H} (H : Shp h) : c_533_14 d s0 s1 h =
  dv_ (fi_vt 348 (h 0 s0.toNat 0)) fun m4 => cv_ (fj_run d m4 h [(4, s0), (0, s1), (0, 1), (0, h 396 602 0)])
    (fun h1 =>
    ca_ (fj_run d 504 h1 [(4, 602)]) 0
      (fun v6 h5 =>
      if v6 = (-1) then
        c_533_47 d v6 602 h5
      else
        if 0 ≤ v6 ∧ v6 < 41 then
        if h5 10 610 v6.toNat = 2 then
          c_533_48 d v6 602 1 h5
        else
          c_533_47 d v6 602 h5
        else none)
      (fun q7 h5 => tx_ q7 h5))
    (fun q3 h1 => tx_ q3 h1) := by
  unfold c_533_14
  exact
    have D : fk_D 533 [(14, some [0], .iconst 1, 1, 0, 1, 0), (15, none, .aload_n 0, 1, 0, 0, 0), (16, none, .getfield 507, 3, 396, 129, 10), (19, none, .invokevirtual 557, 3, 3, 348, 0), (22, none, .aload_n 0, 1, 0, 0, 0), (23, none, .invokevirtual 621, 3, 0, 355, 1), (26, none, .istore_n 1, 1, 0, 0, 0), (27, none, .aload_n 0, 1, 0, 0, 0), (28, none, .iload_n 1, 1, 0, 0, 0), (29, none, .iconst (-1), 1, 0, (-1), 0), (30, none, .if_icmp .eq 17, 3, 47, 0, 0), (33, none, .aload_n 0, 1, 0, 0, 0), (34, none, .getfield 40, 3, 406, 129, 12), (37, none, .iload_n 1, 1, 0, 0, 0), (38, none, .iaload, 1, 0, 0, 0), (39, none, .iconst 2, 1, 0, 2, 0), (40, none, .if_icmp .ne 7, 3, 47, 0, 0), (43, none, .iconst 1, 1, 0, 1, 0), (44, none, .goto 4, 3, 48, 0, 0)] := fq_of2 cd_533 ow_533 cl_533 rfl (pc := 14) (by decide +kernel)
    j_ic (pc := 14) D rfl fun D =>
    j_aldn (pc := 15) D rfl rfl rfl fun D =>
    j_gf (pc := 16) (a := 602) D rfl rfl (by decide) rfl (s0_602 H) rfl fun D =>
    j_ivuv (pc := 19) (dd := 348) (a := [(0, s1), (0, 1), (0, h 396 602 0)]) (rest := []) H.2.1 D rfl rfl rfl rfl rfl (fun m4 h1 e1 D =>
      have T := fj_run_ok _ _ _ _ _ _ H.1 e1
      have H := shp_st H T
      j_aldn (pc := 22) D rfl rfl rfl fun D =>
      j_iv (pc := 23) (m := 504) (dd := 355) (a := []) (rest := []) D rfl rfl rfl rfl rfl (by decide) (s0_602 H) (by decide +kernel) (fun v6 h5 e1 D =>
        have T := fj_run_ok _ _ _ _ _ _ H.1 e1
        have H := shp_st H T
        j_istn (pc := 26) (L' := [(1, (0, v6)), (0, (4, 602))]) D rfl nl_533 rfl rfl fun D =>
        j_aldn (pc := 27) D rfl rfl rfl fun D =>
        j_ildn (pc := 28) D rfl rfl rfl fun D =>
        j_ic (pc := 29) D rfl fun D =>
        j_ieq (pc := 30) D rfl (fun q =>
          fk_jump cut_533_47 rfl rfl) (fun q D =>
          j_aldn (pc := 33) D rfl rfl rfl fun D =>
          j_gfc (pc := 34) (a := 602) D rfl rfl (by decide) rfl (s0_602 H) rfl (sf_406_602 H) fun D =>
          j_ildn (pc := 37) D rfl rfl rfl fun D =>
          j_al (pc := 38) (a := 610) (e := 10) D rfl rfl rfl (by decide) (s0_610 H) (s1_610 H) ⟨rfl, rfl, rfl⟩ rfl gn fun qb8 D =>
          j_ic (pc := 39) D rfl fun D =>
          j_ine (pc := 40) D rfl (fun q D =>
            j_ic (pc := 43) D rfl fun D =>
            j_goto (pc := 44) D rfl <|
            fk_jump cut_533_48 rfl rfl) (fun q =>
            fk_jump cut_533_47 rfl rfl))) (fun q7 h5 e1 =>
        j_tx (hx_533 _))) (fun m4 q3 h1 e1 =>
      j_tx (hx_533 _))
theorem e_533_47 (d : Nat) (x1 s0 : Int) {h : fi_H} (H : Shp h) : c_533_47 d x1 s0 h =
  c_533_48 d x1 s0 0 h := by
  unfold c_533_47
  exact
    have D : fk_D 533 [(47, some [0, 1], .iconst 0, 1, 0, 0, 0)] := fq_of2 cd_533 ow_533 cl_533 rfl (pc := 47) (by decide +kernel)
    j_ic (pc := 47) D rfl fun D =>
    fk_jump cut_533_48 rfl rfl
theorem e_533_48 (d : Nat) (x1 s0 s1 : Int) {h : fi_H} (H : Shp h) : c_533_48 d x1 s0 s1 h =
  dv_ (fi_vt 348 (h 0 s0.toNat 0)) fun m4 => cv_ (fj_run d m4 h [(4, s0), (0, s1), (0, 2), (0, h 396 602 0)])
    (fun h1 =>
    some (.inl (some (0, x1)), h1))
    (fun q3 h1 => tx_ q3 h1) := by
  unfold c_533_48
  exact
    have D : fk_D 533 [(48, some [0, 1], .iconst 2, 1, 0, 2, 0), (49, none, .aload_n 0, 1, 0, 0, 0), (50, none, .getfield 507, 3, 396, 129, 10), (53, none, .invokevirtual 557, 3, 3, 348, 0), (56, none, .iload_n 1, 1, 0, 0, 0), (57, none, .ireturn, 1, 0, 0, 0)] := fq_of2 cd_533 ow_533 cl_533 rfl (pc := 48) (by decide +kernel)
    j_ic (pc := 48) D rfl fun D =>
    j_aldn (pc := 49) D rfl rfl rfl fun D =>
    j_gf (pc := 50) (a := 602) D rfl rfl (by decide) rfl (s0_602 H) rfl fun D =>
    j_ivuv (pc := 53) (dd := 348) (a := [(0, s1), (0, 2), (0, h 396 602 0)]) (rest := []) H.2.1 D rfl rfl rfl rfl rfl (fun m4 h1 e1 D =>
      have T := fj_run_ok _ _ _ _ _ _ H.1 e1
      have H := shp_st H T
      j_ildn (pc := 56) D rfl rfl rfl fun D =>
      j_iret D rt_533) (fun m4 q3 h1 e1 =>
      j_tx (hx_533 _))
theorem m_533 (d : Nat) {h : fi_H} (H : Shp h) : fj_run (d + 1) 533 h [(4, 602)] =
  if h 394 602 0 = 1 then
    c_533_14 d 602 1 h
  else
    c_533_14 d 602 0 h := by
  rw [fj_run_eq d (by decide) h [(4, 602)] (Nat.le_of_ble_eq_true (by rw [nl_533]; rfl))]
  show gG (fj_run d) 533 0 [(0, (4, 602))] [] h = _
  exact
    have D : fk_D 533 [(0, none, .aload_n 0, 1, 0, 0, 0), (1, none, .aload_n 0, 1, 0, 0, 0), (2, none, .getfield 513, 3, 394, 129, 10), (5, none, .iconst 1, 1, 0, 1, 0), (6, none, .if_icmp .ne 7, 3, 13, 0, 0), (9, none, .iconst 1, 1, 0, 1, 0), (10, none, .goto 4, 3, 14, 0, 0)] := fq_of2 cd_533 ow_533 cl_533 rfl (pc := 0) (by decide +kernel)
    j_aldn (pc := 0) D rfl rfl rfl fun D =>
    j_aldn (pc := 1) D rfl rfl rfl fun D =>
    j_gf (pc := 2) (a := 602) D rfl rfl (by decide) rfl (s0_602 H) rfl fun D =>
    j_ic (pc := 5) D rfl fun D =>
    j_ine (pc := 6) D rfl (fun q D =>
      j_ic (pc := 9) D rfl fun D =>
      j_goto (pc := 10) D rfl <|
      fk_jump cut_533_14 rfl rfl) (fun q =>
      have D : fk_D 533 [(13, none, .iconst 0, 1, 0, 0, 0)] := fq_of2 cd_533 ow_533 cl_533 rfl (pc := 13) (by decide +kernel)
      j_ic (pc := 13) D rfl fun D =>
      fk_jump cut_533_14 rfl rfl)
/-! 534 StatuteHouseModel.readWorth()I -/
theorem cd_534 : fi_code 534 = prog_69_method_87_code := rfl
theorem hx_534 : ∀ pc, fi_hat 534 pc = none := fun pc => by unfold fi_hat; rw [show fi_hh 534 = [] from rfl]; rfl
theorem rt_534 : fi_ret 534 = some .int := rfl
theorem nl_534 : fi_nl 534 = 6 := rfl
theorem ow_534 : fi_ow 534 = 29 := rfl
theorem cl_534 : fj_cutT.getD 534 [] = [(17, [0]), (22, [0]), (55, [0]), (121, [0, 1, 2]), (135, [0, 1, 2]), (192, [])] := rfl
theorem cut_534_17 : fj_cut 534 17 = some [0] := by decide +kernel
noncomputable def c_534_17 (d : Nat) (s0 : Int) (h : fi_H) : fk_R := gG (fj_run d) 534 17 [(0, (4, 602))] [(4, s0)] h
theorem cut_534_22 : fj_cut 534 22 = some [0] := by decide +kernel
noncomputable def c_534_22 (d : Nat) (s0 s1 : Int) (h : fi_H) : fk_R := gG (fj_run d) 534 22 [(0, (4, 602))] [(0, s1), (4, s0)] h
theorem cut_534_55 : fj_cut 534 55 = some [0] := by decide +kernel
noncomputable def c_534_55 (d : Nat) (s0 s1 : Int) (h : fi_H) : fk_R := gG (fj_run d) 534 55 [(0, (4, 602))] [(0, s1), (4, s0)] h
theorem cut_534_121 : fj_cut 534 121 = some [0, 1, 2] := by decide +kernel
noncomputable def c_534_121 (d : Nat) (x1 x2 : Int) (h : fi_H) : fk_R := gG (fj_run d) 534 121 [(0, (4, 602)), (1, (0, x1)), (2, (1, x2))] [] h
theorem cut_534_135 : fj_cut 534 135 = some [0, 1, 2] := by decide +kernel
noncomputable def c_534_135 (d : Nat) (x1 x2 s0 s1 : Int) (h : fi_H) : fk_R := gG (fj_run d) 534 135 [(0, (4, 602)), (1, (0, x1)), (2, (1, x2))] [(0, s1), (4, s0)] h
theorem cut_534_192 : fj_cut 534 192 = some [] := by decide +kernel
noncomputable def c_534_192 (d : Nat) (h : fi_H) : fk_R := gG (fj_run d) 534 192 [] [] h
theorem e_534_17 (d : Nat) (s0 : Int) {h : fi_H} (H : Shp h) : c_534_17 d s0 h =
  c_534_22 d s0 1 h := by
  unfold c_534_17
  exact
    have D : fk_D 534 [(17, some [0], .iconst 1, 1, 0, 1, 0), (18, none, .goto 4, 3, 22, 0, 0)] := fq_of2 cd_534 ow_534 cl_534 rfl (pc := 17) (by decide +kernel)
    j_ic (pc := 17) D rfl fun D =>
    j_goto (pc := 18) D rfl <|
    fk_jump cut_534_22 rfl rfl
theorem e_534_22 (d : Nat) (s0 s1 : Int) {h : fi_H} (H : Shp h) : c_534_22 d s0 s1 h =
  dv_ (fi_vt 348 (h 0 s0.toNat 0)) fun m4 => cv_ (fj_run d m4 h [(4, s0), (0, s1), (0, 1), (0, h 396 602 0)])
    (fun h1 =>
    if h1 394 602 0 = 4 then
      if 0 < lc_ (h1 399 602 0) 999999999 then
        c_534_55 d 602 0 h1
      else
        c_534_55 d 602 1 h1
    else
      cv_ (fj_run d 502 h1 [(4, 602)])
        (fun h5 =>
        ca_ (fj_run d 506 h5 [(4, 602), (0, 37)]) 0
          (fun v9 h8 =>
          cv_ (fj_run d 500 h8 [(4, 602), (0, v9), (0, 1), (0, h8 396 602 0)])
            (fun h11 =>
            c_534_121 d (h1 396 602 0) (h1 399 602 0) h11)
            (fun q13 h11 => tx_ q13 h11))
          (fun q10 h8 => tx_ q10 h8))
        (fun q7 h5 => tx_ q7 h5))
    (fun q3 h1 => tx_ q3 h1) := by
  unfold c_534_22
  exact
    have D : fk_D 534 [(22, some [0], .iconst 1, 1, 0, 1, 0), (23, none, .aload_n 0, 1, 0, 0, 0), (24, none, .getfield 507, 3, 396, 129, 10), (27, none, .invokevirtual 557, 3, 3, 348, 0), (30, none, .aload_n 0, 1, 0, 0, 0), (31, none, .getfield 513, 3, 394, 129, 10), (34, none, .iconst 4, 1, 0, 4, 0), (35, none, .if_icmp .ne 57, 3, 92, 0, 0), (38, none, .aload_n 0, 1, 0, 0, 0), (39, none, .aload_n 0, 1, 0, 0, 0), (40, none, .getfield 550, 3, 399, 129, 11), (43, none, .ldc2_w 638, 3, 1, 999999999, 0), (46, none, .lcmp, 1, 0, 0, 0), (47, none, .ifCond .gt 7, 3, 54, 0, 0), (50, none, .iconst 1, 1, 0, 1, 0), (51, none, .goto 4, 3, 55, 0, 0)] := fq_of2 cd_534 ow_534 cl_534 rfl (pc := 22) (by decide +kernel)
    j_ic (pc := 22) D rfl fun D =>
    j_aldn (pc := 23) D rfl rfl rfl fun D =>
    j_gf (pc := 24) (a := 602) D rfl rfl (by decide) rfl (s0_602 H) rfl fun D =>
    j_ivuv (pc := 27) (dd := 348) (a := [(0, s1), (0, 1), (0, h 396 602 0)]) (rest := []) H.2.1 D rfl rfl rfl rfl rfl (fun m4 h1 e1 D =>
      have T := fj_run_ok _ _ _ _ _ _ H.1 e1
      have H := shp_st H T
      j_aldn (pc := 30) D rfl rfl rfl fun D =>
      j_gf (pc := 31) (a := 602) D rfl rfl (by decide) rfl (s0_602 H) rfl fun D =>
      j_ic (pc := 34) D rfl fun D =>
      j_ine (pc := 35) D rfl (fun q D =>
        j_aldn (pc := 38) D rfl rfl rfl fun D =>
        j_aldn (pc := 39) D rfl rfl rfl fun D =>
        j_gf (pc := 40) (a := 602) D rfl rfl (by decide) rfl (s0_602 H) rfl fun D =>
        j_ldc2 (pc := 43) D rfl fun D =>
        j_lcmp (pc := 46) D rfl fun D =>
        j_ifgt (pc := 47) D rfl (fun q =>
          have D : fk_D 534 [(54, none, .iconst 0, 1, 0, 0, 0)] := fq_of2 cd_534 ow_534 cl_534 rfl (pc := 54) (by decide +kernel)
          j_ic (pc := 54) D rfl fun D =>
          fk_jump cut_534_55 rfl rfl) (fun q D =>
          j_ic (pc := 50) D rfl fun D =>
          j_goto (pc := 51) D rfl <|
          fk_jump cut_534_55 rfl rfl)) (fun q =>
        have D : fk_D 534 [(92, none, .aload_n 0, 1, 0, 0, 0), (93, none, .getfield 507, 3, 396, 129, 10), (96, none, .istore_n 1, 1, 0, 0, 0), (97, none, .aload_n 0, 1, 0, 0, 0), (98, none, .getfield 550, 3, 399, 129, 11), (101, none, .lstore_n 2, 1, 0, 0, 0), (102, none, .aload_n 0, 1, 0, 0, 0), (103, none, .invokevirtual 567, 3, 0, 351, 0), (106, none, .aload_n 0, 1, 0, 0, 0), (107, none, .aload_n 0, 1, 0, 0, 0), (108, none, .bipush 37, 2, 0, 37, 0), (110, none, .invokevirtual 564, 3, 1, 350, 1), (113, none, .iconst 1, 1, 0, 1, 0), (114, none, .aload_n 0, 1, 0, 0, 0), (115, none, .getfield 507, 3, 396, 129, 10), (118, none, .invokevirtual 557, 3, 3, 348, 0)] := fq_of2 cd_534 ow_534 cl_534 rfl (pc := 92) (by decide +kernel)
        j_aldn (pc := 92) D rfl rfl rfl fun D =>
        j_gf (pc := 93) (a := 602) D rfl rfl (by decide) rfl (s0_602 H) rfl fun D =>
        j_istn (pc := 96) (L' := [(1, (0, h1 396 602 0)), (0, (4, 602))]) D rfl nl_534 rfl rfl fun D =>
        j_aldn (pc := 97) D rfl rfl rfl fun D =>
        j_gf (pc := 98) (a := 602) D rfl rfl (by decide) rfl (s0_602 H) rfl fun D =>
        j_lstn (pc := 101) (L' := [(2, (1, h1 399 602 0)), (1, (0, h1 396 602 0)), (0, (4, 602))]) D rfl nl_534 rfl rfl fun D =>
        j_aldn (pc := 102) D rfl rfl rfl fun D =>
        j_ivv (pc := 103) (m := 502) (dd := 351) (a := []) (rest := []) D rfl rfl rfl rfl rfl (by decide) (s0_602 H) (by decide +kernel) (fun h5 e1 D =>
          have T := fj_run_ok _ _ _ _ _ _ H.1 e1
          have H := shp_st H T
          j_aldn (pc := 106) D rfl rfl rfl fun D =>
          j_aldn (pc := 107) D rfl rfl rfl fun D =>
          j_bp (pc := 108) D rfl fun D =>
          j_iv (pc := 110) (m := 506) (dd := 350) (a := [(0, 37)]) (rest := [(4, 602)]) D rfl rfl rfl rfl rfl (by decide) (s0_602 H) (by decide +kernel) (fun v9 h8 e1 D =>
            have T := fj_run_ok _ _ _ _ _ _ H.1 e1
            have H := shp_st H T
            j_ic (pc := 113) D rfl fun D =>
            j_aldn (pc := 114) D rfl rfl rfl fun D =>
            j_gf (pc := 115) (a := 602) D rfl rfl (by decide) rfl (s0_602 H) rfl fun D =>
            j_ivv (pc := 118) (m := 500) (dd := 348) (a := [(0, v9), (0, 1), (0, h8 396 602 0)]) (rest := []) D rfl rfl rfl rfl rfl (by decide) (s0_602 H) (by decide +kernel) (fun h11 e1 D =>
              have T := fj_run_ok _ _ _ _ _ _ H.1 e1
              have H := shp_st H T
              fk_jump cut_534_121 rfl rfl) (fun q13 h11 e1 =>
              j_tx (hx_534 _))) (fun q10 h8 e1 =>
            j_tx (hx_534 _))) (fun q7 h5 e1 =>
          j_tx (hx_534 _)))) (fun m4 q3 h1 e1 =>
      j_tx (hx_534 _))
theorem e_534_55 (d : Nat) (s0 s1 : Int) {h : fi_H} (H : Shp h) : c_534_55 d s0 s1 h =
  dv_ (fi_vt 348 (h 0 s0.toNat 0)) fun m4 => cv_ (fj_run d m4 h [(4, s0), (0, s1), (0, 3), (0, h 396 602 0)])
    (fun h1 =>
    if 0 ≤ h1 439 602 0 ∧ h1 439 602 0 < 440 then
    lt_ (fi_upd h1 11 632 (h1 439 602 0).toNat (h1 399 602 0)) fun h5 =>
    if 0 ≤ h5 439 602 0 ∧ h5 439 602 0 < 440 then
    lt_ (fi_upd h5 11 633 (h5 439 602 0).toNat 0) fun h7 =>
    cv_ (fj_run d 502 h7 [(4, 602)])
      (fun h9 =>
      some (.inl (some (0, 2)), h9))
      (fun q11 h9 => tx_ q11 h9)
    else none
    else none)
    (fun q3 h1 => tx_ q3 h1) := by
  unfold c_534_55
  exact
    have D : fk_D 534 [(55, some [0], .iconst 3, 1, 0, 3, 0), (56, none, .aload_n 0, 1, 0, 0, 0), (57, none, .getfield 507, 3, 396, 129, 10), (60, none, .invokevirtual 557, 3, 3, 348, 0), (63, none, .aload_n 0, 1, 0, 0, 0), (64, none, .getfield 107, 3, 436, 129, 12), (67, none, .aload_n 0, 1, 0, 0, 0), (68, none, .getfield 815, 3, 439, 129, 10), (71, none, .aload_n 0, 1, 0, 0, 0), (72, none, .getfield 550, 3, 399, 129, 11), (75, none, .lastore, 1, 0, 0, 0), (76, none, .aload_n 0, 1, 0, 0, 0), (77, none, .getfield 110, 3, 437, 129, 12), (80, none, .aload_n 0, 1, 0, 0, 0), (81, none, .getfield 815, 3, 439, 129, 10), (84, none, .lconst 0, 1, 0, 0, 0), (85, none, .lastore, 1, 0, 0, 0), (86, none, .aload_n 0, 1, 0, 0, 0), (87, none, .invokevirtual 567, 3, 0, 351, 0), (90, none, .iconst 2, 1, 0, 2, 0)] := fq_of2 cd_534 ow_534 cl_534 rfl (pc := 55) (by decide +kernel)
    j_ic (pc := 55) D rfl fun D =>
    j_aldn (pc := 56) D rfl rfl rfl fun D =>
    j_gf (pc := 57) (a := 602) D rfl rfl (by decide) rfl (s0_602 H) rfl fun D =>
    j_ivuv (pc := 60) (dd := 348) (a := [(0, s1), (0, 3), (0, h 396 602 0)]) (rest := []) H.2.1 D rfl rfl rfl rfl rfl (fun m4 h1 e1 D =>
      have T := fj_run_ok _ _ _ _ _ _ H.1 e1
      have H := shp_st H T
      j_aldn (pc := 63) D rfl rfl rfl fun D =>
      j_gfc (pc := 64) (a := 602) D rfl rfl (by decide) rfl (s0_602 H) rfl (sf_436_602 H) fun D =>
      j_aldn (pc := 67) D rfl rfl rfl fun D =>
      j_gf (pc := 68) (a := 602) D rfl rfl (by decide) rfl (s0_602 H) rfl fun D =>
      j_aldn (pc := 71) D rfl rfl rfl fun D =>
      j_gf (pc := 72) (a := 602) D rfl rfl (by decide) rfl (s0_602 H) rfl fun D =>
      j_as (pc := 75) (a := 632) (e := 11) D rfl ⟨rfl, rfl⟩ rfl (by decide) (s0_632 H) (s1_632 H) ⟨rfl, rfl, rfl⟩ rfl gn (gy rfl) fun h5 eh5 S qb6 D =>
      have T := fj_hs_ok H.1 S
      have H := shp_st H T
      j_aldn (pc := 76) D rfl rfl rfl fun D =>
      j_gfc (pc := 77) (a := 602) D rfl rfl (by decide) rfl (s0_602 H) rfl (sf_437_602 H) fun D =>
      j_aldn (pc := 80) D rfl rfl rfl fun D =>
      j_gf (pc := 81) (a := 602) D rfl rfl (by decide) rfl (s0_602 H) rfl fun D =>
      j_c0 (pc := 84) (v := (1, 0)) D rfl rfl (by decide +kernel) fun D =>
      j_as (pc := 85) (a := 633) (e := 11) D rfl ⟨rfl, rfl⟩ rfl (by decide) (s0_633 H) (s1_633 H) ⟨rfl, rfl, rfl⟩ rfl gn (gy rfl) fun h7 eh7 S qb8 D =>
      have T := fj_hs_ok H.1 S
      have H := shp_st H T
      j_aldn (pc := 86) D rfl rfl rfl fun D =>
      j_ivv (pc := 87) (m := 502) (dd := 351) (a := []) (rest := []) D rfl rfl rfl rfl rfl (by decide) (s0_602 H) (by decide +kernel) (fun h9 e1 D =>
        have T := fj_run_ok _ _ _ _ _ _ H.1 e1
        have H := shp_st H T
        j_ic (pc := 90) D rfl fun D =>
        have D : fk_D 534 [(91, none, .ireturn, 1, 0, 0, 0)] := fq_of2 cd_534 ow_534 cl_534 rfl (pc := 91) (by decide +kernel)
        j_iret D rt_534) (fun q11 h9 e1 =>
        j_tx (hx_534 _))) (fun m4 q3 h1 e1 =>
      j_tx (hx_534 _))
theorem e_534_121 (d : Nat) (x1 x2 : Int) {h : fi_H} (H : Shp h) : c_534_121 d x1 x2 h =
  if 0 < lc_ x2 10000 then
    c_534_135 d x1 x2 602 0 h
  else
    c_534_135 d x1 x2 602 1 h := by
  unfold c_534_121
  exact
    have D : fk_D 534 [(121, some [0, 1, 2], .aload_n 0, 1, 0, 0, 0), (122, none, .lload_n 2, 1, 0, 0, 0), (123, none, .ldc2_w 553, 3, 1, 10000, 0), (126, none, .lcmp, 1, 0, 0, 0), (127, none, .ifCond .gt 7, 3, 134, 0, 0), (130, none, .iconst 1, 1, 0, 1, 0), (131, none, .goto 4, 3, 135, 0, 0)] := fq_of2 cd_534 ow_534 cl_534 rfl (pc := 121) (by decide +kernel)
    j_aldn (pc := 121) D rfl rfl rfl fun D =>
    j_lldn (pc := 122) D rfl rfl rfl fun D =>
    j_ldc2 (pc := 123) D rfl fun D =>
    j_lcmp (pc := 126) D rfl fun D =>
    j_ifgt (pc := 127) D rfl (fun q =>
      have D : fk_D 534 [(134, none, .iconst 0, 1, 0, 0, 0)] := fq_of2 cd_534 ow_534 cl_534 rfl (pc := 134) (by decide +kernel)
      j_ic (pc := 134) D rfl fun D =>
      fk_jump cut_534_135 rfl rfl) (fun q D =>
      j_ic (pc := 130) D rfl fun D =>
      j_goto (pc := 131) D rfl <|
      fk_jump cut_534_135 rfl rfl)
theorem e_534_135 (d : Nat) (x1 x2 s0 s1 : Int) {h : fi_H} (H : Shp h) : c_534_135 d x1 x2 s0 s1 h =
  dv_ (fi_vt 348 (h 0 s0.toNat 0)) fun m4 => cv_ (fj_run d m4 h [(4, s0), (0, s1), (0, 3), (0, x1)])
    (fun h1 =>
    cv_ (fj_run d 502 h1 [(4, 602)])
      (fun h5 =>
      ca_ (fj_run d 514 h5 [(1, x2), (1, 100)]) 1
        (fun v9 h8 =>
        if v9 = 0 then none else
        if 0 ≤ h8 439 602 0 ∧ h8 439 602 0 < 440 then
        lt_ (fi_upd h8 11 632 (h8 439 602 0).toNat (lq_ x2 v9)) fun h11 =>
        if v9 = 0 then none else
        if 0 ≤ h11 439 602 0 ∧ h11 439 602 0 < 440 then
        lt_ (fi_upd h11 11 633 (h11 439 602 0).toNat (lq_ 100 v9)) fun h13 =>
        if 0 ≤ h13 439 602 0 ∧ h13 439 602 0 < 440 then
        lt_ (fi_upd h13 10 634 (h13 439 602 0).toNat (wI x2)) fun h15 =>
        c_534_192 d h15
        else none
        else none
        else none)
        (fun q10 h8 => tx_ q10 h8))
      (fun q7 h5 => tx_ q7 h5))
    (fun q3 h1 => tx_ q3 h1) := by
  unfold c_534_135
  exact
    have D : fk_D 534 [(135, some [0, 1, 2], .iconst 3, 1, 0, 3, 0), (136, none, .iload_n 1, 1, 0, 0, 0), (137, none, .invokevirtual 557, 3, 3, 348, 0), (140, none, .aload_n 0, 1, 0, 0, 0), (141, none, .invokevirtual 567, 3, 0, 351, 0), (144, none, .lload_n 2, 1, 0, 0, 0), (145, none, .ldc2_w 555, 3, 1, 100, 0), (148, none, .invokestatic 604, 3, 2, 514, 2), (151, none, .lstore 4, 2, 0, 0, 0), (153, none, .aload_n 0, 1, 0, 0, 0), (154, none, .getfield 107, 3, 436, 129, 12), (157, none, .aload_n 0, 1, 0, 0, 0), (158, none, .getfield 815, 3, 439, 129, 10), (161, none, .lload_n 2, 1, 0, 0, 0), (162, none, .lload 4, 2, 0, 0, 0), (164, none, .ldiv, 1, 0, 0, 0), (165, none, .lastore, 1, 0, 0, 0), (166, none, .aload_n 0, 1, 0, 0, 0), (167, none, .getfield 110, 3, 437, 129, 12), (170, none, .aload_n 0, 1, 0, 0, 0)] := fq_of2 cd_534 ow_534 cl_534 rfl (pc := 135) (by decide +kernel)
    j_ic (pc := 135) D rfl fun D =>
    j_ildn (pc := 136) D rfl rfl rfl fun D =>
    j_ivuv (pc := 137) (dd := 348) (a := [(0, s1), (0, 3), (0, x1)]) (rest := []) H.2.1 D rfl rfl rfl rfl rfl (fun m4 h1 e1 D =>
      have T := fj_run_ok _ _ _ _ _ _ H.1 e1
      have H := shp_st H T
      j_aldn (pc := 140) D rfl rfl rfl fun D =>
      j_ivv (pc := 141) (m := 502) (dd := 351) (a := []) (rest := []) D rfl rfl rfl rfl rfl (by decide) (s0_602 H) (by decide +kernel) (fun h5 e1 D =>
        have T := fj_run_ok _ _ _ _ _ _ H.1 e1
        have H := shp_st H T
        j_lldn (pc := 144) D rfl rfl rfl fun D =>
        j_ldc2 (pc := 145) D rfl fun D =>
        j_is (pc := 148) (m := 514) (a := [(1, x2), (1, 100)]) (rest := []) D rfl rfl rfl rfl (fun v9 h8 e1 D =>
          have T := fj_run_ok _ _ _ _ _ _ H.1 e1
          have H := shp_st H T
          j_lst (pc := 151) (L' := [(4, (1, v9)), (0, (4, 602)), (1, (0, x1)), (2, (1, x2))]) D rfl nl_534 rfl rfl fun D =>
          j_aldn (pc := 153) D rfl rfl rfl fun D =>
          j_gfc (pc := 154) (a := 602) D rfl rfl (by decide) rfl (s0_602 H) rfl (sf_436_602 H) fun D =>
          j_aldn (pc := 157) D rfl rfl rfl fun D =>
          j_gf (pc := 158) (a := 602) D rfl rfl (by decide) rfl (s0_602 H) rfl fun D =>
          j_lldn (pc := 161) D rfl rfl rfl fun D =>
          j_lld (pc := 162) D rfl rfl rfl fun D =>
          j_ldiv (pc := 164) D rfl fun q D =>
          j_as (pc := 165) (a := 632) (e := 11) D rfl ⟨rfl, rfl⟩ rfl (by decide) (s0_632 H) (s1_632 H) ⟨rfl, rfl, rfl⟩ rfl gn (gy rfl) fun h11 eh11 S qb12 D =>
          have T := fj_hs_ok H.1 S
          have H := shp_st H T
          j_aldn (pc := 166) D rfl rfl rfl fun D =>
          j_gfc (pc := 167) (a := 602) D rfl rfl (by decide) rfl (s0_602 H) rfl (sf_437_602 H) fun D =>
          j_aldn (pc := 170) D rfl rfl rfl fun D =>
          have D : fk_D 534 [(171, none, .getfield 815, 3, 439, 129, 10), (174, none, .ldc2_w 555, 3, 1, 100, 0), (177, none, .lload 4, 2, 0, 0, 0), (179, none, .ldiv, 1, 0, 0, 0), (180, none, .lastore, 1, 0, 0, 0), (181, none, .aload_n 0, 1, 0, 0, 0), (182, none, .getfield 113, 3, 438, 129, 12), (185, none, .aload_n 0, 1, 0, 0, 0), (186, none, .getfield 815, 3, 439, 129, 10), (189, none, .lload_n 2, 1, 0, 0, 0), (190, none, .l2i, 1, 0, 0, 0), (191, none, .iastore, 1, 0, 0, 0)] := fq_of2 cd_534 ow_534 cl_534 rfl (pc := 171) (by decide +kernel)
          j_gf (pc := 171) (a := 602) D rfl rfl (by decide) rfl (s0_602 H) rfl fun D =>
          j_ldc2 (pc := 174) D rfl fun D =>
          j_lld (pc := 177) D rfl rfl rfl fun D =>
          j_ldiv (pc := 179) D rfl fun q D =>
          j_as (pc := 180) (a := 633) (e := 11) D rfl ⟨rfl, rfl⟩ rfl (by decide) (s0_633 H) (s1_633 H) ⟨rfl, rfl, rfl⟩ rfl gn (gy rfl) fun h13 eh13 S qb14 D =>
          have T := fj_hs_ok H.1 S
          have H := shp_st H T
          j_aldn (pc := 181) D rfl rfl rfl fun D =>
          j_gfc (pc := 182) (a := 602) D rfl rfl (by decide) rfl (s0_602 H) rfl (sf_438_602 H) fun D =>
          j_aldn (pc := 185) D rfl rfl rfl fun D =>
          j_gf (pc := 186) (a := 602) D rfl rfl (by decide) rfl (s0_602 H) rfl fun D =>
          j_lldn (pc := 189) D rfl rfl rfl fun D =>
          j_l2i (pc := 190) D rfl fun D =>
          j_as (pc := 191) (a := 634) (e := 10) D rfl ⟨rfl, rfl⟩ rfl (by decide) (s0_634 H) (s1_634 H) ⟨rfl, rfl, rfl⟩ rfl gn (gy rfl) fun h15 eh15 S qb16 D =>
          have T := fj_hs_ok H.1 S
          have H := shp_st H T
          fk_jump cut_534_192 rfl rfl) (fun q10 h8 e1 =>
          j_tx (hx_534 _))) (fun q7 h5 e1 =>
        j_tx (hx_534 _))) (fun m4 q3 h1 e1 =>
      j_tx (hx_534 _))
theorem e_534_192 (d : Nat) {h : fi_H} (H : Shp h) : c_534_192 d h =
  some (.inl (some (0, 3)), h) := by
  unfold c_534_192
  exact
    have D : fk_D 534 [(192, some [], .iconst 3, 1, 0, 3, 0), (193, none, .ireturn, 1, 0, 0, 0)] := fq_of2 cd_534 ow_534 cl_534 rfl (pc := 192) (by decide +kernel)
    j_ic (pc := 192) D rfl fun D =>
    j_iret D rt_534
theorem m_534 (d : Nat) {h : fi_H} (H : Shp h) : fj_run (d + 1) 534 h [(4, 602)] =
  if h 394 602 0 = 3 then
    c_534_17 d 602 h
  else
    if h 394 602 0 = 4 then
      c_534_17 d 602 h
    else
      c_534_22 d 602 0 h := by
  rw [fj_run_eq d (by decide) h [(4, 602)] (Nat.le_of_ble_eq_true (by rw [nl_534]; rfl))]
  show gG (fj_run d) 534 0 [(0, (4, 602))] [] h = _
  exact
    have D : fk_D 534 [(0, none, .aload_n 0, 1, 0, 0, 0), (1, none, .aload_n 0, 1, 0, 0, 0), (2, none, .getfield 513, 3, 394, 129, 10), (5, none, .iconst 3, 1, 0, 3, 0), (6, none, .if_icmp .eq 11, 3, 17, 0, 0), (9, none, .aload_n 0, 1, 0, 0, 0), (10, none, .getfield 513, 3, 394, 129, 10), (13, none, .iconst 4, 1, 0, 4, 0), (14, none, .if_icmp .ne 7, 3, 21, 0, 0)] := fq_of2 cd_534 ow_534 cl_534 rfl (pc := 0) (by decide +kernel)
    j_aldn (pc := 0) D rfl rfl rfl fun D =>
    j_aldn (pc := 1) D rfl rfl rfl fun D =>
    j_gf (pc := 2) (a := 602) D rfl rfl (by decide) rfl (s0_602 H) rfl fun D =>
    j_ic (pc := 5) D rfl fun D =>
    j_ieq (pc := 6) D rfl (fun q =>
      fk_jump cut_534_17 rfl rfl) (fun q D =>
      j_aldn (pc := 9) D rfl rfl rfl fun D =>
      j_gf (pc := 10) (a := 602) D rfl rfl (by decide) rfl (s0_602 H) rfl fun D =>
      j_ic (pc := 13) D rfl fun D =>
      j_ine (pc := 14) D rfl (fun q D =>
        fk_jump cut_534_17 rfl rfl) (fun q =>
        have D : fk_D 534 [(21, none, .iconst 0, 1, 0, 0, 0)] := fq_of2 cd_534 ow_534 cl_534 rfl (pc := 21) (by decide +kernel)
        j_ic (pc := 21) D rfl fun D =>
        fk_jump cut_534_22 rfl rfl))
/-! 535 StatuteHouseModel.readEx()I -/
theorem cd_535 : fi_code 535 = prog_69_method_56_code := rfl
theorem hx_535 : ∀ pc, fi_hat 535 pc = none := fun pc => by unfold fi_hat; rw [show fi_hh 535 = [] from rfl]; rfl
theorem rt_535 : fi_ret 535 = some .int := rfl
theorem nl_535 : fi_nl 535 = 4 := rfl
theorem ow_535 : fi_ow 535 = 29 := rfl
theorem cl_535 : fj_cutT.getD 535 [] = [(5, [0, 1])] := rfl
theorem cut_535_5 : fj_cut 535 5 = some [0, 1] := by decide +kernel
noncomputable def c_535_5 (d : Nat) (x1 : Int) (h : fi_H) : fk_R := gG (fj_run d) 535 5 [(0, (4, 602)), (1, (0, x1))] [] h
theorem e_535_5 (d : Nat) (x1 : Int) {h : fi_H} (H : Shp h) : c_535_5 d x1 h =
  ca_ (fj_run d 499 h [(4, 602), (0, 25)]) 0
    (fun v2 h1 =>
    if v2 = 0 then
      some (.inl (some (0, x1)), h1)
    else
      cv_ (fj_run d 502 h1 [(4, 602)])
        (fun h4 =>
        ca_ (fj_run d 536 h4 [(4, 602)]) 0
          (fun v8 h7 =>
          ca_ (fj_run d 561 h7 [(4, 602), (0, 1), (0, h1 396 602 0), (0, x1), (0, v8)]) 0
            (fun v11 h10 =>
            c_535_5 d v11 h10)
            (fun q12 h10 => tx_ q12 h10))
          (fun q9 h7 => tx_ q9 h7))
        (fun q6 h4 => tx_ q6 h4))
    (fun q3 h1 => tx_ q3 h1) := by
  unfold c_535_5
  exact
    have D : fk_D 535 [(5, some [0, 1], .aload_n 0, 1, 0, 0, 0), (6, none, .bipush 25, 2, 0, 25, 0), (8, none, .invokevirtual 570, 3, 1, 352, 1), (11, none, .ifCond .eq 29, 3, 40, 0, 0), (14, none, .aload_n 0, 1, 0, 0, 0), (15, none, .getfield 507, 3, 396, 129, 10), (18, none, .istore_n 2, 1, 0, 0, 0), (19, none, .aload_n 0, 1, 0, 0, 0), (20, none, .invokevirtual 567, 3, 0, 351, 0), (23, none, .aload_n 0, 1, 0, 0, 0), (24, none, .invokevirtual 687, 3, 0, 369, 1), (27, none, .istore_n 3, 1, 0, 0, 0), (28, none, .aload_n 0, 1, 0, 0, 0), (29, none, .iconst 1, 1, 0, 1, 0), (30, none, .iload_n 2, 1, 0, 0, 0), (31, none, .iload_n 1, 1, 0, 0, 0), (32, none, .iload_n 3, 1, 0, 0, 0), (33, none, .invokevirtual 690, 3, 4, 370, 1), (36, none, .istore_n 1, 1, 0, 0, 0), (37, none, .goto (-32), 3, 5, 0, 0)] := fq_of2 cd_535 ow_535 cl_535 rfl (pc := 5) (by decide +kernel)
    j_aldn (pc := 5) D rfl rfl rfl fun D =>
    j_bp (pc := 6) D rfl fun D =>
    j_iv (pc := 8) (m := 499) (dd := 352) (a := [(0, 25)]) (rest := []) D rfl rfl rfl rfl rfl (by decide) (s0_602 H) (by decide +kernel) (fun v2 h1 e1 D =>
      have T := fj_run_ok _ _ _ _ _ _ H.1 e1
      have H := shp_st H T
      j_ifeq (pc := 11) D rfl (fun q =>
        have D : fk_D 535 [(40, none, .iload_n 1, 1, 0, 0, 0), (41, none, .ireturn, 1, 0, 0, 0)] := fq_of2 cd_535 ow_535 cl_535 rfl (pc := 40) (by decide +kernel)
        j_ildn (pc := 40) D rfl rfl rfl fun D =>
        j_iret D rt_535) (fun q D =>
        j_aldn (pc := 14) D rfl rfl rfl fun D =>
        j_gf (pc := 15) (a := 602) D rfl rfl (by decide) rfl (s0_602 H) rfl fun D =>
        j_istn (pc := 18) (L' := [(2, (0, h1 396 602 0)), (0, (4, 602)), (1, (0, x1))]) D rfl nl_535 rfl rfl fun D =>
        j_aldn (pc := 19) D rfl rfl rfl fun D =>
        j_ivv (pc := 20) (m := 502) (dd := 351) (a := []) (rest := []) D rfl rfl rfl rfl rfl (by decide) (s0_602 H) (by decide +kernel) (fun h4 e1 D =>
          have T := fj_run_ok _ _ _ _ _ _ H.1 e1
          have H := shp_st H T
          j_aldn (pc := 23) D rfl rfl rfl fun D =>
          j_iv (pc := 24) (m := 536) (dd := 369) (a := []) (rest := []) D rfl rfl rfl rfl rfl (by decide) (s0_602 H) (by decide +kernel) (fun v8 h7 e1 D =>
            have T := fj_run_ok _ _ _ _ _ _ H.1 e1
            have H := shp_st H T
            j_istn (pc := 27) (L' := [(3, (0, v8)), (2, (0, h1 396 602 0)), (0, (4, 602)), (1, (0, x1))]) D rfl nl_535 rfl rfl fun D =>
            j_aldn (pc := 28) D rfl rfl rfl fun D =>
            j_ic (pc := 29) D rfl fun D =>
            j_ildn (pc := 30) D rfl rfl rfl fun D =>
            j_ildn (pc := 31) D rfl rfl rfl fun D =>
            j_ildn (pc := 32) D rfl rfl rfl fun D =>
            j_iv (pc := 33) (m := 561) (dd := 370) (a := [(0, 1), (0, h1 396 602 0), (0, x1), (0, v8)]) (rest := []) D rfl rfl rfl rfl rfl (by decide) (s0_602 H) (by decide +kernel) (fun v11 h10 e1 D =>
              have T := fj_run_ok _ _ _ _ _ _ H.1 e1
              have H := shp_st H T
              j_istn (pc := 36) (L' := [(1, (0, v11)), (3, (0, v8)), (2, (0, h1 396 602 0)), (0, (4, 602))]) D rfl nl_535 rfl rfl fun D =>
              j_goto (pc := 37) D rfl <|
              fk_jump cut_535_5 rfl rfl) (fun q12 h10 e1 =>
              j_tx (hx_535 _))) (fun q9 h7 e1 =>
            j_tx (hx_535 _))) (fun q6 h4 e1 =>
          j_tx (hx_535 _)))) (fun q3 h1 e1 =>
      j_tx (hx_535 _))
theorem m_535 (d : Nat) {h : fi_H} (H : Shp h) : fj_run (d + 1) 535 h [(4, 602)] =
  ca_ (fj_run d 536 h [(4, 602)]) 0
    (fun v2 h1 =>
    c_535_5 d v2 h1)
    (fun q3 h1 => tx_ q3 h1) := by
  rw [fj_run_eq d (by decide) h [(4, 602)] (Nat.le_of_ble_eq_true (by rw [nl_535]; rfl))]
  show gG (fj_run d) 535 0 [(0, (4, 602))] [] h = _
  exact
    have D : fk_D 535 [(0, none, .aload_n 0, 1, 0, 0, 0), (1, none, .invokevirtual 687, 3, 0, 369, 1), (4, none, .istore_n 1, 1, 0, 0, 0)] := fq_of2 cd_535 ow_535 cl_535 rfl (pc := 0) (by decide +kernel)
    j_aldn (pc := 0) D rfl rfl rfl fun D =>
    j_iv (pc := 1) (m := 536) (dd := 369) (a := []) (rest := []) D rfl rfl rfl rfl rfl (by decide) (s0_602 H) (by decide +kernel) (fun v2 h1 e1 D =>
      have T := fj_run_ok _ _ _ _ _ _ H.1 e1
      have H := shp_st H T
      j_istn (pc := 4) (L' := [(1, (0, v2)), (0, (4, 602))]) D rfl nl_535 rfl rfl fun D =>
      fk_jump cut_535_5 rfl rfl) (fun q3 h1 e1 =>
      j_tx (hx_535 _))
/-! 536 StatuteHouseModel.readBoth()I -/
theorem cd_536 : fi_code 536 = prog_69_method_57_code := rfl
theorem hx_536 : ∀ pc, fi_hat 536 pc = none := fun pc => by unfold fi_hat; rw [show fi_hh 536 = [] from rfl]; rfl
theorem rt_536 : fi_ret 536 = some .int := rfl
theorem nl_536 : fi_nl 536 = 4 := rfl
theorem ow_536 : fi_ow 536 = 29 := rfl
theorem cl_536 : fj_cutT.getD 536 [] = [(5, [0, 1])] := rfl
theorem cut_536_5 : fj_cut 536 5 = some [0, 1] := by decide +kernel
noncomputable def c_536_5 (d : Nat) (x1 : Int) (h : fi_H) : fk_R := gG (fj_run d) 536 5 [(0, (4, 602)), (1, (0, x1))] [] h
theorem e_536_5 (d : Nat) (x1 : Int) {h : fi_H} (H : Shp h) : c_536_5 d x1 h =
  ca_ (fj_run d 499 h [(4, 602), (0, 26)]) 0
    (fun v2 h1 =>
    if v2 = 0 then
      some (.inl (some (0, x1)), h1)
    else
      cv_ (fj_run d 502 h1 [(4, 602)])
        (fun h4 =>
        ca_ (fj_run d 537 h4 [(4, 602)]) 0
          (fun v8 h7 =>
          ca_ (fj_run d 561 h7 [(4, 602), (0, 2), (0, h1 396 602 0), (0, x1), (0, v8)]) 0
            (fun v11 h10 =>
            c_536_5 d v11 h10)
            (fun q12 h10 => tx_ q12 h10))
          (fun q9 h7 => tx_ q9 h7))
        (fun q6 h4 => tx_ q6 h4))
    (fun q3 h1 => tx_ q3 h1) := by
  unfold c_536_5
  exact
    have D : fk_D 536 [(5, some [0, 1], .aload_n 0, 1, 0, 0, 0), (6, none, .bipush 26, 2, 0, 26, 0), (8, none, .invokevirtual 570, 3, 1, 352, 1), (11, none, .ifCond .eq 29, 3, 40, 0, 0), (14, none, .aload_n 0, 1, 0, 0, 0), (15, none, .getfield 507, 3, 396, 129, 10), (18, none, .istore_n 2, 1, 0, 0, 0), (19, none, .aload_n 0, 1, 0, 0, 0), (20, none, .invokevirtual 567, 3, 0, 351, 0), (23, none, .aload_n 0, 1, 0, 0, 0), (24, none, .invokevirtual 694, 3, 0, 371, 1), (27, none, .istore_n 3, 1, 0, 0, 0), (28, none, .aload_n 0, 1, 0, 0, 0), (29, none, .iconst 2, 1, 0, 2, 0), (30, none, .iload_n 2, 1, 0, 0, 0), (31, none, .iload_n 1, 1, 0, 0, 0), (32, none, .iload_n 3, 1, 0, 0, 0), (33, none, .invokevirtual 690, 3, 4, 370, 1), (36, none, .istore_n 1, 1, 0, 0, 0), (37, none, .goto (-32), 3, 5, 0, 0)] := fq_of2 cd_536 ow_536 cl_536 rfl (pc := 5) (by decide +kernel)
    j_aldn (pc := 5) D rfl rfl rfl fun D =>
    j_bp (pc := 6) D rfl fun D =>
    j_iv (pc := 8) (m := 499) (dd := 352) (a := [(0, 26)]) (rest := []) D rfl rfl rfl rfl rfl (by decide) (s0_602 H) (by decide +kernel) (fun v2 h1 e1 D =>
      have T := fj_run_ok _ _ _ _ _ _ H.1 e1
      have H := shp_st H T
      j_ifeq (pc := 11) D rfl (fun q =>
        have D : fk_D 536 [(40, none, .iload_n 1, 1, 0, 0, 0), (41, none, .ireturn, 1, 0, 0, 0)] := fq_of2 cd_536 ow_536 cl_536 rfl (pc := 40) (by decide +kernel)
        j_ildn (pc := 40) D rfl rfl rfl fun D =>
        j_iret D rt_536) (fun q D =>
        j_aldn (pc := 14) D rfl rfl rfl fun D =>
        j_gf (pc := 15) (a := 602) D rfl rfl (by decide) rfl (s0_602 H) rfl fun D =>
        j_istn (pc := 18) (L' := [(2, (0, h1 396 602 0)), (0, (4, 602)), (1, (0, x1))]) D rfl nl_536 rfl rfl fun D =>
        j_aldn (pc := 19) D rfl rfl rfl fun D =>
        j_ivv (pc := 20) (m := 502) (dd := 351) (a := []) (rest := []) D rfl rfl rfl rfl rfl (by decide) (s0_602 H) (by decide +kernel) (fun h4 e1 D =>
          have T := fj_run_ok _ _ _ _ _ _ H.1 e1
          have H := shp_st H T
          j_aldn (pc := 23) D rfl rfl rfl fun D =>
          j_iv (pc := 24) (m := 537) (dd := 371) (a := []) (rest := []) D rfl rfl rfl rfl rfl (by decide) (s0_602 H) (by decide +kernel) (fun v8 h7 e1 D =>
            have T := fj_run_ok _ _ _ _ _ _ H.1 e1
            have H := shp_st H T
            j_istn (pc := 27) (L' := [(3, (0, v8)), (2, (0, h1 396 602 0)), (0, (4, 602)), (1, (0, x1))]) D rfl nl_536 rfl rfl fun D =>
            j_aldn (pc := 28) D rfl rfl rfl fun D =>
            j_ic (pc := 29) D rfl fun D =>
            j_ildn (pc := 30) D rfl rfl rfl fun D =>
            j_ildn (pc := 31) D rfl rfl rfl fun D =>
            j_ildn (pc := 32) D rfl rfl rfl fun D =>
            j_iv (pc := 33) (m := 561) (dd := 370) (a := [(0, 2), (0, h1 396 602 0), (0, x1), (0, v8)]) (rest := []) D rfl rfl rfl rfl rfl (by decide) (s0_602 H) (by decide +kernel) (fun v11 h10 e1 D =>
              have T := fj_run_ok _ _ _ _ _ _ H.1 e1
              have H := shp_st H T
              j_istn (pc := 36) (L' := [(1, (0, v11)), (3, (0, v8)), (2, (0, h1 396 602 0)), (0, (4, 602))]) D rfl nl_536 rfl rfl fun D =>
              j_goto (pc := 37) D rfl <|
              fk_jump cut_536_5 rfl rfl) (fun q12 h10 e1 =>
              j_tx (hx_536 _))) (fun q9 h7 e1 =>
            j_tx (hx_536 _))) (fun q6 h4 e1 =>
          j_tx (hx_536 _)))) (fun q3 h1 e1 =>
      j_tx (hx_536 _))
theorem m_536 (d : Nat) {h : fi_H} (H : Shp h) : fj_run (d + 1) 536 h [(4, 602)] =
  ca_ (fj_run d 537 h [(4, 602)]) 0
    (fun v2 h1 =>
    c_536_5 d v2 h1)
    (fun q3 h1 => tx_ q3 h1) := by
  rw [fj_run_eq d (by decide) h [(4, 602)] (Nat.le_of_ble_eq_true (by rw [nl_536]; rfl))]
  show gG (fj_run d) 536 0 [(0, (4, 602))] [] h = _
  exact
    have D : fk_D 536 [(0, none, .aload_n 0, 1, 0, 0, 0), (1, none, .invokevirtual 694, 3, 0, 371, 1), (4, none, .istore_n 1, 1, 0, 0, 0)] := fq_of2 cd_536 ow_536 cl_536 rfl (pc := 0) (by decide +kernel)
    j_aldn (pc := 0) D rfl rfl rfl fun D =>
    j_iv (pc := 1) (m := 537) (dd := 371) (a := []) (rest := []) D rfl rfl rfl rfl rfl (by decide) (s0_602 H) (by decide +kernel) (fun v2 h1 e1 D =>
      have T := fj_run_ok _ _ _ _ _ _ H.1 e1
      have H := shp_st H T
      j_istn (pc := 4) (L' := [(1, (0, v2)), (0, (4, 602))]) D rfl nl_536 rfl rfl fun D =>
      fk_jump cut_536_5 rfl rfl) (fun q3 h1 e1 =>
      j_tx (hx_536 _))
/-! 537 StatuteHouseModel.readBare()I -/
theorem cd_537 : fi_code 537 = prog_69_method_58_code := rfl
theorem hx_537 : ∀ pc, fi_hat 537 pc = none := fun pc => by unfold fi_hat; rw [show fi_hh 537 = [] from rfl]; rfl
theorem rt_537 : fi_ret 537 = some .int := rfl
theorem nl_537 : fi_nl 537 = 3 := rfl
theorem ow_537 : fi_ow 537 = 29 := rfl
theorem cl_537 : fj_cutT.getD 537 [] = [(60, [2])] := rfl
theorem cut_537_60 : fj_cut 537 60 = some [2] := by decide +kernel
noncomputable def c_537_60 (d : Nat) (x2 s0 s1 s2 s3 : Int) (h : fi_H) : fk_R := gG (fj_run d) 537 60 [(2, (0, x2))] [(0, s3), (0, s2), (0, s1), (4, s0)] h
theorem e_537_60 (d : Nat) (x2 s0 s1 s2 s3 : Int) {h : fi_H} (H : Shp h) : c_537_60 d x2 s0 s1 s2 s3 h =
  dv_ (fi_vt 368 (h 0 s0.toNat 0)) fun m4 => ca_ (fj_run d m4 h [(4, s0), (0, s1), (0, s2), (0, s3), (0, x2), (0, (-1)), (0, (-1))]) 0
    (fun v2 h1 =>
    some (.inl (some (0, v2)), h1))
    (fun q3 h1 => tx_ q3 h1) := by
  unfold c_537_60
  exact
    have D : fk_D 537 [(60, some [2], .iload_n 2, 1, 0, 0, 0), (61, none, .iconst (-1), 1, 0, (-1), 0), (62, none, .iconst (-1), 1, 0, (-1), 0), (63, none, .invokevirtual 683, 3, 6, 368, 1), (66, none, .ireturn, 1, 0, 0, 0)] := fq_of2 cd_537 ow_537 cl_537 rfl (pc := 60) (by decide +kernel)
    j_ildn (pc := 60) D rfl rfl rfl fun D =>
    j_ic (pc := 61) D rfl fun D =>
    j_ic (pc := 62) D rfl fun D =>
    j_ivu (pc := 63) (dd := 368) (a := [(0, s1), (0, s2), (0, s3), (0, x2), (0, (-1)), (0, (-1))]) (rest := []) H.2.1 D rfl rfl rfl rfl rfl (fun m4 v2 h1 e1 D =>
      have T := fj_run_ok _ _ _ _ _ _ H.1 e1
      have H := shp_st H T
      j_iret D rt_537) (fun m4 q3 h1 e1 =>
      j_tx (hx_537 _))
theorem m_537 (d : Nat) {h : fi_H} (H : Shp h) : fj_run (d + 1) 537 h [(4, 602)] =
  ca_ (fj_run d 499 h [(4, 602), (0, 27)]) 0
    (fun v2 h1 =>
    if v2 = 0 then
      ca_ (fj_run d 538 h1 [(4, 602)]) 0
        (fun v5 h4 =>
        some (.inl (some (0, v5)), h4))
        (fun q6 h4 => tx_ q6 h4)
    else
      cv_ (fj_run d 549 h1 [(4, 602), (0, h1 396 602 0)])
        (fun h7 =>
        cv_ (fj_run d 502 h7 [(4, 602)])
          (fun h10 =>
          ca_ (fj_run d 537 h10 [(4, 602)]) 0
            (fun v14 h13 =>
            lt_ (fi_upd h13 427 602 0 (wI ((h13 427 602 0) - 1))) fun h16 =>
            if 0 ≤ v14 ∧ v14 < 9300 then
            if h16 10 618 v14.toNat = 0 then
              c_537_60 d v14 602 3 (h1 396 602 0) 0 h16
            else
              c_537_60 d v14 602 3 (h1 396 602 0) (-1) h16
            else none)
            (fun q15 h13 => tx_ q15 h13))
          (fun q12 h10 => tx_ q12 h10))
        (fun q9 h7 => tx_ q9 h7))
    (fun q3 h1 => tx_ q3 h1) := by
  rw [fj_run_eq d (by decide) h [(4, 602)] (Nat.le_of_ble_eq_true (by rw [nl_537]; rfl))]
  show gG (fj_run d) 537 0 [(0, (4, 602))] [] h = _
  exact
    have D : fk_D 537 [(0, none, .aload_n 0, 1, 0, 0, 0), (1, none, .bipush 27, 2, 0, 27, 0), (3, none, .invokevirtual 570, 3, 1, 352, 1), (6, none, .ifCond .ne 8, 3, 14, 0, 0), (9, none, .aload_n 0, 1, 0, 0, 0), (10, none, .invokevirtual 697, 3, 0, 372, 1), (13, none, .ireturn, 1, 0, 0, 0)] := fq_of2 cd_537 ow_537 cl_537 rfl (pc := 0) (by decide +kernel)
    j_aldn (pc := 0) D rfl rfl rfl fun D =>
    j_bp (pc := 1) D rfl fun D =>
    j_iv (pc := 3) (m := 499) (dd := 352) (a := [(0, 27)]) (rest := []) D rfl rfl rfl rfl rfl (by decide) (s0_602 H) (by decide +kernel) (fun v2 h1 e1 D =>
      have T := fj_run_ok _ _ _ _ _ _ H.1 e1
      have H := shp_st H T
      j_ifne (pc := 6) D rfl (fun q D =>
        j_aldn (pc := 9) D rfl rfl rfl fun D =>
        j_iv (pc := 10) (m := 538) (dd := 372) (a := []) (rest := []) D rfl rfl rfl rfl rfl (by decide) (s0_602 H) (by decide +kernel) (fun v5 h4 e1 D =>
          have T := fj_run_ok _ _ _ _ _ _ H.1 e1
          have H := shp_st H T
          j_iret D rt_537) (fun q6 h4 e1 =>
          j_tx (hx_537 _))) (fun q =>
        have D : fk_D 537 [(14, none, .aload_n 0, 1, 0, 0, 0), (15, none, .getfield 507, 3, 396, 129, 10), (18, none, .istore_n 1, 1, 0, 0, 0), (19, none, .aload_n 0, 1, 0, 0, 0), (20, none, .iload_n 1, 1, 0, 0, 0), (21, none, .invokevirtual 700, 3, 1, 373, 0), (24, none, .aload_n 0, 1, 0, 0, 0), (25, none, .invokevirtual 567, 3, 0, 351, 0), (28, none, .aload_n 0, 1, 0, 0, 0), (29, none, .invokevirtual 694, 3, 0, 371, 1), (32, none, .istore_n 2, 1, 0, 0, 0), (33, none, .aload_n 0, 1, 0, 0, 0), (34, none, .dup, 1, 0, 0, 0), (35, none, .getfield 576, 3, 427, 129, 10), (38, none, .iconst 1, 1, 0, 1, 0), (39, none, .isub, 1, 0, 0, 0), (40, none, .putfield 576, 3, 427, 129, 10), (43, none, .aload_n 0, 1, 0, 0, 0), (44, none, .iconst 3, 1, 0, 3, 0), (45, none, .iload_n 1, 1, 0, 0, 0)] := fq_of2 cd_537 ow_537 cl_537 rfl (pc := 14) (by decide +kernel)
        j_aldn (pc := 14) D rfl rfl rfl fun D =>
        j_gf (pc := 15) (a := 602) D rfl rfl (by decide) rfl (s0_602 H) rfl fun D =>
        j_istn (pc := 18) (L' := [(1, (0, h1 396 602 0)), (0, (4, 602))]) D rfl nl_537 rfl rfl fun D =>
        j_aldn (pc := 19) D rfl rfl rfl fun D =>
        j_ildn (pc := 20) D rfl rfl rfl fun D =>
        j_ivv (pc := 21) (m := 549) (dd := 373) (a := [(0, h1 396 602 0)]) (rest := []) D rfl rfl rfl rfl rfl (by decide) (s0_602 H) (by decide +kernel) (fun h7 e1 D =>
          have T := fj_run_ok _ _ _ _ _ _ H.1 e1
          have H := shp_st H T
          j_aldn (pc := 24) D rfl rfl rfl fun D =>
          j_ivv (pc := 25) (m := 502) (dd := 351) (a := []) (rest := []) D rfl rfl rfl rfl rfl (by decide) (s0_602 H) (by decide +kernel) (fun h10 e1 D =>
            have T := fj_run_ok _ _ _ _ _ _ H.1 e1
            have H := shp_st H T
            j_aldn (pc := 28) D rfl rfl rfl fun D =>
            j_iv (pc := 29) (m := 537) (dd := 371) (a := []) (rest := []) D rfl rfl rfl rfl rfl (by decide) (s0_602 H) (by decide +kernel) (fun v14 h13 e1 D =>
              have T := fj_run_ok _ _ _ _ _ _ H.1 e1
              have H := shp_st H T
              j_istn (pc := 32) (L' := [(2, (0, v14)), (1, (0, h1 396 602 0)), (0, (4, 602))]) D rfl nl_537 rfl rfl fun D =>
              j_aldn (pc := 33) D rfl rfl rfl fun D =>
              j_sh (pc := 34) D rfl rfl rfl fun D =>
              j_gf (pc := 35) (a := 602) D rfl rfl (by decide) rfl (s0_602 H) rfl fun D =>
              j_ic (pc := 38) D rfl fun D =>
              j_isub (pc := 39) D rfl fun D =>
              j_pf (pc := 40) (a := 602) D rfl rfl rfl (s0_602 H) rfl rfl (gy (by decide)) (gy rfl) fun h16 eh16 S D =>
              have T := fj_hs_ok H.1 S
              have H := shp_st H T
              j_aldn (pc := 43) D rfl rfl rfl fun D =>
              j_ic (pc := 44) D rfl fun D =>
              j_ildn (pc := 45) D rfl rfl rfl fun D =>
              have D : fk_D 537 [(46, none, .aload_n 0, 1, 0, 0, 0), (47, none, .getfield 65, 3, 419, 129, 12), (50, none, .iload_n 2, 1, 0, 0, 0), (51, none, .iaload, 1, 0, 0, 0), (52, none, .ifCond .ne 7, 3, 59, 0, 0), (55, none, .iconst 0, 1, 0, 0, 0), (56, none, .goto 4, 3, 60, 0, 0)] := fq_of2 cd_537 ow_537 cl_537 rfl (pc := 46) (by decide +kernel)
              j_aldn (pc := 46) D rfl rfl rfl fun D =>
              j_gfc (pc := 47) (a := 602) D rfl rfl (by decide) rfl (s0_602 H) rfl (sf_419_602 H) fun D =>
              j_ildn (pc := 50) D rfl rfl rfl fun D =>
              j_al (pc := 51) (a := 618) (e := 10) D rfl rfl rfl (by decide) (s0_618 H) (s1_618 H) ⟨rfl, rfl, rfl⟩ rfl gn fun qb17 D =>
              j_ifne (pc := 52) D rfl (fun q D =>
                j_ic (pc := 55) D rfl fun D =>
                j_goto (pc := 56) D rfl <|
                fk_jump cut_537_60 rfl rfl) (fun q =>
                have D : fk_D 537 [(59, none, .iconst (-1), 1, 0, (-1), 0)] := fq_of2 cd_537 ow_537 cl_537 rfl (pc := 59) (by decide +kernel)
                j_ic (pc := 59) D rfl fun D =>
                fk_jump cut_537_60 rfl rfl)) (fun q15 h13 e1 =>
              j_tx (hx_537 _))) (fun q12 h10 e1 =>
            j_tx (hx_537 _))) (fun q9 h7 e1 =>
          j_tx (hx_537 _)))) (fun q3 h1 e1 =>
      j_tx (hx_537 _))
/-! 538 StatuteHouseModel.readCond()I -/
theorem cd_538 : fi_code 538 = prog_69_method_60_code := rfl
theorem hx_538 : ∀ pc, fi_hat 538 pc = none := fun pc => by unfold fi_hat; rw [show fi_hh 538 = [] from rfl]; rfl
theorem rt_538 : fi_ret 538 = some .int := rfl
theorem nl_538 : fi_nl 538 = 5 := rfl
theorem ow_538 : fi_ow 538 = 29 := rfl
theorem cl_538 : fj_cutT.getD 538 [] = [] := rfl
theorem m_538 (d : Nat) {h : fi_H} (H : Shp h) : fj_run (d + 1) 538 h [(4, 602)] =
  ca_ (fj_run d 539 h [(4, 602)]) 0
    (fun v2 h1 =>
    ca_ (fj_run d 564 h1 [(4, 602)]) 0
      (fun v5 h4 =>
      if v5 = (-1) then
        some (.inl (some (0, v2)), h4)
      else
        cv_ (fj_run d 502 h4 [(4, 602)])
          (fun h7 =>
          ca_ (fj_run d 539 h7 [(4, 602)]) 0
            (fun v11 h10 =>
            ca_ (fj_run d 561 h10 [(4, 602), (0, v5), (0, h4 396 602 0), (0, v2), (0, v11)]) 0
              (fun v14 h13 =>
              some (.inl (some (0, v14)), h13))
              (fun q15 h13 => tx_ q15 h13))
            (fun q12 h10 => tx_ q12 h10))
          (fun q9 h7 => tx_ q9 h7))
      (fun q6 h4 => tx_ q6 h4))
    (fun q3 h1 => tx_ q3 h1) := by
  rw [fj_run_eq d (by decide) h [(4, 602)] (Nat.le_of_ble_eq_true (by rw [nl_538]; rfl))]
  show gG (fj_run d) 538 0 [(0, (4, 602))] [] h = _
  exact
    have D : fk_D 538 [(0, none, .aload_n 0, 1, 0, 0, 0), (1, none, .invokevirtual 703, 3, 0, 374, 1), (4, none, .istore_n 1, 1, 0, 0, 0), (5, none, .aload_n 0, 1, 0, 0, 0), (6, none, .invokevirtual 706, 3, 0, 375, 1), (9, none, .istore_n 2, 1, 0, 0, 0), (10, none, .iload_n 2, 1, 0, 0, 0), (11, none, .iconst (-1), 1, 0, (-1), 0), (12, none, .if_icmp .ne 5, 3, 17, 0, 0), (15, none, .iload_n 1, 1, 0, 0, 0), (16, none, .ireturn, 1, 0, 0, 0)] := fq_of2 cd_538 ow_538 cl_538 rfl (pc := 0) (by decide +kernel)
    j_aldn (pc := 0) D rfl rfl rfl fun D =>
    j_iv (pc := 1) (m := 539) (dd := 374) (a := []) (rest := []) D rfl rfl rfl rfl rfl (by decide) (s0_602 H) (by decide +kernel) (fun v2 h1 e1 D =>
      have T := fj_run_ok _ _ _ _ _ _ H.1 e1
      have H := shp_st H T
      j_istn (pc := 4) (L' := [(1, (0, v2)), (0, (4, 602))]) D rfl nl_538 rfl rfl fun D =>
      j_aldn (pc := 5) D rfl rfl rfl fun D =>
      j_iv (pc := 6) (m := 564) (dd := 375) (a := []) (rest := []) D rfl rfl rfl rfl rfl (by decide) (s0_602 H) (by decide +kernel) (fun v5 h4 e1 D =>
        have T := fj_run_ok _ _ _ _ _ _ H.1 e1
        have H := shp_st H T
        j_istn (pc := 9) (L' := [(2, (0, v5)), (1, (0, v2)), (0, (4, 602))]) D rfl nl_538 rfl rfl fun D =>
        j_ildn (pc := 10) D rfl rfl rfl fun D =>
        j_ic (pc := 11) D rfl fun D =>
        j_ine (pc := 12) D rfl (fun q D =>
          j_ildn (pc := 15) D rfl rfl rfl fun D =>
          j_iret D rt_538) (fun q =>
          have D : fk_D 538 [(17, none, .aload_n 0, 1, 0, 0, 0), (18, none, .getfield 507, 3, 396, 129, 10), (21, none, .istore_n 3, 1, 0, 0, 0), (22, none, .aload_n 0, 1, 0, 0, 0), (23, none, .invokevirtual 567, 3, 0, 351, 0), (26, none, .aload_n 0, 1, 0, 0, 0), (27, none, .invokevirtual 703, 3, 0, 374, 1), (30, none, .istore 4, 2, 0, 0, 0), (32, none, .aload_n 0, 1, 0, 0, 0), (33, none, .iload_n 2, 1, 0, 0, 0), (34, none, .iload_n 3, 1, 0, 0, 0), (35, none, .iload_n 1, 1, 0, 0, 0), (36, none, .iload 4, 2, 0, 0, 0), (38, none, .invokevirtual 690, 3, 4, 370, 1), (41, none, .ireturn, 1, 0, 0, 0)] := fq_of2 cd_538 ow_538 cl_538 rfl (pc := 17) (by decide +kernel)
          j_aldn (pc := 17) D rfl rfl rfl fun D =>
          j_gf (pc := 18) (a := 602) D rfl rfl (by decide) rfl (s0_602 H) rfl fun D =>
          j_istn (pc := 21) (L' := [(3, (0, h4 396 602 0)), (2, (0, v5)), (1, (0, v2)), (0, (4, 602))]) D rfl nl_538 rfl rfl fun D =>
          j_aldn (pc := 22) D rfl rfl rfl fun D =>
          j_ivv (pc := 23) (m := 502) (dd := 351) (a := []) (rest := []) D rfl rfl rfl rfl rfl (by decide) (s0_602 H) (by decide +kernel) (fun h7 e1 D =>
            have T := fj_run_ok _ _ _ _ _ _ H.1 e1
            have H := shp_st H T
            j_aldn (pc := 26) D rfl rfl rfl fun D =>
            j_iv (pc := 27) (m := 539) (dd := 374) (a := []) (rest := []) D rfl rfl rfl rfl rfl (by decide) (s0_602 H) (by decide +kernel) (fun v11 h10 e1 D =>
              have T := fj_run_ok _ _ _ _ _ _ H.1 e1
              have H := shp_st H T
              j_ist (pc := 30) (L' := [(4, (0, v11)), (3, (0, h4 396 602 0)), (2, (0, v5)), (1, (0, v2)), (0, (4, 602))]) D rfl nl_538 rfl rfl fun D =>
              j_aldn (pc := 32) D rfl rfl rfl fun D =>
              j_ildn (pc := 33) D rfl rfl rfl fun D =>
              j_ildn (pc := 34) D rfl rfl rfl fun D =>
              j_ildn (pc := 35) D rfl rfl rfl fun D =>
              j_ild (pc := 36) D rfl rfl rfl fun D =>
              j_iv (pc := 38) (m := 561) (dd := 370) (a := [(0, v5), (0, h4 396 602 0), (0, v2), (0, v11)]) (rest := []) D rfl rfl rfl rfl rfl (by decide) (s0_602 H) (by decide +kernel) (fun v14 h13 e1 D =>
                have T := fj_run_ok _ _ _ _ _ _ H.1 e1
                have H := shp_st H T
                j_iret D rt_538) (fun q15 h13 e1 =>
                j_tx (hx_538 _))) (fun q12 h10 e1 =>
              j_tx (hx_538 _))) (fun q9 h7 e1 =>
            j_tx (hx_538 _)))) (fun q6 h4 e1 =>
        j_tx (hx_538 _))) (fun q3 h1 e1 =>
      j_tx (hx_538 _))
/-! 539 StatuteHouseModel.readSum()I -/
theorem cd_539 : fi_code 539 = prog_69_method_61_code := rfl
theorem hx_539 : ∀ pc, fi_hat 539 pc = none := fun pc => by unfold fi_hat; rw [show fi_hh 539 = [] from rfl]; rfl
theorem rt_539 : fi_ret 539 = some .int := rfl
theorem nl_539 : fi_nl 539 = 5 := rfl
theorem ow_539 : fi_ow 539 = 29 := rfl
theorem cl_539 : fj_cutT.getD 539 [] = [(5, [0, 1]), (23, [0, 1]), (44, [0, 1, 2])] := rfl
theorem cut_539_5 : fj_cut 539 5 = some [0, 1] := by decide +kernel
noncomputable def c_539_5 (d : Nat) (x1 : Int) (h : fi_H) : fk_R := gG (fj_run d) 539 5 [(0, (4, 602)), (1, (0, x1))] [] h
theorem cut_539_23 : fj_cut 539 23 = some [0, 1] := by decide +kernel
noncomputable def c_539_23 (d : Nat) (x1 : Int) (h : fi_H) : fk_R := gG (fj_run d) 539 23 [(0, (4, 602)), (1, (0, x1))] [] h
theorem cut_539_44 : fj_cut 539 44 = some [0, 1, 2] := by decide +kernel
noncomputable def c_539_44 (d : Nat) (x1 x2 s0 : Int) (h : fi_H) : fk_R := gG (fj_run d) 539 44 [(0, (4, 602)), (1, (0, x1)), (2, (0, x2))] [(0, s0)] h
theorem e_539_5 (d : Nat) (x1 : Int) {h : fi_H} (H : Shp h) : c_539_5 d x1 h =
  ca_ (fj_run d 506 h [(4, 602), (0, 43)]) 0
    (fun v2 h1 =>
    if v2 = 0 then
      ca_ (fj_run d 506 h1 [(4, 602), (0, 45)]) 0
        (fun v5 h4 =>
        if v5 = 0 then
          some (.inl (some (0, x1)), h4)
        else
          c_539_23 d x1 h4)
        (fun q6 h4 => tx_ q6 h4)
    else
      c_539_23 d x1 h1)
    (fun q3 h1 => tx_ q3 h1) := by
  unfold c_539_5
  exact
    have D : fk_D 539 [(5, some [0, 1], .aload_n 0, 1, 0, 0, 0), (6, none, .bipush 43, 2, 0, 43, 0), (8, none, .invokevirtual 564, 3, 1, 350, 1), (11, none, .ifCond .ne 12, 3, 23, 0, 0), (14, none, .aload_n 0, 1, 0, 0, 0), (15, none, .bipush 45, 2, 0, 45, 0), (17, none, .invokevirtual 564, 3, 1, 350, 1), (20, none, .ifCond .eq 48, 3, 68, 0, 0)] := fq_of2 cd_539 ow_539 cl_539 rfl (pc := 5) (by decide +kernel)
    j_aldn (pc := 5) D rfl rfl rfl fun D =>
    j_bp (pc := 6) D rfl fun D =>
    j_iv (pc := 8) (m := 506) (dd := 350) (a := [(0, 43)]) (rest := []) D rfl rfl rfl rfl rfl (by decide) (s0_602 H) (by decide +kernel) (fun v2 h1 e1 D =>
      have T := fj_run_ok _ _ _ _ _ _ H.1 e1
      have H := shp_st H T
      j_ifne (pc := 11) D rfl (fun q D =>
        j_aldn (pc := 14) D rfl rfl rfl fun D =>
        j_bp (pc := 15) D rfl fun D =>
        j_iv (pc := 17) (m := 506) (dd := 350) (a := [(0, 45)]) (rest := []) D rfl rfl rfl rfl rfl (by decide) (s0_602 H) (by decide +kernel) (fun v5 h4 e1 D =>
          have T := fj_run_ok _ _ _ _ _ _ H.1 e1
          have H := shp_st H T
          j_ifeq (pc := 20) D rfl (fun q =>
            have D : fk_D 539 [(68, none, .iload_n 1, 1, 0, 0, 0), (69, none, .ireturn, 1, 0, 0, 0)] := fq_of2 cd_539 ow_539 cl_539 rfl (pc := 68) (by decide +kernel)
            j_ildn (pc := 68) D rfl rfl rfl fun D =>
            j_iret D rt_539) (fun q D =>
            fk_jump cut_539_23 rfl rfl)) (fun q6 h4 e1 =>
          j_tx (hx_539 _))) (fun q =>
        fk_jump cut_539_23 rfl rfl)) (fun q3 h1 e1 =>
      j_tx (hx_539 _))
theorem e_539_23 (d : Nat) (x1 : Int) {h : fi_H} (H : Shp h) : c_539_23 d x1 h =
  if h 395 602 0 = 43 then
    c_539_44 d x1 (h 396 602 0) 10 h
  else
    c_539_44 d x1 (h 396 602 0) 11 h := by
  unfold c_539_23
  exact
    have D : fk_D 539 [(23, some [0, 1], .aload_n 0, 1, 0, 0, 0), (24, none, .getfield 507, 3, 396, 129, 10), (27, none, .istore_n 2, 1, 0, 0, 0), (28, none, .aload_n 0, 1, 0, 0, 0), (29, none, .getfield 531, 3, 395, 129, 10), (32, none, .bipush 43, 2, 0, 43, 0), (34, none, .if_icmp .ne 8, 3, 42, 0, 0), (37, none, .bipush 10, 2, 0, 10, 0), (39, none, .goto 5, 3, 44, 0, 0)] := fq_of2 cd_539 ow_539 cl_539 rfl (pc := 23) (by decide +kernel)
    j_aldn (pc := 23) D rfl rfl rfl fun D =>
    j_gf (pc := 24) (a := 602) D rfl rfl (by decide) rfl (s0_602 H) rfl fun D =>
    j_istn (pc := 27) (L' := [(2, (0, h 396 602 0)), (0, (4, 602)), (1, (0, x1))]) D rfl nl_539 rfl rfl fun D =>
    j_aldn (pc := 28) D rfl rfl rfl fun D =>
    j_gf (pc := 29) (a := 602) D rfl rfl (by decide) rfl (s0_602 H) rfl fun D =>
    j_bp (pc := 32) D rfl fun D =>
    j_ine (pc := 34) D rfl (fun q D =>
      j_bp (pc := 37) D rfl fun D =>
      j_goto (pc := 39) D rfl <|
      fk_jump cut_539_44 rfl rfl) (fun q =>
      have D : fk_D 539 [(42, none, .bipush 11, 2, 0, 11, 0)] := fq_of2 cd_539 ow_539 cl_539 rfl (pc := 42) (by decide +kernel)
      j_bp (pc := 42) D rfl fun D =>
      fk_jump cut_539_44 rfl rfl)
theorem e_539_44 (d : Nat) (x1 x2 s0 : Int) {h : fi_H} (H : Shp h) : c_539_44 d x1 x2 s0 h =
  cv_ (fj_run d 502 h [(4, 602)])
    (fun h1 =>
    ca_ (fj_run d 540 h1 [(4, 602)]) 0
      (fun v5 h4 =>
      ca_ (fj_run d 561 h4 [(4, 602), (0, s0), (0, x2), (0, x1), (0, v5)]) 0
        (fun v8 h7 =>
        c_539_5 d v8 h7)
        (fun q9 h7 => tx_ q9 h7))
      (fun q6 h4 => tx_ q6 h4))
    (fun q3 h1 => tx_ q3 h1) := by
  unfold c_539_44
  exact
    have D : fk_D 539 [(44, some [0, 1, 2], .istore_n 3, 1, 0, 0, 0), (45, none, .aload_n 0, 1, 0, 0, 0), (46, none, .invokevirtual 567, 3, 0, 351, 0), (49, none, .aload_n 0, 1, 0, 0, 0), (50, none, .invokevirtual 709, 3, 0, 376, 1), (53, none, .istore 4, 2, 0, 0, 0), (55, none, .aload_n 0, 1, 0, 0, 0), (56, none, .iload_n 3, 1, 0, 0, 0), (57, none, .iload_n 2, 1, 0, 0, 0), (58, none, .iload_n 1, 1, 0, 0, 0), (59, none, .iload 4, 2, 0, 0, 0), (61, none, .invokevirtual 690, 3, 4, 370, 1), (64, none, .istore_n 1, 1, 0, 0, 0), (65, none, .goto (-60), 3, 5, 0, 0)] := fq_of2 cd_539 ow_539 cl_539 rfl (pc := 44) (by decide +kernel)
    j_istn (pc := 44) (L' := [(3, (0, s0)), (0, (4, 602)), (1, (0, x1)), (2, (0, x2))]) D rfl nl_539 rfl rfl fun D =>
    j_aldn (pc := 45) D rfl rfl rfl fun D =>
    j_ivv (pc := 46) (m := 502) (dd := 351) (a := []) (rest := []) D rfl rfl rfl rfl rfl (by decide) (s0_602 H) (by decide +kernel) (fun h1 e1 D =>
      have T := fj_run_ok _ _ _ _ _ _ H.1 e1
      have H := shp_st H T
      j_aldn (pc := 49) D rfl rfl rfl fun D =>
      j_iv (pc := 50) (m := 540) (dd := 376) (a := []) (rest := []) D rfl rfl rfl rfl rfl (by decide) (s0_602 H) (by decide +kernel) (fun v5 h4 e1 D =>
        have T := fj_run_ok _ _ _ _ _ _ H.1 e1
        have H := shp_st H T
        j_ist (pc := 53) (L' := [(4, (0, v5)), (3, (0, s0)), (0, (4, 602)), (1, (0, x1)), (2, (0, x2))]) D rfl nl_539 rfl rfl fun D =>
        j_aldn (pc := 55) D rfl rfl rfl fun D =>
        j_ildn (pc := 56) D rfl rfl rfl fun D =>
        j_ildn (pc := 57) D rfl rfl rfl fun D =>
        j_ildn (pc := 58) D rfl rfl rfl fun D =>
        j_ild (pc := 59) D rfl rfl rfl fun D =>
        j_iv (pc := 61) (m := 561) (dd := 370) (a := [(0, s0), (0, x2), (0, x1), (0, v5)]) (rest := []) D rfl rfl rfl rfl rfl (by decide) (s0_602 H) (by decide +kernel) (fun v8 h7 e1 D =>
          have T := fj_run_ok _ _ _ _ _ _ H.1 e1
          have H := shp_st H T
          j_istn (pc := 64) (L' := [(1, (0, v8)), (4, (0, v5)), (3, (0, s0)), (0, (4, 602)), (2, (0, x2))]) D rfl nl_539 rfl rfl fun D =>
          j_goto (pc := 65) D rfl <|
          fk_jump cut_539_5 rfl rfl) (fun q9 h7 e1 =>
          j_tx (hx_539 _))) (fun q6 h4 e1 =>
        j_tx (hx_539 _))) (fun q3 h1 e1 =>
      j_tx (hx_539 _))
theorem m_539 (d : Nat) {h : fi_H} (H : Shp h) : fj_run (d + 1) 539 h [(4, 602)] =
  ca_ (fj_run d 540 h [(4, 602)]) 0
    (fun v2 h1 =>
    c_539_5 d v2 h1)
    (fun q3 h1 => tx_ q3 h1) := by
  rw [fj_run_eq d (by decide) h [(4, 602)] (Nat.le_of_ble_eq_true (by rw [nl_539]; rfl))]
  show gG (fj_run d) 539 0 [(0, (4, 602))] [] h = _
  exact
    have D : fk_D 539 [(0, none, .aload_n 0, 1, 0, 0, 0), (1, none, .invokevirtual 709, 3, 0, 376, 1), (4, none, .istore_n 1, 1, 0, 0, 0)] := fq_of2 cd_539 ow_539 cl_539 rfl (pc := 0) (by decide +kernel)
    j_aldn (pc := 0) D rfl rfl rfl fun D =>
    j_iv (pc := 1) (m := 540) (dd := 376) (a := []) (rest := []) D rfl rfl rfl rfl rfl (by decide) (s0_602 H) (by decide +kernel) (fun v2 h1 e1 D =>
      have T := fj_run_ok _ _ _ _ _ _ H.1 e1
      have H := shp_st H T
      j_istn (pc := 4) (L' := [(1, (0, v2)), (0, (4, 602))]) D rfl nl_539 rfl rfl fun D =>
      fk_jump cut_539_5 rfl rfl) (fun q3 h1 e1 =>
      j_tx (hx_539 _))
/-! 540 StatuteHouseModel.readProd()I -/
theorem cd_540 : fi_code 540 = prog_69_method_62_code := rfl
theorem hx_540 : ∀ pc, fi_hat 540 pc = none := fun pc => by unfold fi_hat; rw [show fi_hh 540 = [] from rfl]; rfl
theorem rt_540 : fi_ret 540 = some .int := rfl
theorem nl_540 : fi_nl 540 = 5 := rfl
theorem ow_540 : fi_ow 540 = 29 := rfl
theorem cl_540 : fj_cutT.getD 540 [] = [(5, [0, 1]), (32, [0, 1]), (66, [0, 1, 2])] := rfl
theorem cut_540_5 : fj_cut 540 5 = some [0, 1] := by decide +kernel
noncomputable def c_540_5 (d : Nat) (x1 : Int) (h : fi_H) : fk_R := gG (fj_run d) 540 5 [(0, (4, 602)), (1, (0, x1))] [] h
theorem cut_540_32 : fj_cut 540 32 = some [0, 1] := by decide +kernel
noncomputable def c_540_32 (d : Nat) (x1 : Int) (h : fi_H) : fk_R := gG (fj_run d) 540 32 [(0, (4, 602)), (1, (0, x1))] [] h
theorem cut_540_66 : fj_cut 540 66 = some [0, 1, 2] := by decide +kernel
noncomputable def c_540_66 (d : Nat) (x1 x2 s0 : Int) (h : fi_H) : fk_R := gG (fj_run d) 540 66 [(0, (4, 602)), (1, (0, x1)), (2, (0, x2))] [(0, s0)] h
theorem e_540_5 (d : Nat) (x1 : Int) {h : fi_H} (H : Shp h) : c_540_5 d x1 h =
  ca_ (fj_run d 506 h [(4, 602), (0, 42)]) 0
    (fun v2 h1 =>
    if v2 = 0 then
      ca_ (fj_run d 506 h1 [(4, 602), (0, 47)]) 0
        (fun v5 h4 =>
        if v5 = 0 then
          ca_ (fj_run d 499 h4 [(4, 602), (0, 28)]) 0
            (fun v8 h7 =>
            if v8 = 0 then
              some (.inl (some (0, x1)), h7)
            else
              c_540_32 d x1 h7)
            (fun q9 h7 => tx_ q9 h7)
        else
          c_540_32 d x1 h4)
        (fun q6 h4 => tx_ q6 h4)
    else
      c_540_32 d x1 h1)
    (fun q3 h1 => tx_ q3 h1) := by
  unfold c_540_5
  exact
    have D : fk_D 540 [(5, some [0, 1], .aload_n 0, 1, 0, 0, 0), (6, none, .bipush 42, 2, 0, 42, 0), (8, none, .invokevirtual 564, 3, 1, 350, 1), (11, none, .ifCond .ne 21, 3, 32, 0, 0), (14, none, .aload_n 0, 1, 0, 0, 0), (15, none, .bipush 47, 2, 0, 47, 0), (17, none, .invokevirtual 564, 3, 1, 350, 1), (20, none, .ifCond .ne 12, 3, 32, 0, 0), (23, none, .aload_n 0, 1, 0, 0, 0), (24, none, .bipush 28, 2, 0, 28, 0), (26, none, .invokevirtual 570, 3, 1, 352, 1), (29, none, .ifCond .eq 61, 3, 90, 0, 0)] := fq_of2 cd_540 ow_540 cl_540 rfl (pc := 5) (by decide +kernel)
    j_aldn (pc := 5) D rfl rfl rfl fun D =>
    j_bp (pc := 6) D rfl fun D =>
    j_iv (pc := 8) (m := 506) (dd := 350) (a := [(0, 42)]) (rest := []) D rfl rfl rfl rfl rfl (by decide) (s0_602 H) (by decide +kernel) (fun v2 h1 e1 D =>
      have T := fj_run_ok _ _ _ _ _ _ H.1 e1
      have H := shp_st H T
      j_ifne (pc := 11) D rfl (fun q D =>
        j_aldn (pc := 14) D rfl rfl rfl fun D =>
        j_bp (pc := 15) D rfl fun D =>
        j_iv (pc := 17) (m := 506) (dd := 350) (a := [(0, 47)]) (rest := []) D rfl rfl rfl rfl rfl (by decide) (s0_602 H) (by decide +kernel) (fun v5 h4 e1 D =>
          have T := fj_run_ok _ _ _ _ _ _ H.1 e1
          have H := shp_st H T
          j_ifne (pc := 20) D rfl (fun q D =>
            j_aldn (pc := 23) D rfl rfl rfl fun D =>
            j_bp (pc := 24) D rfl fun D =>
            j_iv (pc := 26) (m := 499) (dd := 352) (a := [(0, 28)]) (rest := []) D rfl rfl rfl rfl rfl (by decide) (s0_602 H) (by decide +kernel) (fun v8 h7 e1 D =>
              have T := fj_run_ok _ _ _ _ _ _ H.1 e1
              have H := shp_st H T
              j_ifeq (pc := 29) D rfl (fun q =>
                have D : fk_D 540 [(90, none, .iload_n 1, 1, 0, 0, 0), (91, none, .ireturn, 1, 0, 0, 0)] := fq_of2 cd_540 ow_540 cl_540 rfl (pc := 90) (by decide +kernel)
                j_ildn (pc := 90) D rfl rfl rfl fun D =>
                j_iret D rt_540) (fun q D =>
                fk_jump cut_540_32 rfl rfl)) (fun q9 h7 e1 =>
              j_tx (hx_540 _))) (fun q =>
            fk_jump cut_540_32 rfl rfl)) (fun q6 h4 e1 =>
          j_tx (hx_540 _))) (fun q =>
        fk_jump cut_540_32 rfl rfl)) (fun q3 h1 e1 =>
      j_tx (hx_540 _))
theorem e_540_32 (d : Nat) (x1 : Int) {h : fi_H} (H : Shp h) : c_540_32 d x1 h =
  if h 394 602 0 = 2 then
    c_540_66 d x1 (h 396 602 0) 14 h
  else
    if h 395 602 0 = 42 then
      c_540_66 d x1 (h 396 602 0) 12 h
    else
      c_540_66 d x1 (h 396 602 0) 13 h := by
  unfold c_540_32
  exact
    have D : fk_D 540 [(32, some [0, 1], .aload_n 0, 1, 0, 0, 0), (33, none, .getfield 507, 3, 396, 129, 10), (36, none, .istore_n 2, 1, 0, 0, 0), (37, none, .aload_n 0, 1, 0, 0, 0), (38, none, .getfield 513, 3, 394, 129, 10), (41, none, .iconst 2, 1, 0, 2, 0), (42, none, .if_icmp .ne 8, 3, 50, 0, 0), (45, none, .bipush 14, 2, 0, 14, 0), (47, none, .goto 19, 3, 66, 0, 0)] := fq_of2 cd_540 ow_540 cl_540 rfl (pc := 32) (by decide +kernel)
    j_aldn (pc := 32) D rfl rfl rfl fun D =>
    j_gf (pc := 33) (a := 602) D rfl rfl (by decide) rfl (s0_602 H) rfl fun D =>
    j_istn (pc := 36) (L' := [(2, (0, h 396 602 0)), (0, (4, 602)), (1, (0, x1))]) D rfl nl_540 rfl rfl fun D =>
    j_aldn (pc := 37) D rfl rfl rfl fun D =>
    j_gf (pc := 38) (a := 602) D rfl rfl (by decide) rfl (s0_602 H) rfl fun D =>
    j_ic (pc := 41) D rfl fun D =>
    j_ine (pc := 42) D rfl (fun q D =>
      j_bp (pc := 45) D rfl fun D =>
      j_goto (pc := 47) D rfl <|
      fk_jump cut_540_66 rfl rfl) (fun q =>
      have D : fk_D 540 [(50, none, .aload_n 0, 1, 0, 0, 0), (51, none, .getfield 531, 3, 395, 129, 10), (54, none, .bipush 42, 2, 0, 42, 0), (56, none, .if_icmp .ne 8, 3, 64, 0, 0), (59, none, .bipush 12, 2, 0, 12, 0), (61, none, .goto 5, 3, 66, 0, 0)] := fq_of2 cd_540 ow_540 cl_540 rfl (pc := 50) (by decide +kernel)
      j_aldn (pc := 50) D rfl rfl rfl fun D =>
      j_gf (pc := 51) (a := 602) D rfl rfl (by decide) rfl (s0_602 H) rfl fun D =>
      j_bp (pc := 54) D rfl fun D =>
      j_ine (pc := 56) D rfl (fun q D =>
        j_bp (pc := 59) D rfl fun D =>
        j_goto (pc := 61) D rfl <|
        fk_jump cut_540_66 rfl rfl) (fun q =>
        have D : fk_D 540 [(64, none, .bipush 13, 2, 0, 13, 0)] := fq_of2 cd_540 ow_540 cl_540 rfl (pc := 64) (by decide +kernel)
        j_bp (pc := 64) D rfl fun D =>
        fk_jump cut_540_66 rfl rfl))
theorem e_540_66 (d : Nat) (x1 x2 s0 : Int) {h : fi_H} (H : Shp h) : c_540_66 d x1 x2 s0 h =
  cv_ (fj_run d 502 h [(4, 602)])
    (fun h1 =>
    ca_ (fj_run d 541 h1 [(4, 602)]) 0
      (fun v5 h4 =>
      ca_ (fj_run d 561 h4 [(4, 602), (0, s0), (0, x2), (0, x1), (0, v5)]) 0
        (fun v8 h7 =>
        c_540_5 d v8 h7)
        (fun q9 h7 => tx_ q9 h7))
      (fun q6 h4 => tx_ q6 h4))
    (fun q3 h1 => tx_ q3 h1) := by
  unfold c_540_66
  exact
    have D : fk_D 540 [(66, some [0, 1, 2], .istore_n 3, 1, 0, 0, 0), (67, none, .aload_n 0, 1, 0, 0, 0), (68, none, .invokevirtual 567, 3, 0, 351, 0), (71, none, .aload_n 0, 1, 0, 0, 0), (72, none, .invokevirtual 712, 3, 0, 377, 1), (75, none, .istore 4, 2, 0, 0, 0), (77, none, .aload_n 0, 1, 0, 0, 0), (78, none, .iload_n 3, 1, 0, 0, 0), (79, none, .iload_n 2, 1, 0, 0, 0), (80, none, .iload_n 1, 1, 0, 0, 0), (81, none, .iload 4, 2, 0, 0, 0), (83, none, .invokevirtual 690, 3, 4, 370, 1), (86, none, .istore_n 1, 1, 0, 0, 0), (87, none, .goto (-82), 3, 5, 0, 0)] := fq_of2 cd_540 ow_540 cl_540 rfl (pc := 66) (by decide +kernel)
    j_istn (pc := 66) (L' := [(3, (0, s0)), (0, (4, 602)), (1, (0, x1)), (2, (0, x2))]) D rfl nl_540 rfl rfl fun D =>
    j_aldn (pc := 67) D rfl rfl rfl fun D =>
    j_ivv (pc := 68) (m := 502) (dd := 351) (a := []) (rest := []) D rfl rfl rfl rfl rfl (by decide) (s0_602 H) (by decide +kernel) (fun h1 e1 D =>
      have T := fj_run_ok _ _ _ _ _ _ H.1 e1
      have H := shp_st H T
      j_aldn (pc := 71) D rfl rfl rfl fun D =>
      j_iv (pc := 72) (m := 541) (dd := 377) (a := []) (rest := []) D rfl rfl rfl rfl rfl (by decide) (s0_602 H) (by decide +kernel) (fun v5 h4 e1 D =>
        have T := fj_run_ok _ _ _ _ _ _ H.1 e1
        have H := shp_st H T
        j_ist (pc := 75) (L' := [(4, (0, v5)), (3, (0, s0)), (0, (4, 602)), (1, (0, x1)), (2, (0, x2))]) D rfl nl_540 rfl rfl fun D =>
        j_aldn (pc := 77) D rfl rfl rfl fun D =>
        j_ildn (pc := 78) D rfl rfl rfl fun D =>
        j_ildn (pc := 79) D rfl rfl rfl fun D =>
        j_ildn (pc := 80) D rfl rfl rfl fun D =>
        j_ild (pc := 81) D rfl rfl rfl fun D =>
        j_iv (pc := 83) (m := 561) (dd := 370) (a := [(0, s0), (0, x2), (0, x1), (0, v5)]) (rest := []) D rfl rfl rfl rfl rfl (by decide) (s0_602 H) (by decide +kernel) (fun v8 h7 e1 D =>
          have T := fj_run_ok _ _ _ _ _ _ H.1 e1
          have H := shp_st H T
          j_istn (pc := 86) (L' := [(1, (0, v8)), (4, (0, v5)), (3, (0, s0)), (0, (4, 602)), (2, (0, x2))]) D rfl nl_540 rfl rfl fun D =>
          j_goto (pc := 87) D rfl <|
          fk_jump cut_540_5 rfl rfl) (fun q9 h7 e1 =>
          j_tx (hx_540 _))) (fun q6 h4 e1 =>
        j_tx (hx_540 _))) (fun q3 h1 e1 =>
      j_tx (hx_540 _))
theorem m_540 (d : Nat) {h : fi_H} (H : Shp h) : fj_run (d + 1) 540 h [(4, 602)] =
  ca_ (fj_run d 541 h [(4, 602)]) 0
    (fun v2 h1 =>
    c_540_5 d v2 h1)
    (fun q3 h1 => tx_ q3 h1) := by
  rw [fj_run_eq d (by decide) h [(4, 602)] (Nat.le_of_ble_eq_true (by rw [nl_540]; rfl))]
  show gG (fj_run d) 540 0 [(0, (4, 602))] [] h = _
  exact
    have D : fk_D 540 [(0, none, .aload_n 0, 1, 0, 0, 0), (1, none, .invokevirtual 712, 3, 0, 377, 1), (4, none, .istore_n 1, 1, 0, 0, 0)] := fq_of2 cd_540 ow_540 cl_540 rfl (pc := 0) (by decide +kernel)
    j_aldn (pc := 0) D rfl rfl rfl fun D =>
    j_iv (pc := 1) (m := 541) (dd := 377) (a := []) (rest := []) D rfl rfl rfl rfl rfl (by decide) (s0_602 H) (by decide +kernel) (fun v2 h1 e1 D =>
      have T := fj_run_ok _ _ _ _ _ _ H.1 e1
      have H := shp_st H T
      j_istn (pc := 4) (L' := [(1, (0, v2)), (0, (4, 602))]) D rfl nl_540 rfl rfl fun D =>
      fk_jump cut_540_5 rfl rfl) (fun q3 h1 e1 =>
      j_tx (hx_540 _))
/-! 541 StatuteHouseModel.readUnit()I -/
theorem cd_541 : fi_code 541 = prog_69_method_63_code := rfl
theorem hx_541 : ∀ pc, fi_hat 541 pc = none := fun pc => by unfold fi_hat; rw [show fi_hh 541 = [] from rfl]; rfl
theorem rt_541 : fi_ret 541 = some .int := rfl
theorem nl_541 : fi_nl 541 = 4 := rfl
theorem ow_541 : fi_ow 541 = 29 := rfl
theorem cl_541 : fj_cutT.getD 541 [] = [(80, [2, 3]), (85, [2])] := rfl
theorem cut_541_80 : fj_cut 541 80 = some [2, 3] := by decide +kernel
noncomputable def c_541_80 (d : Nat) (x2 x3 s0 s1 s2 : Int) (h : fi_H) : fk_R := gG (fj_run d) 541 80 [(2, (0, x2)), (3, (0, x3))] [(0, s2), (0, s1), (4, s0)] h
theorem cut_541_85 : fj_cut 541 85 = some [2] := by decide +kernel
noncomputable def c_541_85 (d : Nat) (x2 s0 s1 s2 s3 : Int) (h : fi_H) : fk_R := gG (fj_run d) 541 85 [(2, (0, x2))] [(0, s3), (0, s2), (0, s1), (4, s0)] h
theorem e_541_80 (d : Nat) (x2 x3 s0 s1 s2 : Int) {h : fi_H} (H : Shp h) : c_541_80 d x2 x3 s0 s1 s2 h =
  c_541_85 d x2 s0 s1 s2 x3 h := by
  unfold c_541_80
  exact
    have D : fk_D 541 [(80, some [2, 3], .iload_n 3, 1, 0, 0, 0), (81, none, .goto 4, 3, 85, 0, 0)] := fq_of2 cd_541 ow_541 cl_541 rfl (pc := 80) (by decide +kernel)
    j_ildn (pc := 80) D rfl rfl rfl fun D =>
    j_goto (pc := 81) D rfl <|
    fk_jump cut_541_85 rfl rfl
theorem e_541_85 (d : Nat) (x2 s0 s1 s2 s3 : Int) {h : fi_H} (H : Shp h) : c_541_85 d x2 s0 s1 s2 s3 h =
  dv_ (fi_vt 368 (h 0 s0.toNat 0)) fun m4 => ca_ (fj_run d m4 h [(4, s0), (0, s1), (0, s2), (0, s3), (0, x2), (0, (-1)), (0, (-1))]) 0
    (fun v2 h1 =>
    some (.inl (some (0, v2)), h1))
    (fun q3 h1 => tx_ q3 h1) := by
  unfold c_541_85
  exact
    have D : fk_D 541 [(85, some [2], .iload_n 2, 1, 0, 0, 0), (86, none, .iconst (-1), 1, 0, (-1), 0), (87, none, .iconst (-1), 1, 0, (-1), 0), (88, none, .invokevirtual 683, 3, 6, 368, 1), (91, none, .ireturn, 1, 0, 0, 0)] := fq_of2 cd_541 ow_541 cl_541 rfl (pc := 85) (by decide +kernel)
    j_ildn (pc := 85) D rfl rfl rfl fun D =>
    j_ic (pc := 86) D rfl fun D =>
    j_ic (pc := 87) D rfl fun D =>
    j_ivu (pc := 88) (dd := 368) (a := [(0, s1), (0, s2), (0, s3), (0, x2), (0, (-1)), (0, (-1))]) (rest := []) H.2.1 D rfl rfl rfl rfl rfl (fun m4 v2 h1 e1 D =>
      have T := fj_run_ok _ _ _ _ _ _ H.1 e1
      have H := shp_st H T
      j_iret D rt_541) (fun m4 q3 h1 e1 =>
      j_tx (hx_541 _))
theorem m_541 (d : Nat) {h : fi_H} (H : Shp h) : fj_run (d + 1) 541 h [(4, 602)] =
  ca_ (fj_run d 506 h [(4, 602), (0, 45)]) 0
    (fun v2 h1 =>
    if v2 = 0 then
      ca_ (fj_run d 542 h1 [(4, 602)]) 0
        (fun v5 h4 =>
        some (.inl (some (0, v5)), h4))
        (fun q6 h4 => tx_ q6 h4)
    else
      cv_ (fj_run d 549 h1 [(4, 602), (0, h1 396 602 0)])
        (fun h7 =>
        cv_ (fj_run d 502 h7 [(4, 602)])
          (fun h10 =>
          ca_ (fj_run d 541 h10 [(4, 602)]) 0
            (fun v14 h13 =>
            lt_ (fi_upd h13 427 602 0 (wI ((h13 427 602 0) - 1))) fun h16 =>
            if 0 ≤ v14 ∧ v14 < 9300 then
            if h16 10 618 v14.toNat = 1 then
              c_541_80 d v14 (h16 10 618 v14.toNat) 602 15 (h1 396 602 0) h16
            else
              if h16 10 618 v14.toNat = 2 then
                c_541_80 d v14 (h16 10 618 v14.toNat) 602 15 (h1 396 602 0) h16
              else
                if h16 10 618 v14.toNat = 3 then
                  c_541_80 d v14 (h16 10 618 v14.toNat) 602 15 (h1 396 602 0) h16
                else
                  if h16 10 618 v14.toNat = 5 then
                    c_541_80 d v14 (h16 10 618 v14.toNat) 602 15 (h1 396 602 0) h16
                  else
                    if h16 10 618 v14.toNat = 6 then
                      c_541_80 d v14 (h16 10 618 v14.toNat) 602 15 (h1 396 602 0) h16
                    else
                      c_541_85 d v14 602 15 (h1 396 602 0) (-1) h16
            else none)
            (fun q15 h13 => tx_ q15 h13))
          (fun q12 h10 => tx_ q12 h10))
        (fun q9 h7 => tx_ q9 h7))
    (fun q3 h1 => tx_ q3 h1) := by
  rw [fj_run_eq d (by decide) h [(4, 602)] (Nat.le_of_ble_eq_true (by rw [nl_541]; rfl))]
  show gG (fj_run d) 541 0 [(0, (4, 602))] [] h = _
  exact
    have D : fk_D 541 [(0, none, .aload_n 0, 1, 0, 0, 0), (1, none, .bipush 45, 2, 0, 45, 0), (3, none, .invokevirtual 564, 3, 1, 350, 1), (6, none, .ifCond .ne 8, 3, 14, 0, 0), (9, none, .aload_n 0, 1, 0, 0, 0), (10, none, .invokevirtual 715, 3, 0, 378, 1), (13, none, .ireturn, 1, 0, 0, 0)] := fq_of2 cd_541 ow_541 cl_541 rfl (pc := 0) (by decide +kernel)
    j_aldn (pc := 0) D rfl rfl rfl fun D =>
    j_bp (pc := 1) D rfl fun D =>
    j_iv (pc := 3) (m := 506) (dd := 350) (a := [(0, 45)]) (rest := []) D rfl rfl rfl rfl rfl (by decide) (s0_602 H) (by decide +kernel) (fun v2 h1 e1 D =>
      have T := fj_run_ok _ _ _ _ _ _ H.1 e1
      have H := shp_st H T
      j_ifne (pc := 6) D rfl (fun q D =>
        j_aldn (pc := 9) D rfl rfl rfl fun D =>
        j_iv (pc := 10) (m := 542) (dd := 378) (a := []) (rest := []) D rfl rfl rfl rfl rfl (by decide) (s0_602 H) (by decide +kernel) (fun v5 h4 e1 D =>
          have T := fj_run_ok _ _ _ _ _ _ H.1 e1
          have H := shp_st H T
          j_iret D rt_541) (fun q6 h4 e1 =>
          j_tx (hx_541 _))) (fun q =>
        have D : fk_D 541 [(14, none, .aload_n 0, 1, 0, 0, 0), (15, none, .getfield 507, 3, 396, 129, 10), (18, none, .istore_n 1, 1, 0, 0, 0), (19, none, .aload_n 0, 1, 0, 0, 0), (20, none, .iload_n 1, 1, 0, 0, 0), (21, none, .invokevirtual 700, 3, 1, 373, 0), (24, none, .aload_n 0, 1, 0, 0, 0), (25, none, .invokevirtual 567, 3, 0, 351, 0), (28, none, .aload_n 0, 1, 0, 0, 0), (29, none, .invokevirtual 712, 3, 0, 377, 1), (32, none, .istore_n 2, 1, 0, 0, 0), (33, none, .aload_n 0, 1, 0, 0, 0), (34, none, .dup, 1, 0, 0, 0), (35, none, .getfield 576, 3, 427, 129, 10), (38, none, .iconst 1, 1, 0, 1, 0), (39, none, .isub, 1, 0, 0, 0), (40, none, .putfield 576, 3, 427, 129, 10), (43, none, .aload_n 0, 1, 0, 0, 0), (44, none, .getfield 65, 3, 419, 129, 12), (47, none, .iload_n 2, 1, 0, 0, 0)] := fq_of2 cd_541 ow_541 cl_541 rfl (pc := 14) (by decide +kernel)
        j_aldn (pc := 14) D rfl rfl rfl fun D =>
        j_gf (pc := 15) (a := 602) D rfl rfl (by decide) rfl (s0_602 H) rfl fun D =>
        j_istn (pc := 18) (L' := [(1, (0, h1 396 602 0)), (0, (4, 602))]) D rfl nl_541 rfl rfl fun D =>
        j_aldn (pc := 19) D rfl rfl rfl fun D =>
        j_ildn (pc := 20) D rfl rfl rfl fun D =>
        j_ivv (pc := 21) (m := 549) (dd := 373) (a := [(0, h1 396 602 0)]) (rest := []) D rfl rfl rfl rfl rfl (by decide) (s0_602 H) (by decide +kernel) (fun h7 e1 D =>
          have T := fj_run_ok _ _ _ _ _ _ H.1 e1
          have H := shp_st H T
          j_aldn (pc := 24) D rfl rfl rfl fun D =>
          j_ivv (pc := 25) (m := 502) (dd := 351) (a := []) (rest := []) D rfl rfl rfl rfl rfl (by decide) (s0_602 H) (by decide +kernel) (fun h10 e1 D =>
            have T := fj_run_ok _ _ _ _ _ _ H.1 e1
            have H := shp_st H T
            j_aldn (pc := 28) D rfl rfl rfl fun D =>
            j_iv (pc := 29) (m := 541) (dd := 377) (a := []) (rest := []) D rfl rfl rfl rfl rfl (by decide) (s0_602 H) (by decide +kernel) (fun v14 h13 e1 D =>
              have T := fj_run_ok _ _ _ _ _ _ H.1 e1
              have H := shp_st H T
              j_istn (pc := 32) (L' := [(2, (0, v14)), (1, (0, h1 396 602 0)), (0, (4, 602))]) D rfl nl_541 rfl rfl fun D =>
              j_aldn (pc := 33) D rfl rfl rfl fun D =>
              j_sh (pc := 34) D rfl rfl rfl fun D =>
              j_gf (pc := 35) (a := 602) D rfl rfl (by decide) rfl (s0_602 H) rfl fun D =>
              j_ic (pc := 38) D rfl fun D =>
              j_isub (pc := 39) D rfl fun D =>
              j_pf (pc := 40) (a := 602) D rfl rfl rfl (s0_602 H) rfl rfl (gy (by decide)) (gy rfl) fun h16 eh16 S D =>
              have T := fj_hs_ok H.1 S
              have H := shp_st H T
              j_aldn (pc := 43) D rfl rfl rfl fun D =>
              j_gfc (pc := 44) (a := 602) D rfl rfl (by decide) rfl (s0_602 H) rfl (sf_419_602 H) fun D =>
              j_ildn (pc := 47) D rfl rfl rfl fun D =>
              have D : fk_D 541 [(48, none, .iaload, 1, 0, 0, 0), (49, none, .istore_n 3, 1, 0, 0, 0), (50, none, .aload_n 0, 1, 0, 0, 0), (51, none, .bipush 15, 2, 0, 15, 0), (53, none, .iload_n 1, 1, 0, 0, 0), (54, none, .iload_n 3, 1, 0, 0, 0), (55, none, .iconst 1, 1, 0, 1, 0), (56, none, .if_icmp .eq 24, 3, 80, 0, 0), (59, none, .iload_n 3, 1, 0, 0, 0), (60, none, .iconst 2, 1, 0, 2, 0), (61, none, .if_icmp .eq 19, 3, 80, 0, 0), (64, none, .iload_n 3, 1, 0, 0, 0), (65, none, .iconst 3, 1, 0, 3, 0), (66, none, .if_icmp .eq 14, 3, 80, 0, 0), (69, none, .iload_n 3, 1, 0, 0, 0), (70, none, .iconst 5, 1, 0, 5, 0), (71, none, .if_icmp .eq 9, 3, 80, 0, 0), (74, none, .iload_n 3, 1, 0, 0, 0), (75, none, .bipush 6, 2, 0, 6, 0), (77, none, .if_icmp .ne 7, 3, 84, 0, 0)] := fq_of2 cd_541 ow_541 cl_541 rfl (pc := 48) (by decide +kernel)
              j_al (pc := 48) (a := 618) (e := 10) D rfl rfl rfl (by decide) (s0_618 H) (s1_618 H) ⟨rfl, rfl, rfl⟩ rfl gn fun qb17 D =>
              j_istn (pc := 49) (L' := [(3, (0, h16 10 618 v14.toNat)), (2, (0, v14)), (1, (0, h1 396 602 0)), (0, (4, 602))]) D rfl nl_541 rfl rfl fun D =>
              j_aldn (pc := 50) D rfl rfl rfl fun D =>
              j_bp (pc := 51) D rfl fun D =>
              j_ildn (pc := 53) D rfl rfl rfl fun D =>
              j_ildn (pc := 54) D rfl rfl rfl fun D =>
              j_ic (pc := 55) D rfl fun D =>
              j_ieq (pc := 56) D rfl (fun q =>
                fk_jump cut_541_80 rfl rfl) (fun q D =>
                j_ildn (pc := 59) D rfl rfl rfl fun D =>
                j_ic (pc := 60) D rfl fun D =>
                j_ieq (pc := 61) D rfl (fun q =>
                  fk_jump cut_541_80 rfl rfl) (fun q D =>
                  j_ildn (pc := 64) D rfl rfl rfl fun D =>
                  j_ic (pc := 65) D rfl fun D =>
                  j_ieq (pc := 66) D rfl (fun q =>
                    fk_jump cut_541_80 rfl rfl) (fun q D =>
                    j_ildn (pc := 69) D rfl rfl rfl fun D =>
                    j_ic (pc := 70) D rfl fun D =>
                    j_ieq (pc := 71) D rfl (fun q =>
                      fk_jump cut_541_80 rfl rfl) (fun q D =>
                      j_ildn (pc := 74) D rfl rfl rfl fun D =>
                      j_bp (pc := 75) D rfl fun D =>
                      j_ine (pc := 77) D rfl (fun q D =>
                        fk_jump cut_541_80 rfl rfl) (fun q =>
                        have D : fk_D 541 [(84, none, .iconst (-1), 1, 0, (-1), 0)] := fq_of2 cd_541 ow_541 cl_541 rfl (pc := 84) (by decide +kernel)
                        j_ic (pc := 84) D rfl fun D =>
                        fk_jump cut_541_85 rfl rfl)))))) (fun q15 h13 e1 =>
              j_tx (hx_541 _))) (fun q12 h10 e1 =>
            j_tx (hx_541 _))) (fun q9 h7 e1 =>
          j_tx (hx_541 _)))) (fun q3 h1 e1 =>
      j_tx (hx_541 _))
