/-! forms of methods 419..442, printed by gen/forms.py -/
set_option maxRecDepth 100000
/-! 419 StatuteHouse.pass(I)I -/
theorem cd_419 : fi_code 419 = prog_1_method_68_code := rfl
theorem hx_419 : ∀ pc, fi_hat 419 pc = none := fun pc => by unfold fi_hat; rw [show fi_hh 419 = [] from rfl]; rfl
theorem rt_419 : fi_ret 419 = some .int := rfl
theorem nl_419 : fi_nl 419 = 5 := rfl
theorem ow_419 : fi_ow 419 = 0 := rfl
theorem cl_419 : fj_cutT.getD 419 [] = [(28, [0, 2, 3]), (76, [0, 2, 3]), (84, [0, 2, 3]), (168, [0, 2, 3]), (169, [0, 2, 3]), (170, [0, 2, 3])] := rfl
theorem cut_419_28 : fj_cut 419 28 = some [0, 2, 3] := by decide +kernel
noncomputable def c_419_28 (d : Nat) (x2 x3 : Int) (h : fi_H) : fk_R := gG (fj_run d) 419 28 [(0, (4, 303)), (2, (0, x2)), (3, (0, x3))] [] h
theorem cut_419_76 : fj_cut 419 76 = some [0, 2, 3] := by decide +kernel
noncomputable def c_419_76 (d : Nat) (x2 x3 : Int) (h : fi_H) : fk_R := gG (fj_run d) 419 76 [(0, (4, 303)), (2, (0, x2)), (3, (0, x3))] [] h
theorem cut_419_84 : fj_cut 419 84 = some [0, 2, 3] := by decide +kernel
noncomputable def c_419_84 (d : Nat) (x2 x3 : Int) (h : fi_H) : fk_R := gG (fj_run d) 419 84 [(0, (4, 303)), (2, (0, x2)), (3, (0, x3))] [] h
theorem cut_419_168 : fj_cut 419 168 = some [0, 2, 3] := by decide +kernel
noncomputable def c_419_168 (d : Nat) (x2 x3 s0 s1 : Int) (h : fi_H) : fk_R := gG (fj_run d) 419 168 [(0, (4, 303)), (2, (0, x2)), (3, (0, x3))] [(0, s1), (4, s0)] h
theorem cut_419_169 : fj_cut 419 169 = some [0, 2, 3] := by decide +kernel
noncomputable def c_419_169 (d : Nat) (x2 x3 s0 s1 s2 : Int) (h : fi_H) : fk_R := gG (fj_run d) 419 169 [(0, (4, 303)), (2, (0, x2)), (3, (0, x3))] [(0, s2), (0, s1), (4, s0)] h
theorem cut_419_170 : fj_cut 419 170 = some [0, 2, 3] := by decide +kernel
noncomputable def c_419_170 (d : Nat) (x2 x3 : Int) (h : fi_H) : fk_R := gG (fj_run d) 419 170 [(0, (4, 303)), (2, (0, x2)), (3, (0, x3))] [] h
theorem e_419_28 (d : Nat) (x2 x3 : Int) {h : fi_H} (H : Shp h) : c_419_28 d x2 x3 h =
  if x3 < h 289 303 0 then
    if 0 ≤ x3 ∧ x3 < 30 then
    if h 0 (h 12 453 x3.toNat).toNat 0 = 104 then
    if h 380 (h 12 453 x3.toNat).toNat 0 = 0 then
      if h 378 (h 12 453 x3.toNat).toNat 0 < h 239 303 0 then
        if 302 < h 12 453 x3.toNat then
        lt_ (fi_upd h 380 (h 12 453 x3.toNat).toNat 0 2) fun h3 =>
        c_419_76 d (wI (x2 + 1)) x3 h3
        else none
      else
        c_419_76 d x2 x3 h
    else
      c_419_76 d x2 x3 h
    else none
    else none
  else
    c_419_84 d x2 0 h := by
  unfold c_419_28
  exact
    have D : fk_D 419 [(28, some [0, 2, 3], .iload_n 3, 1, 0, 0, 0), (29, none, .aload_n 0, 1, 0, 0, 0), (30, none, .getfield 914, 3, 289, 100, 10), (33, none, .if_icmp .ge 49, 3, 82, 0, 0), (36, none, .aload_n 0, 1, 0, 0, 0), (37, none, .getfield 703, 3, 288, 100, 12), (40, none, .iload_n 3, 1, 0, 0, 0), (41, none, .aaload, 1, 0, 0, 0), (42, none, .astore 4, 2, 0, 0, 0), (44, none, .aload 4, 2, 0, 0, 0), (46, none, .getfield 917, 3, 380, (-104), 10), (49, none, .ifCond .ne 27, 3, 76, 0, 0), (52, none, .aload 4, 2, 0, 0, 0), (54, none, .getfield 920, 3, 378, 104, 10), (57, none, .aload_n 0, 1, 0, 0, 0), (58, none, .getfield 615, 3, 239, 100, 10), (61, none, .if_icmp .lt 6, 3, 67, 0, 0), (64, none, .goto 12, 3, 76, 0, 0)] := fq_of2 cd_419 ow_419 cl_419 rfl (pc := 28) (by decide +kernel)
    j_ildn (pc := 28) D rfl rfl rfl fun D =>
    j_aldn (pc := 29) D rfl rfl rfl fun D =>
    j_gf (pc := 30) (a := 303) D rfl rfl (by decide) rfl (s0_303 H) rfl fun D =>
    j_ige (pc := 33) D rfl (fun q D =>
      j_aldn (pc := 36) D rfl rfl rfl fun D =>
      j_gfc (pc := 37) (a := 303) D rfl rfl (by decide) rfl (s0_303 H) rfl (sf_288_303 H) fun D =>
      j_ildn (pc := 40) D rfl rfl rfl fun D =>
      j_al (pc := 41) (a := 453) (e := 12) D rfl rfl rfl (by decide) (s0_453 H) (s1_453 H) ⟨rfl, rfl, rfl⟩ rfl gn fun qb1 D =>
      j_ast (pc := 42) (L' := [(4, (4, h 12 453 x3.toNat)), (0, (4, 303)), (2, (0, x2)), (3, (0, x3))]) D rfl nl_419 rfl rfl fun D =>
      j_ald (pc := 44) D rfl rfl rfl fun D =>
      j_gfo (pc := 46) H.2.1 D rfl rfl rfl rfl fun kc2 D =>
      j_ifne (pc := 49) D rfl (fun q D =>
        j_ald (pc := 52) D rfl rfl rfl fun D =>
        j_gf (pc := 54) (a := (h 12 453 x3.toNat).toNat) D rfl rfl (nz_cls H.2.1 kc2 (by decide)) rfl kc2 rfl fun D =>
        j_aldn (pc := 57) D rfl rfl rfl fun D =>
        j_gf (pc := 58) (a := 303) D rfl rfl (by decide) rfl (s0_303 H) rfl fun D =>
        j_ilt (pc := 61) D rfl (fun q =>
          have D : fk_D 419 [(67, none, .aload 4, 2, 0, 0, 0), (69, none, .iconst 2, 1, 0, 2, 0), (70, none, .putfield 917, 3, 380, 104, 10), (73, none, .iinc 2 1, 3, 0, 1, 0)] := fq_of2 cd_419 ow_419 cl_419 rfl (pc := 67) (by decide +kernel)
          j_ald (pc := 67) D rfl rfl rfl fun D =>
          j_ic (pc := 69) D rfl fun D =>
          j_pf (pc := 70) (a := (h 12 453 x3.toNat).toNat) D rfl rfl rfl kc2 rfl rfl gn (gy rfl) fun h3 eh3 S D =>
          have T := fj_hs_ok H.1 S
          have kc2 := cls_st H.1 T.2 kc2 (by decide)
          have H := shp_st H T
          j_inc (pc := 73) (L' := [(2, (0, wI (x2 + 1))), (4, (4, h 12 453 x3.toNat)), (0, (4, 303)), (3, (0, x3))]) D rfl rfl rfl (by decide +kernel) rfl fun D =>
          fk_jump cut_419_76 rfl rfl) (fun q D =>
          j_goto (pc := 64) D rfl <|
          fk_jump cut_419_76 rfl rfl)) (fun q =>
        fk_jump cut_419_76 rfl rfl)) (fun q =>
      have D : fk_D 419 [(82, none, .iconst 0, 1, 0, 0, 0), (83, none, .istore_n 3, 1, 0, 0, 0)] := fq_of2 cd_419 ow_419 cl_419 rfl (pc := 82) (by decide +kernel)
      j_ic (pc := 82) D rfl fun D =>
      j_istn (pc := 83) (L' := [(3, (0, 0)), (0, (4, 303)), (2, (0, x2))]) D rfl nl_419 rfl rfl fun D =>
      fk_jump cut_419_84 rfl rfl)
theorem e_419_76 (d : Nat) (x2 x3 : Int) {h : fi_H} (H : Shp h) : c_419_76 d x2 x3 h =
  c_419_28 d x2 (wI (x3 + 1)) h := by
  unfold c_419_76
  exact
    have D : fk_D 419 [(76, some [0, 2, 3], .iinc 3 1, 3, 0, 1, 0), (79, none, .goto (-51), 3, 28, 0, 0)] := fq_of2 cd_419 ow_419 cl_419 rfl (pc := 76) (by decide +kernel)
    j_inc (pc := 76) (L' := [(3, (0, wI (x3 + 1))), (0, (4, 303)), (2, (0, x2))]) D rfl rfl rfl (by decide +kernel) rfl fun D =>
    j_goto (pc := 79) D rfl <|
    fk_jump cut_419_28 rfl rfl
theorem e_419_84 (d : Nat) (x2 x3 : Int) {h : fi_H} (H : Shp h) : c_419_84 d x2 x3 h =
  if x3 < h 290 303 0 then
    if 0 ≤ x3 ∧ x3 < 400 then
    if lc_ (h 11 465 x3.toNat) 0 = 0 then
      c_419_170 d x2 x3 h
    else
      if h 4 469 x3.toNat = 0 then
        ca_ (fj_run d 6 h [(0, h 5 459 x3.toNat), (0, h 10 468 x3.toNat)]) 0
          (fun v3 h2 =>
          ca_ (fj_run d 350 h2 [(4, 306), (0, v3), (0, h2 311 303 0), (0, 0)]) 0
            (fun v6 h5 =>
            if v6 = (-1) then
              c_419_168 d x2 x3 469 x3 h5
            else
              if v6 < h5 239 303 0 then
                c_419_169 d x2 x3 469 x3 1 h5
              else
                c_419_168 d x2 x3 469 x3 h5)
            (fun q7 h5 => tx_ q7 h5))
          (fun q4 h2 => tx_ q4 h2)
      else
        c_419_170 d x2 x3 h
    else none
  else
    some (.inl (some (0, x2)), h) := by
  unfold c_419_84
  exact
    have D : fk_D 419 [(84, some [0, 2, 3], .iload_n 3, 1, 0, 0, 0), (85, none, .aload_n 0, 1, 0, 0, 0), (86, none, .getfield 923, 3, 290, 100, 10), (89, none, .if_icmp .ge 87, 3, 176, 0, 0), (92, none, .aload_n 0, 1, 0, 0, 0), (93, none, .getfield 749, 3, 305, 100, 12), (96, none, .iload_n 3, 1, 0, 0, 0), (97, none, .laload, 1, 0, 0, 0), (98, none, .lconst 0, 1, 0, 0, 0), (99, none, .lcmp, 1, 0, 0, 0), (100, none, .ifCond .eq 70, 3, 170, 0, 0), (103, none, .aload_n 0, 1, 0, 0, 0), (104, none, .getfield 761, 3, 309, 100, 12), (107, none, .iload_n 3, 1, 0, 0, 0), (108, none, .baload, 1, 0, 0, 0), (109, none, .ifCond .eq 6, 3, 115, 0, 0), (112, none, .goto 58, 3, 170, 0, 0)] := fq_of2 cd_419 ow_419 cl_419 rfl (pc := 84) (by decide +kernel)
    j_ildn (pc := 84) D rfl rfl rfl fun D =>
    j_aldn (pc := 85) D rfl rfl rfl fun D =>
    j_gf (pc := 86) (a := 303) D rfl rfl (by decide) rfl (s0_303 H) rfl fun D =>
    j_ige (pc := 89) D rfl (fun q D =>
      j_aldn (pc := 92) D rfl rfl rfl fun D =>
      j_gfc (pc := 93) (a := 303) D rfl rfl (by decide) rfl (s0_303 H) rfl (sf_305_303 H) fun D =>
      j_ildn (pc := 96) D rfl rfl rfl fun D =>
      j_al (pc := 97) (a := 465) (e := 11) D rfl rfl rfl (by decide) (s0_465 H) (s1_465 H) ⟨rfl, rfl, rfl⟩ rfl gn fun qb1 D =>
      j_c0 (pc := 98) (v := (1, 0)) D rfl rfl (by decide +kernel) fun D =>
      j_lcmp (pc := 99) D rfl fun D =>
      j_ifeq (pc := 100) D rfl (fun q =>
        fk_jump cut_419_170 rfl rfl) (fun q D =>
        j_aldn (pc := 103) D rfl rfl rfl fun D =>
        j_gfc (pc := 104) (a := 303) D rfl rfl (by decide) rfl (s0_303 H) rfl (sf_309_303 H) fun D =>
        j_ildn (pc := 107) D rfl rfl rfl fun D =>
        j_al (pc := 108) (a := 469) (e := 4) D rfl rfl rfl (by decide) (s0_469 H) (s1_469 H) ⟨rfl, rfl, rfl⟩ rfl (gy qb1) fun q D =>
        j_ifeq (pc := 109) D rfl (fun q =>
          have D : fk_D 419 [(115, none, .aload_n 0, 1, 0, 0, 0), (116, none, .getfield 16, 3, 209, 100, 12), (119, none, .aload_n 0, 1, 0, 0, 0), (120, none, .getfield 731, 3, 299, 100, 12), (123, none, .iload_n 3, 1, 0, 0, 0), (124, none, .caload, 1, 0, 0, 0), (125, none, .aload_n 0, 1, 0, 0, 0), (126, none, .getfield 758, 3, 308, 100, 12), (129, none, .iload_n 3, 1, 0, 0, 0), (130, none, .iaload, 1, 0, 0, 0), (131, none, .invokestatic 926, 3, 2, 6, 1), (134, none, .aload_n 0, 1, 0, 0, 0), (135, none, .getfield 767, 3, 311, 100, 10), (138, none, .iconst 0, 1, 0, 0, 0), (139, none, .invokevirtual 168, 3, 3, 119, 1), (142, none, .istore 4, 2, 0, 0, 0), (144, none, .aload_n 0, 1, 0, 0, 0), (145, none, .getfield 761, 3, 309, 100, 12), (148, none, .iload_n 3, 1, 0, 0, 0), (149, none, .iload 4, 2, 0, 0, 0)] := fq_of2 cd_419 ow_419 cl_419 rfl (pc := 115) (by decide +kernel)
          j_aldn (pc := 115) D rfl rfl rfl fun D =>
          j_gfc (pc := 116) (a := 303) D rfl rfl (by decide) rfl (s0_303 H) rfl (sf_209_303 H) fun D =>
          j_aldn (pc := 119) D rfl rfl rfl fun D =>
          j_gfc (pc := 120) (a := 303) D rfl rfl (by decide) rfl (s0_303 H) rfl (sf_299_303 H) fun D =>
          j_ildn (pc := 123) D rfl rfl rfl fun D =>
          j_al (pc := 124) (a := 459) (e := 5) D rfl rfl rfl (by decide) (s0_459 H) (s1_459 H) ⟨rfl, rfl, rfl⟩ rfl (gy qb1) fun q D =>
          j_aldn (pc := 125) D rfl rfl rfl fun D =>
          j_gfc (pc := 126) (a := 303) D rfl rfl (by decide) rfl (s0_303 H) rfl (sf_308_303 H) fun D =>
          j_ildn (pc := 129) D rfl rfl rfl fun D =>
          j_al (pc := 130) (a := 468) (e := 10) D rfl rfl rfl (by decide) (s0_468 H) (s1_468 H) ⟨rfl, rfl, rfl⟩ rfl (gy qb1) fun q D =>
          j_is (pc := 131) (m := 6) (a := [(0, h 5 459 x3.toNat), (0, h 10 468 x3.toNat)]) (rest := [(4, 306)]) D rfl rfl rfl rfl (fun v3 h2 e1 D =>
            have T := fj_run_ok _ _ _ _ _ _ H.1 e1
            have H := shp_st H T
            j_aldn (pc := 134) D rfl rfl rfl fun D =>
            j_gf (pc := 135) (a := 303) D rfl rfl (by decide) rfl (s0_303 H) rfl fun D =>
            j_ic (pc := 138) D rfl fun D =>
            j_iv (pc := 139) (m := 350) (dd := 119) (a := [(0, v3), (0, h2 311 303 0), (0, 0)]) (rest := []) D rfl rfl rfl rfl rfl (by decide) (s0_306 H) (by decide +kernel) (fun v6 h5 e1 D =>
              have T := fj_run_ok _ _ _ _ _ _ H.1 e1
              have H := shp_st H T
              j_ist (pc := 142) (L' := [(4, (0, v6)), (0, (4, 303)), (2, (0, x2)), (3, (0, x3))]) D rfl nl_419 rfl rfl fun D =>
              j_aldn (pc := 144) D rfl rfl rfl fun D =>
              j_gfc (pc := 145) (a := 303) D rfl rfl (by decide) rfl (s0_303 H) rfl (sf_309_303 H) fun D =>
              j_ildn (pc := 148) D rfl rfl rfl fun D =>
              j_ild (pc := 149) D rfl rfl rfl fun D =>
              have D : fk_D 419 [(151, none, .iconst (-1), 1, 0, (-1), 0), (152, none, .if_icmp .eq 16, 3, 168, 0, 0), (155, none, .iload 4, 2, 0, 0, 0), (157, none, .aload_n 0, 1, 0, 0, 0), (158, none, .getfield 615, 3, 239, 100, 10), (161, none, .if_icmp .ge 7, 3, 168, 0, 0), (164, none, .iconst 1, 1, 0, 1, 0), (165, none, .goto 4, 3, 169, 0, 0)] := fq_of2 cd_419 ow_419 cl_419 rfl (pc := 151) (by decide +kernel)
              j_ic (pc := 151) D rfl fun D =>
              j_ieq (pc := 152) D rfl (fun q =>
                fk_jump cut_419_168 rfl rfl) (fun q D =>
                j_ild (pc := 155) D rfl rfl rfl fun D =>
                j_aldn (pc := 157) D rfl rfl rfl fun D =>
                j_gf (pc := 158) (a := 303) D rfl rfl (by decide) rfl (s0_303 H) rfl fun D =>
                j_ige (pc := 161) D rfl (fun q D =>
                  j_ic (pc := 164) D rfl fun D =>
                  j_goto (pc := 165) D rfl <|
                  fk_jump cut_419_169 rfl rfl) (fun q =>
                  fk_jump cut_419_168 rfl rfl))) (fun q7 h5 e1 =>
              j_tx (hx_419 _))) (fun q4 h2 e1 =>
            j_tx (hx_419 _))) (fun q D =>
          j_goto (pc := 112) D rfl <|
          fk_jump cut_419_170 rfl rfl))) (fun q =>
      have D : fk_D 419 [(176, none, .iload_n 2, 1, 0, 0, 0), (177, none, .ireturn, 1, 0, 0, 0)] := fq_of2 cd_419 ow_419 cl_419 rfl (pc := 176) (by decide +kernel)
      j_ildn (pc := 176) D rfl rfl rfl fun D =>
      j_iret D rt_419)
theorem e_419_168 (d : Nat) (x2 x3 s0 s1 : Int) {h : fi_H} (H : Shp h) : c_419_168 d x2 x3 s0 s1 h =
  c_419_169 d x2 x3 s0 s1 0 h := by
  unfold c_419_168
  exact
    have D : fk_D 419 [(168, some [0, 2, 3], .iconst 0, 1, 0, 0, 0)] := fq_of2 cd_419 ow_419 cl_419 rfl (pc := 168) (by decide +kernel)
    j_ic (pc := 168) D rfl fun D =>
    fk_jump cut_419_169 rfl rfl
theorem e_419_169 (d : Nat) (x2 x3 s0 s1 s2 : Int) {h : fi_H} (H : Shp h) : c_419_169 d x2 x3 s0 s1 s2 h =
  if 302 < s0 ∧ fi_et 1 (h 0 s0.toNat 0) ≠ 0 then
  if 0 ≤ s1 ∧ s1 < h 1 s0.toNat 0 then
  if fi_rg (fi_et 1 (h 0 s0.toNat 0)) s2 = true then
  lt_ (fi_upd h (fi_et 1 (h 0 s0.toNat 0)) s0.toNat s1.toNat s2) fun h1 =>
  c_419_170 d x2 x3 h1
  else none
  else none
  else none := by
  unfold c_419_169
  exact
    have D : fk_D 419 [(169, some [0, 2, 3], .bastore, 1, 0, 0, 0)] := fq_of2 cd_419 ow_419 cl_419 rfl (pc := 169) (by decide +kernel)
    j_asub (pc := 169) D rfl rfl gn gn gn fun h1 eh1 S q q2 D =>
    have T := fj_hs_ok H.1 S
    have H := shp_st H T
    fk_jump cut_419_170 rfl rfl
theorem e_419_170 (d : Nat) (x2 x3 : Int) {h : fi_H} (H : Shp h) : c_419_170 d x2 x3 h =
  c_419_84 d x2 (wI (x3 + 1)) h := by
  unfold c_419_170
  exact
    have D : fk_D 419 [(170, some [0, 2, 3], .iinc 3 1, 3, 0, 1, 0), (173, none, .goto (-89), 3, 84, 0, 0)] := fq_of2 cd_419 ow_419 cl_419 rfl (pc := 170) (by decide +kernel)
    j_inc (pc := 170) (L' := [(3, (0, wI (x3 + 1))), (0, (4, 303)), (2, (0, x2))]) D rfl rfl rfl (by decide +kernel) rfl fun D =>
    j_goto (pc := 173) D rfl <|
    fk_jump cut_419_84 rfl rfl
theorem m_419 (d : Nat) (x1 : Int) {h : fi_H} (H : Shp h) : fj_run (d + 1) 419 h [(4, 303), (0, x1)] =
  ca_ (fj_run d 3 h [(1, wI x1), (1, wI (h 239 303 0)), (1, 65535)]) 0
    (fun v2 h1 =>
    if v2 = 0 then
      some (.inl (some (0, (-2))), h1)
    else
      lt_ (fi_upd h1 239 303 0 x1) fun h4 =>
      c_419_28 d 0 0 h4)
    (fun q3 h1 => tx_ q3 h1) := by
  rw [fj_run_eq d (by decide) h [(4, 303), (0, x1)] (Nat.le_of_ble_eq_true (by rw [nl_419]; rfl))]
  show gG (fj_run d) 419 0 [(0, (4, 303)), (1, (0, x1))] [] h = _
  exact
    have D : fk_D 419 [(0, none, .iload_n 1, 1, 0, 0, 0), (1, none, .i2l, 1, 0, 0, 0), (2, none, .aload_n 0, 1, 0, 0, 0), (3, none, .getfield 615, 3, 239, 100, 10), (6, none, .i2l, 1, 0, 0, 0), (7, none, .ldc2_w 44, 3, 1, 65535, 0), (10, none, .invokestatic 46, 3, 3, 3, 1), (13, none, .ifCond .ne 6, 3, 19, 0, 0), (16, none, .bipush (-2), 2, 0, (-2), 0), (18, none, .ireturn, 1, 0, 0, 0)] := fq_of2 cd_419 ow_419 cl_419 rfl (pc := 0) (by decide +kernel)
    j_ildn (pc := 0) D rfl rfl rfl fun D =>
    j_i2l (pc := 1) D rfl fun D =>
    j_aldn (pc := 2) D rfl rfl rfl fun D =>
    j_gf (pc := 3) (a := 303) D rfl rfl (by decide) rfl (s0_303 H) rfl fun D =>
    j_i2l (pc := 6) D rfl fun D =>
    j_ldc2 (pc := 7) D rfl fun D =>
    j_is (pc := 10) (m := 3) (a := [(1, wI x1), (1, wI (h 239 303 0)), (1, 65535)]) (rest := []) D rfl rfl rfl rfl (fun v2 h1 e1 D =>
      have T := fj_run_ok _ _ _ _ _ _ H.1 e1
      have H := shp_st H T
      j_ifne (pc := 13) D rfl (fun q D =>
        j_bp (pc := 16) D rfl fun D =>
        j_iret D rt_419) (fun q =>
        have D : fk_D 419 [(19, none, .aload_n 0, 1, 0, 0, 0), (20, none, .iload_n 1, 1, 0, 0, 0), (21, none, .putfield 615, 3, 239, 100, 10), (24, none, .iconst 0, 1, 0, 0, 0), (25, none, .istore_n 2, 1, 0, 0, 0), (26, none, .iconst 0, 1, 0, 0, 0), (27, none, .istore_n 3, 1, 0, 0, 0)] := fq_of2 cd_419 ow_419 cl_419 rfl (pc := 19) (by decide +kernel)
        j_aldn (pc := 19) D rfl rfl rfl fun D =>
        j_ildn (pc := 20) D rfl rfl rfl fun D =>
        j_pf (pc := 21) (a := 303) D rfl rfl rfl (s0_303 H) rfl rfl (gy (by decide)) (gy rfl) fun h4 eh4 S D =>
        have T := fj_hs_ok H.1 S
        have H := shp_st H T
        j_ic (pc := 24) D rfl fun D =>
        j_istn (pc := 25) (L' := [(2, (0, 0)), (0, (4, 303)), (1, (0, x1))]) D rfl nl_419 rfl rfl fun D =>
        j_ic (pc := 26) D rfl fun D =>
        j_istn (pc := 27) (L' := [(3, (0, 0)), (2, (0, 0)), (0, (4, 303)), (1, (0, x1))]) D rfl nl_419 rfl rfl fun D =>
        fk_jump cut_419_28 rfl rfl)) (fun q3 h1 e1 =>
      j_tx (hx_419 _))
/-! 420 StatuteHouse.due(III)I -/
theorem cd_420 : fi_code 420 = prog_1_method_69_code := rfl
theorem hx_420 : ∀ pc, fi_hat 420 pc = none := fun pc => by unfold fi_hat; rw [show fi_hh 420 = [] from rfl]; rfl
theorem rt_420 : fi_ret 420 = some .int := rfl
theorem nl_420 : fi_nl 420 = 6 := rfl
theorem ow_420 : fi_ow 420 = 0 := rfl
theorem cl_420 : fj_cutT.getD 420 [] = [(67, [])] := rfl
theorem cut_420_67 : fj_cut 420 67 = some [] := by decide +kernel
noncomputable def c_420_67 (d : Nat) (s0 : Int) (h : fi_H) : fk_R := gG (fj_run d) 420 67 [] [(0, s0)] h
theorem e_420_67 (d : Nat) (s0 : Int) {h : fi_H} (H : Shp h) : c_420_67 d s0 h =
  if s0 = (-1) then
    some (.inl (some (0, (-4))), h)
  else
    some (.inl (some (0, s0)), h) := by
  unfold c_420_67
  exact
    have D : fk_D 420 [(67, some [], .istore 5, 2, 0, 0, 0), (69, none, .iload 5, 2, 0, 0, 0), (71, none, .iconst (-1), 1, 0, (-1), 0), (72, none, .if_icmp .ne 8, 3, 80, 0, 0), (75, none, .bipush (-4), 2, 0, (-4), 0), (77, none, .goto 5, 3, 82, 0, 0)] := fq_of2 cd_420 ow_420 cl_420 rfl (pc := 67) (by decide +kernel)
    j_ist (pc := 67) (L' := [(5, (0, s0))]) D rfl nl_420 rfl rfl fun D =>
    j_ild (pc := 69) D rfl rfl rfl fun D =>
    j_ic (pc := 71) D rfl fun D =>
    j_ine (pc := 72) D rfl (fun q D =>
      j_bp (pc := 75) D rfl fun D =>
      j_goto (pc := 77) D rfl <|
      have D : fk_D 420 [(82, none, .ireturn, 1, 0, 0, 0)] := fq_of2 cd_420 ow_420 cl_420 rfl (pc := 82) (by decide +kernel)
      j_iret D rt_420) (fun q =>
      have D : fk_D 420 [(80, none, .iload 5, 2, 0, 0, 0), (82, none, .ireturn, 1, 0, 0, 0)] := fq_of2 cd_420 ow_420 cl_420 rfl (pc := 80) (by decide +kernel)
      j_ild (pc := 80) D rfl rfl rfl fun D =>
      j_iret D rt_420)
theorem m_420 (d : Nat) (x1 x2 x3 : Int) {h : fi_H} (H : Shp h) : fj_run (d + 1) 420 h [(4, 303), (0, x1), (0, x2), (0, x3)] =
  ca_ (fj_run d 2 h [(4, 303), (0, x1)]) 0
    (fun v2 h1 =>
    if v2 = 0 then
      some (.inl (some (0, (-2))), h1)
    else
      ca_ (fj_run d 3 h1 [(1, wI x2), (1, (-2400)), (1, 2400)]) 0
        (fun v5 h4 =>
        if v5 = 0 then
          some (.inl (some (0, (-2))), h4)
        else
          ca_ (fj_run d 3 h4 [(1, wI x3), (1, (-65535)), (1, 65535)]) 0
            (fun v8 h7 =>
            if v8 = 0 then
              some (.inl (some (0, (-2))), h7)
            else
              ca_ (fj_run d 350 h7 [(4, 306), (0, x1), (0, x2), (0, x3)]) 0
                (fun v11 h10 =>
                if v11 = (-1) then
                  c_420_67 d (-1) h10
                else
                  ca_ (fj_run d 391 h10 [(4, 303), (0, v11)]) 0
                    (fun v14 h13 =>
                    c_420_67 d v14 h13)
                    (fun q15 h13 => tx_ q15 h13))
                (fun q12 h10 => tx_ q12 h10))
            (fun q9 h7 => tx_ q9 h7))
        (fun q6 h4 => tx_ q6 h4))
    (fun q3 h1 => tx_ q3 h1) := by
  rw [fj_run_eq d (by decide) h [(4, 303), (0, x1), (0, x2), (0, x3)] (Nat.le_of_ble_eq_true (by rw [nl_420]; rfl))]
  show gG (fj_run d) 420 0 [(0, (4, 303)), (1, (0, x1)), (2, (0, x2)), (3, (0, x3))] [] h = _
  exact
    have D : fk_D 420 [(0, none, .aload_n 0, 1, 0, 0, 0), (1, none, .iload_n 1, 1, 0, 0, 0), (2, none, .invokevirtual 121, 3, 1, 113, 1), (5, none, .ifCond .eq 31, 3, 36, 0, 0), (8, none, .iload_n 2, 1, 0, 0, 0), (9, none, .i2l, 1, 0, 0, 0), (10, none, .ldc2_w 124, 3, 1, (-2400), 0), (13, none, .ldc2_w 126, 3, 1, 2400, 0), (16, none, .invokestatic 46, 3, 3, 3, 1), (19, none, .ifCond .eq 17, 3, 36, 0, 0), (22, none, .iload_n 3, 1, 0, 0, 0), (23, none, .i2l, 1, 0, 0, 0), (24, none, .ldc2_w 128, 3, 1, (-65535), 0), (27, none, .ldc2_w 44, 3, 1, 65535, 0), (30, none, .invokestatic 46, 3, 3, 3, 1), (33, none, .ifCond .ne 6, 3, 39, 0, 0), (36, none, .bipush (-2), 2, 0, (-2), 0), (38, none, .ireturn, 1, 0, 0, 0)] := fq_of2 cd_420 ow_420 cl_420 rfl (pc := 0) (by decide +kernel)
    j_aldn (pc := 0) D rfl rfl rfl fun D =>
    j_ildn (pc := 1) D rfl rfl rfl fun D =>
    j_iv (pc := 2) (m := 2) (dd := 113) (a := [(0, x1)]) (rest := []) D rfl rfl rfl rfl rfl (by decide) (s0_303 H) (by decide +kernel) (fun v2 h1 e1 D =>
      have T := fj_run_ok _ _ _ _ _ _ H.1 e1
      have H := shp_st H T
      j_ifeq (pc := 5) D rfl (fun q =>
        have D : fk_D 420 [(36, none, .bipush (-2), 2, 0, (-2), 0), (38, none, .ireturn, 1, 0, 0, 0)] := fq_of2 cd_420 ow_420 cl_420 rfl (pc := 36) (by decide +kernel)
        j_bp (pc := 36) D rfl fun D =>
        j_iret D rt_420) (fun q D =>
        j_ildn (pc := 8) D rfl rfl rfl fun D =>
        j_i2l (pc := 9) D rfl fun D =>
        j_ldc2 (pc := 10) D rfl fun D =>
        j_ldc2 (pc := 13) D rfl fun D =>
        j_is (pc := 16) (m := 3) (a := [(1, wI x2), (1, (-2400)), (1, 2400)]) (rest := []) D rfl rfl rfl rfl (fun v5 h4 e1 D =>
          have T := fj_run_ok _ _ _ _ _ _ H.1 e1
          have H := shp_st H T
          j_ifeq (pc := 19) D rfl (fun q =>
            have D : fk_D 420 [(36, none, .bipush (-2), 2, 0, (-2), 0), (38, none, .ireturn, 1, 0, 0, 0)] := fq_of2 cd_420 ow_420 cl_420 rfl (pc := 36) (by decide +kernel)
            j_bp (pc := 36) D rfl fun D =>
            j_iret D rt_420) (fun q D =>
            j_ildn (pc := 22) D rfl rfl rfl fun D =>
            j_i2l (pc := 23) D rfl fun D =>
            j_ldc2 (pc := 24) D rfl fun D =>
            j_ldc2 (pc := 27) D rfl fun D =>
            j_is (pc := 30) (m := 3) (a := [(1, wI x3), (1, (-65535)), (1, 65535)]) (rest := []) D rfl rfl rfl rfl (fun v8 h7 e1 D =>
              have T := fj_run_ok _ _ _ _ _ _ H.1 e1
              have H := shp_st H T
              j_ifne (pc := 33) D rfl (fun q D =>
                j_bp (pc := 36) D rfl fun D =>
                j_iret D rt_420) (fun q =>
                have D : fk_D 420 [(39, none, .aload_n 0, 1, 0, 0, 0), (40, none, .getfield 16, 3, 209, 100, 12), (43, none, .iload_n 1, 1, 0, 0, 0), (44, none, .iload_n 2, 1, 0, 0, 0), (45, none, .iload_n 3, 1, 0, 0, 0), (46, none, .invokevirtual 168, 3, 3, 119, 1), (49, none, .istore 4, 2, 0, 0, 0), (51, none, .iload 4, 2, 0, 0, 0), (53, none, .iconst (-1), 1, 0, (-1), 0), (54, none, .if_icmp .ne 7, 3, 61, 0, 0), (57, none, .iconst (-1), 1, 0, (-1), 0), (58, none, .goto 9, 3, 67, 0, 0)] := fq_of2 cd_420 ow_420 cl_420 rfl (pc := 39) (by decide +kernel)
                j_aldn (pc := 39) D rfl rfl rfl fun D =>
                j_gfc (pc := 40) (a := 303) D rfl rfl (by decide) rfl (s0_303 H) rfl (sf_209_303 H) fun D =>
                j_ildn (pc := 43) D rfl rfl rfl fun D =>
                j_ildn (pc := 44) D rfl rfl rfl fun D =>
                j_ildn (pc := 45) D rfl rfl rfl fun D =>
                j_iv (pc := 46) (m := 350) (dd := 119) (a := [(0, x1), (0, x2), (0, x3)]) (rest := []) D rfl rfl rfl rfl rfl (by decide) (s0_306 H) (by decide +kernel) (fun v11 h10 e1 D =>
                  have T := fj_run_ok _ _ _ _ _ _ H.1 e1
                  have H := shp_st H T
                  j_ist (pc := 49) (L' := [(4, (0, v11)), (0, (4, 303)), (1, (0, x1)), (2, (0, x2)), (3, (0, x3))]) D rfl nl_420 rfl rfl fun D =>
                  j_ild (pc := 51) D rfl rfl rfl fun D =>
                  j_ic (pc := 53) D rfl fun D =>
                  j_ine (pc := 54) D rfl (fun q D =>
                    j_ic (pc := 57) D rfl fun D =>
                    j_goto (pc := 58) D rfl <|
                    fk_jump cut_420_67 rfl rfl) (fun q =>
                    have D : fk_D 420 [(61, none, .aload_n 0, 1, 0, 0, 0), (62, none, .iload 4, 2, 0, 0, 0), (64, none, .invokevirtual 929, 3, 1, 176, 1)] := fq_of2 cd_420 ow_420 cl_420 rfl (pc := 61) (by decide +kernel)
                    j_aldn (pc := 61) D rfl rfl rfl fun D =>
                    j_ild (pc := 62) D rfl rfl rfl fun D =>
                    j_iv (pc := 64) (m := 391) (dd := 176) (a := [(0, v11)]) (rest := []) D rfl rfl rfl rfl rfl (by decide) (s0_303 H) (by decide +kernel) (fun v14 h13 e1 D =>
                      have T := fj_run_ok _ _ _ _ _ _ H.1 e1
                      have H := shp_st H T
                      fk_jump cut_420_67 rfl rfl) (fun q15 h13 e1 =>
                      j_tx (hx_420 _)))) (fun q12 h10 e1 =>
                  j_tx (hx_420 _)))) (fun q9 h7 e1 =>
              j_tx (hx_420 _)))) (fun q6 h4 e1 =>
          j_tx (hx_420 _)))) (fun q3 h1 e1 =>
      j_tx (hx_420 _))
/-! 421 StatuteHouse.person()I -/
theorem cd_421 : fi_code 421 = prog_1_method_70_code := rfl
theorem hx_421 : ∀ pc, fi_hat 421 pc = none := fun pc => by unfold fi_hat; rw [show fi_hh 421 = [] from rfl]; rfl
theorem rt_421 : fi_ret 421 = some .int := rfl
theorem nl_421 : fi_nl 421 = 1 := rfl
theorem ow_421 : fi_ow 421 = 0 := rfl
theorem cl_421 : fj_cutT.getD 421 [] = [] := rfl
theorem m_421 (d : Nat) {h : fi_H} (H : Shp h) : fj_run (d + 1) 421 h [(4, 303)] =
  if h 216 303 0 = 30 then
    some (.inl (some (0, (-4))), h)
  else
    lt_ (fi_upd h 216 303 0 (wI ((h 216 303 0) + 1))) fun h1 =>
    some (.inl (some (0, wI ((h1 216 303 0) - 1))), h1) := by
  rw [fj_run_eq d (by decide) h [(4, 303)] (Nat.le_of_ble_eq_true (by rw [nl_421]; rfl))]
  show gG (fj_run d) 421 0 [(0, (4, 303))] [] h = _
  exact
    have D : fk_D 421 [(0, none, .aload_n 0, 1, 0, 0, 0), (1, none, .getfield 267, 3, 216, 100, 10), (4, none, .bipush 30, 2, 0, 30, 0), (6, none, .if_icmp .ne 6, 3, 12, 0, 0), (9, none, .bipush (-4), 2, 0, (-4), 0), (11, none, .ireturn, 1, 0, 0, 0)] := fq_of2 cd_421 ow_421 cl_421 rfl (pc := 0) (by decide +kernel)
    j_aldn (pc := 0) D rfl rfl rfl fun D =>
    j_gf (pc := 1) (a := 303) D rfl rfl (by decide) rfl (s0_303 H) rfl fun D =>
    j_bp (pc := 4) D rfl fun D =>
    j_ine (pc := 6) D rfl (fun q D =>
      j_bp (pc := 9) D rfl fun D =>
      j_iret D rt_421) (fun q =>
      have D : fk_D 421 [(12, none, .aload_n 0, 1, 0, 0, 0), (13, none, .dup, 1, 0, 0, 0), (14, none, .getfield 267, 3, 216, 100, 10), (17, none, .iconst 1, 1, 0, 1, 0), (18, none, .iadd, 1, 0, 0, 0), (19, none, .putfield 267, 3, 216, 100, 10), (22, none, .aload_n 0, 1, 0, 0, 0), (23, none, .getfield 267, 3, 216, 100, 10), (26, none, .iconst 1, 1, 0, 1, 0), (27, none, .isub, 1, 0, 0, 0), (28, none, .ireturn, 1, 0, 0, 0)] := fq_of2 cd_421 ow_421 cl_421 rfl (pc := 12) (by decide +kernel)
      j_aldn (pc := 12) D rfl rfl rfl fun D =>
      j_sh (pc := 13) D rfl rfl rfl fun D =>
      j_gf (pc := 14) (a := 303) D rfl rfl (by decide) rfl (s0_303 H) rfl fun D =>
      j_ic (pc := 17) D rfl fun D =>
      j_iadd (pc := 18) D rfl fun D =>
      j_pf (pc := 19) (a := 303) D rfl rfl rfl (s0_303 H) rfl rfl (gy (by decide)) (gy rfl) fun h1 eh1 S D =>
      have T := fj_hs_ok H.1 S
      have H := shp_st H T
      j_aldn (pc := 22) D rfl rfl rfl fun D =>
      j_gf (pc := 23) (a := 303) D rfl rfl (by decide) rfl (s0_303 H) rfl fun D =>
      j_ic (pc := 26) D rfl fun D =>
      j_isub (pc := 27) D rfl fun D =>
      j_iret D rt_421)
/-! 422 StatuteHouse.weight(II)I -/
theorem cd_422 : fi_code 422 = prog_1_method_71_code := rfl
theorem hx_422 : ∀ pc, fi_hat 422 pc = none := fun pc => by unfold fi_hat; rw [show fi_hh 422 = [] from rfl]; rfl
theorem rt_422 : fi_ret 422 = some .int := rfl
theorem nl_422 : fi_nl 422 = 3 := rfl
theorem ow_422 : fi_ow 422 = 0 := rfl
theorem cl_422 : fj_cutT.getD 422 [] = [] := rfl
theorem m_422 (d : Nat) (x1 x2 : Int) {h : fi_H} (H : Shp h) : fj_run (d + 1) 422 h [(4, 303), (0, x1), (0, x2)] =
  ca_ (fj_run d 303 h [(4, 303), (0, x1)]) 0
    (fun v2 h1 =>
    if v2 = 0 then
      some (.inl (some (0, (-1))), h1)
    else
      if 0 < x2 then
        if 1232348160 < x2 then
          some (.inl (some (0, (-2))), h1)
        else
          ca_ (fj_run d 1003 h1 [(0, x2)]) 2
            (fun v5 h4 =>
            if 0 ≤ x1 ∧ x1 < 30 then
            lt_ (fi_upd h4 6 321 x1.toNat v5) fun h7 =>
            some (.inl (some (0, 1)), h7)
            else none)
            (fun q6 h4 => tx_ q6 h4)
      else
        some (.inl (some (0, (-2))), h1))
    (fun q3 h1 => tx_ q3 h1) := by
  rw [fj_run_eq d (by decide) h [(4, 303), (0, x1), (0, x2)] (Nat.le_of_ble_eq_true (by rw [nl_422]; rfl))]
  show gG (fj_run d) 422 0 [(0, (4, 303)), (1, (0, x1)), (2, (0, x2))] [] h = _
  exact
    have D : fk_D 422 [(0, none, .aload_n 0, 1, 0, 0, 0), (1, none, .iload_n 1, 1, 0, 0, 0), (2, none, .invokevirtual 870, 3, 1, 167, 1), (5, none, .ifCond .ne 5, 3, 10, 0, 0), (8, none, .iconst (-1), 1, 0, (-1), 0), (9, none, .ireturn, 1, 0, 0, 0)] := fq_of2 cd_422 ow_422 cl_422 rfl (pc := 0) (by decide +kernel)
    j_aldn (pc := 0) D rfl rfl rfl fun D =>
    j_ildn (pc := 1) D rfl rfl rfl fun D =>
    j_iv (pc := 2) (m := 303) (dd := 167) (a := [(0, x1)]) (rest := []) D rfl rfl rfl rfl rfl (by decide) (s0_303 H) (by decide +kernel) (fun v2 h1 e1 D =>
      have T := fj_run_ok _ _ _ _ _ _ H.1 e1
      have H := shp_st H T
      j_ifne (pc := 5) D rfl (fun q D =>
        j_ic (pc := 8) D rfl fun D =>
        j_iret D rt_422) (fun q =>
        have D : fk_D 422 [(10, none, .iload_n 2, 1, 0, 0, 0), (11, none, .ifCond .le 10, 3, 21, 0, 0), (14, none, .iload_n 2, 1, 0, 0, 0), (15, none, .ldc_w 933, 3, 0, 1232348160, 0), (18, none, .if_icmp .le 6, 3, 24, 0, 0), (21, none, .bipush (-2), 2, 0, (-2), 0), (23, none, .ireturn, 1, 0, 0, 0)] := fq_of2 cd_422 ow_422 cl_422 rfl (pc := 10) (by decide +kernel)
        j_ildn (pc := 10) D rfl rfl rfl fun D =>
        j_ifle (pc := 11) D rfl (fun q D =>
          j_ildn (pc := 14) D rfl rfl rfl fun D =>
          j_ldcw (pc := 15) D rfl fun D =>
          j_ile (pc := 18) D rfl (fun q D =>
            j_bp (pc := 21) D rfl fun D =>
            j_iret D rt_422) (fun q =>
            have D : fk_D 422 [(24, none, .aload_n 0, 1, 0, 0, 0), (25, none, .getfield 649, 3, 217, 100, 12), (28, none, .iload_n 1, 1, 0, 0, 0), (29, none, .iload_n 2, 1, 0, 0, 0), (30, none, .invokestatic 934, 3, 1, 1003, 3), (33, none, .fastore, 1, 0, 0, 0), (34, none, .iconst 1, 1, 0, 1, 0), (35, none, .ireturn, 1, 0, 0, 0)] := fq_of2 cd_422 ow_422 cl_422 rfl (pc := 24) (by decide +kernel)
            j_aldn (pc := 24) D rfl rfl rfl fun D =>
            j_gfc (pc := 25) (a := 303) D rfl rfl (by decide) rfl (s0_303 H) rfl (sf_217_303 H) fun D =>
            j_ildn (pc := 28) D rfl rfl rfl fun D =>
            j_ildn (pc := 29) D rfl rfl rfl fun D =>
            j_is (pc := 30) (m := 1003) (a := [(0, x2)]) (rest := [(0, x1), (4, 321)]) D rfl rfl rfl rfl (fun v5 h4 e1 D =>
              have T := fj_run_ok _ _ _ _ _ _ H.1 e1
              have H := shp_st H T
              j_as (pc := 33) (a := 321) (e := 6) D rfl ⟨rfl, rfl⟩ rfl (by decide) (s0_321 H) (s1_321 H) ⟨rfl, rfl, rfl⟩ rfl gn (gy rfl) fun h7 eh7 S qb8 D =>
              have T := fj_hs_ok H.1 S
              have H := shp_st H T
              j_ic (pc := 34) D rfl fun D =>
              j_iret D rt_422) (fun q6 h4 e1 =>
              j_tx (hx_422 _)))) (fun q =>
          have D : fk_D 422 [(21, none, .bipush (-2), 2, 0, (-2), 0), (23, none, .ireturn, 1, 0, 0, 0)] := fq_of2 cd_422 ow_422 cl_422 rfl (pc := 21) (by decide +kernel)
          j_bp (pc := 21) D rfl fun D =>
          j_iret D rt_422))) (fun q3 h1 e1 =>
      j_tx (hx_422 _))
/-! 423 StatuteHouse.fact(IIJJII)I -/
theorem cd_423 : fi_code 423 = prog_1_method_76_code := rfl
theorem hx_423 : ∀ pc, fi_hat 423 pc = none := fun pc => by unfold fi_hat; rw [show fi_hh 423 = [] from rfl]; rfl
theorem rt_423 : fi_ret 423 = some .int := rfl
theorem nl_423 : fi_nl 423 = 11 := rfl
theorem ow_423 : fi_ow 423 = 0 := rfl
theorem cl_423 : fj_cutT.getD 423 [] = [] := rfl
theorem m_423 (d : Nat) (x1 x2 x3 x5 x7 x8 : Int) {h : fi_H} (H : Shp h) : fj_run (d + 1) 423 h [(4, 303), (0, x1), (0, x2), (1, x3), (1, x5), (0, x7), (0, x8)] =
  ca_ (fj_run d 303 h [(4, 303), (0, x1)]) 0
    (fun v2 h1 =>
    if v2 = 0 then
      some (.inl (some (0, (-1))), h1)
    else
      ca_ (fj_run d 424 h1 [(4, 303), (0, x2)]) 0
        (fun v5 h4 =>
        if v5 = 0 then
          some (.inl (some (0, (-1))), h4)
        else
          if 0 ≤ x2 ∧ x2 < 40 then
          if h4 0 (h4 12 320 x2.toNat).toNat 0 = 124 then
          ca_ (fj_run d 425 h4 [(4, 303), (4, h4 324 (h4 12 320 x2.toNat).toNat 0), (1, x3), (1, x5)]) 0
            (fun v10 h9 =>
            if v10 = 0 then
              some (.inl (some (0, (-2))), h9)
            else
              ca_ (fj_run d 2 h9 [(4, 303), (0, x7)]) 0
                (fun v13 h12 =>
                if v13 = 0 then
                  some (.inl (some (0, (-2))), h12)
                else
                  ca_ (fj_run d 2 h12 [(4, 303), (0, x8)]) 0
                    (fun v16 h15 =>
                    if v16 = 0 then
                      some (.inl (some (0, (-2))), h15)
                    else
                      if x8 < x7 then
                        some (.inl (some (0, (-2))), h15)
                      else
                        ca_ (fj_run d 427 h15 [(4, 322), (0, x1), (0, x2)]) 0
                          (fun v19 h18 =>
                          if v19 = 0 then
                            ca_ (fj_run d 214 h18 [(4, 322), (0, x1), (0, x2), (0, x7), (0, x8)]) 0
                              (fun v22 h21 =>
                              if 0 ≤ v22 ∧ v22 < 500 then
                              lt_ (fi_upd h21 4 334 v22.toNat 1) fun h24 =>
                              cv_ (fj_run d 428 h24 [(4, 323), (0, v22), (4, h4 324 (h4 12 320 x2.toNat).toNat 0), (1, x3), (1, x5)])
                                (fun h26 =>
                                some (.inl (some (0, h26 132 322 0)), h26))
                                (fun q28 h26 => tx_ q28 h26)
                              else none)
                              (fun q23 h21 => tx_ q23 h21)
                          else
                            some (.inl (some (0, (-4))), h18))
                          (fun q20 h18 => tx_ q20 h18))
                    (fun q17 h15 => tx_ q17 h15))
                (fun q14 h12 => tx_ q14 h12))
            (fun q11 h9 => tx_ q11 h9)
          else none
          else none)
        (fun q6 h4 => tx_ q6 h4))
    (fun q3 h1 => tx_ q3 h1) := by
  rw [fj_run_eq d (by decide) h [(4, 303), (0, x1), (0, x2), (1, x3), (1, x5), (0, x7), (0, x8)] (Nat.le_of_ble_eq_true (by rw [nl_423]; rfl))]
  show gG (fj_run d) 423 0 [(0, (4, 303)), (1, (0, x1)), (2, (0, x2)), (3, (1, x3)), (5, (1, x5)), (7, (0, x7)), (8, (0, x8))] [] h = _
  exact
    have D : fk_D 423 [(0, none, .aload_n 0, 1, 0, 0, 0), (1, none, .iload_n 1, 1, 0, 0, 0), (2, none, .invokevirtual 870, 3, 1, 167, 1), (5, none, .ifCond .eq 11, 3, 16, 0, 0), (8, none, .aload_n 0, 1, 0, 0, 0), (9, none, .iload_n 2, 1, 0, 0, 0), (10, none, .invokevirtual 950, 3, 1, 178, 1), (13, none, .ifCond .ne 5, 3, 18, 0, 0), (16, none, .iconst (-1), 1, 0, (-1), 0), (17, none, .ireturn, 1, 0, 0, 0)] := fq_of2 cd_423 ow_423 cl_423 rfl (pc := 0) (by decide +kernel)
    j_aldn (pc := 0) D rfl rfl rfl fun D =>
    j_ildn (pc := 1) D rfl rfl rfl fun D =>
    j_iv (pc := 2) (m := 303) (dd := 167) (a := [(0, x1)]) (rest := []) D rfl rfl rfl rfl rfl (by decide) (s0_303 H) (by decide +kernel) (fun v2 h1 e1 D =>
      have T := fj_run_ok _ _ _ _ _ _ H.1 e1
      have H := shp_st H T
      j_ifeq (pc := 5) D rfl (fun q =>
        have D : fk_D 423 [(16, none, .iconst (-1), 1, 0, (-1), 0), (17, none, .ireturn, 1, 0, 0, 0)] := fq_of2 cd_423 ow_423 cl_423 rfl (pc := 16) (by decide +kernel)
        j_ic (pc := 16) D rfl fun D =>
        j_iret D rt_423) (fun q D =>
        j_aldn (pc := 8) D rfl rfl rfl fun D =>
        j_ildn (pc := 9) D rfl rfl rfl fun D =>
        j_iv (pc := 10) (m := 424) (dd := 178) (a := [(0, x2)]) (rest := []) D rfl rfl rfl rfl rfl (by decide) (s0_303 H) (by decide +kernel) (fun v5 h4 e1 D =>
          have T := fj_run_ok _ _ _ _ _ _ H.1 e1
          have H := shp_st H T
          j_ifne (pc := 13) D rfl (fun q D =>
            j_ic (pc := 16) D rfl fun D =>
            j_iret D rt_423) (fun q =>
            have D : fk_D 423 [(18, none, .aload_n 0, 1, 0, 0, 0), (19, none, .getfield 255, 3, 214, 100, 12), (22, none, .iload_n 2, 1, 0, 0, 0), (23, none, .aaload, 1, 0, 0, 0), (24, none, .getfield 283, 3, 324, (-124), 12), (27, none, .astore 9, 2, 0, 0, 0), (29, none, .aload_n 0, 1, 0, 0, 0), (30, none, .aload 9, 2, 0, 0, 0), (32, none, .lload_n 3, 1, 0, 0, 0), (33, none, .lload 5, 2, 0, 0, 0), (35, none, .invokevirtual 952, 3, 3, 179, 1), (38, none, .ifCond .eq 28, 3, 66, 0, 0), (41, none, .aload_n 0, 1, 0, 0, 0), (42, none, .iload 7, 2, 0, 0, 0), (44, none, .invokevirtual 121, 3, 1, 113, 1), (47, none, .ifCond .eq 19, 3, 66, 0, 0), (50, none, .aload_n 0, 1, 0, 0, 0), (51, none, .iload 8, 2, 0, 0, 0), (53, none, .invokevirtual 121, 3, 1, 113, 1), (56, none, .ifCond .eq 10, 3, 66, 0, 0)] := fq_of2 cd_423 ow_423 cl_423 rfl (pc := 18) (by decide +kernel)
            j_aldn (pc := 18) D rfl rfl rfl fun D =>
            j_gfc (pc := 19) (a := 303) D rfl rfl (by decide) rfl (s0_303 H) rfl (sf_214_303 H) fun D =>
            j_ildn (pc := 22) D rfl rfl rfl fun D =>
            j_al (pc := 23) (a := 320) (e := 12) D rfl rfl rfl (by decide) (s0_320 H) (s1_320 H) ⟨rfl, rfl, rfl⟩ rfl gn fun qb7 D =>
            j_gfo (pc := 24) H.2.1 D rfl rfl rfl rfl fun kc8 D =>
            j_ast (pc := 27) (L' := [(9, (4, h4 324 (h4 12 320 x2.toNat).toNat 0)), (0, (4, 303)), (1, (0, x1)), (2, (0, x2)), (3, (1, x3)), (5, (1, x5)), (7, (0, x7)), (8, (0, x8))]) D rfl nl_423 rfl rfl fun D =>
            j_aldn (pc := 29) D rfl rfl rfl fun D =>
            j_ald (pc := 30) D rfl rfl rfl fun D =>
            j_lldn (pc := 32) D rfl rfl rfl fun D =>
            j_lld (pc := 33) D rfl rfl rfl fun D =>
            j_iv (pc := 35) (m := 425) (dd := 179) (a := [(4, h4 324 (h4 12 320 x2.toNat).toNat 0), (1, x3), (1, x5)]) (rest := []) D rfl rfl rfl rfl rfl (by decide) (s0_303 H) (by decide +kernel) (fun v10 h9 e1 D =>
              have T := fj_run_ok _ _ _ _ _ _ H.1 e1
              have kc8 := cls_st H.1 T.2 kc8 (by decide)
              have H := shp_st H T
              j_ifeq (pc := 38) D rfl (fun q =>
                have D : fk_D 423 [(66, none, .bipush (-2), 2, 0, (-2), 0), (68, none, .ireturn, 1, 0, 0, 0)] := fq_of2 cd_423 ow_423 cl_423 rfl (pc := 66) (by decide +kernel)
                j_bp (pc := 66) D rfl fun D =>
                j_iret D rt_423) (fun q D =>
                j_aldn (pc := 41) D rfl rfl rfl fun D =>
                j_ild (pc := 42) D rfl rfl rfl fun D =>
                j_iv (pc := 44) (m := 2) (dd := 113) (a := [(0, x7)]) (rest := []) D rfl rfl rfl rfl rfl (by decide) (s0_303 H) (by decide +kernel) (fun v13 h12 e1 D =>
                  have T := fj_run_ok _ _ _ _ _ _ H.1 e1
                  have kc8 := cls_st H.1 T.2 kc8 (by decide)
                  have H := shp_st H T
                  j_ifeq (pc := 47) D rfl (fun q =>
                    have D : fk_D 423 [(66, none, .bipush (-2), 2, 0, (-2), 0), (68, none, .ireturn, 1, 0, 0, 0)] := fq_of2 cd_423 ow_423 cl_423 rfl (pc := 66) (by decide +kernel)
                    j_bp (pc := 66) D rfl fun D =>
                    j_iret D rt_423) (fun q D =>
                    j_aldn (pc := 50) D rfl rfl rfl fun D =>
                    j_ild (pc := 51) D rfl rfl rfl fun D =>
                    j_iv (pc := 53) (m := 2) (dd := 113) (a := [(0, x8)]) (rest := []) D rfl rfl rfl rfl rfl (by decide) (s0_303 H) (by decide +kernel) (fun v16 h15 e1 D =>
                      have T := fj_run_ok _ _ _ _ _ _ H.1 e1
                      have kc8 := cls_st H.1 T.2 kc8 (by decide)
                      have H := shp_st H T
                      j_ifeq (pc := 56) D rfl (fun q =>
                        have D : fk_D 423 [(66, none, .bipush (-2), 2, 0, (-2), 0), (68, none, .ireturn, 1, 0, 0, 0)] := fq_of2 cd_423 ow_423 cl_423 rfl (pc := 66) (by decide +kernel)
                        j_bp (pc := 66) D rfl fun D =>
                        j_iret D rt_423) (fun q D =>
                        have D : fk_D 423 [(59, none, .iload 7, 2, 0, 0, 0), (61, none, .iload 8, 2, 0, 0, 0), (63, none, .if_icmp .le 6, 3, 69, 0, 0), (66, none, .bipush (-2), 2, 0, (-2), 0), (68, none, .ireturn, 1, 0, 0, 0)] := fq_of2 cd_423 ow_423 cl_423 rfl (pc := 59) (by decide +kernel)
                        j_ild (pc := 59) D rfl rfl rfl fun D =>
                        j_ild (pc := 61) D rfl rfl rfl fun D =>
                        j_ile (pc := 63) D rfl (fun q D =>
                          j_bp (pc := 66) D rfl fun D =>
                          j_iret D rt_423) (fun q =>
                          have D : fk_D 423 [(69, none, .aload_n 0, 1, 0, 0, 0), (70, none, .getfield 234, 3, 218, 100, 12), (73, none, .iload_n 1, 1, 0, 0, 0), (74, none, .iload_n 2, 1, 0, 0, 0), (75, none, .invokevirtual 956, 3, 2, 180, 1), (78, none, .ifCond .eq 6, 3, 84, 0, 0), (81, none, .bipush (-4), 2, 0, (-4), 0), (83, none, .ireturn, 1, 0, 0, 0)] := fq_of2 cd_423 ow_423 cl_423 rfl (pc := 69) (by decide +kernel)
                          j_aldn (pc := 69) D rfl rfl rfl fun D =>
                          j_gfc (pc := 70) (a := 303) D rfl rfl (by decide) rfl (s0_303 H) rfl (sf_218_303 H) fun D =>
                          j_ildn (pc := 73) D rfl rfl rfl fun D =>
                          j_ildn (pc := 74) D rfl rfl rfl fun D =>
                          j_iv (pc := 75) (m := 427) (dd := 180) (a := [(0, x1), (0, x2)]) (rest := []) D rfl rfl rfl rfl rfl (by decide) (s0_322 H) (by decide +kernel) (fun v19 h18 e1 D =>
                            have T := fj_run_ok _ _ _ _ _ _ H.1 e1
                            have kc8 := cls_st H.1 T.2 kc8 (by decide)
                            have H := shp_st H T
                            j_ifeq (pc := 78) D rfl (fun q =>
                              have D : fk_D 423 [(84, none, .aload_n 0, 1, 0, 0, 0), (85, none, .getfield 234, 3, 218, 100, 12), (88, none, .iload_n 1, 1, 0, 0, 0), (89, none, .iload_n 2, 1, 0, 0, 0), (90, none, .iload 7, 2, 0, 0, 0), (92, none, .iload 8, 2, 0, 0, 0), (94, none, .invokevirtual 819, 3, 4, 164, 1), (97, none, .istore 10, 2, 0, 0, 0), (99, none, .aload_n 0, 1, 0, 0, 0), (100, none, .getfield 234, 3, 218, 100, 12), (103, none, .getfield 823, 3, 125, 116, 12), (106, none, .iload 10, 2, 0, 0, 0), (108, none, .iconst 1, 1, 0, 1, 0), (109, none, .bastore, 1, 0, 0, 0), (110, none, .aload_n 0, 1, 0, 0, 0), (111, none, .getfield 234, 3, 218, 100, 12), (114, none, .getfield 246, 3, 124, 116, 12), (117, none, .iload 10, 2, 0, 0, 0), (119, none, .aload 9, 2, 0, 0, 0), (121, none, .lload_n 3, 1, 0, 0, 0)] := fq_of2 cd_423 ow_423 cl_423 rfl (pc := 84) (by decide +kernel)
                              j_aldn (pc := 84) D rfl rfl rfl fun D =>
                              j_gfc (pc := 85) (a := 303) D rfl rfl (by decide) rfl (s0_303 H) rfl (sf_218_303 H) fun D =>
                              j_ildn (pc := 88) D rfl rfl rfl fun D =>
                              j_ildn (pc := 89) D rfl rfl rfl fun D =>
                              j_ild (pc := 90) D rfl rfl rfl fun D =>
                              j_ild (pc := 92) D rfl rfl rfl fun D =>
                              j_iv (pc := 94) (m := 214) (dd := 164) (a := [(0, x1), (0, x2), (0, x7), (0, x8)]) (rest := []) D rfl rfl rfl rfl rfl (by decide) (s0_322 H) (by decide +kernel) (fun v22 h21 e1 D =>
                                have T := fj_run_ok _ _ _ _ _ _ H.1 e1
                                have kc8 := cls_st H.1 T.2 kc8 (by decide)
                                have H := shp_st H T
                                j_ist (pc := 97) (L' := [(10, (0, v22)), (9, (4, h4 324 (h4 12 320 x2.toNat).toNat 0)), (0, (4, 303)), (1, (0, x1)), (2, (0, x2)), (3, (1, x3)), (5, (1, x5)), (7, (0, x7)), (8, (0, x8))]) D rfl nl_423 rfl rfl fun D =>
                                j_aldn (pc := 99) D rfl rfl rfl fun D =>
                                j_gfc (pc := 100) (a := 303) D rfl rfl (by decide) rfl (s0_303 H) rfl (sf_218_303 H) fun D =>
                                j_gfc (pc := 103) (a := 322) D rfl rfl (by decide) rfl (s0_322 H) rfl (sf_125_322 H) fun D =>
                                j_ild (pc := 106) D rfl rfl rfl fun D =>
                                j_ic (pc := 108) D rfl fun D =>
                                j_as (pc := 109) (a := 334) (e := 4) D rfl ⟨rfl, rfl⟩ rfl (by decide) (s0_334 H) (s1_334 H) ⟨rfl, rfl, rfl⟩ rfl gn (gy (by decide)) fun h24 eh24 S qb25 D =>
                                have T := fj_hs_ok H.1 S
                                have kc8 := cls_st H.1 T.2 kc8 (by decide)
                                have H := shp_st H T
                                j_aldn (pc := 110) D rfl rfl rfl fun D =>
                                j_gfc (pc := 111) (a := 303) D rfl rfl (by decide) rfl (s0_303 H) rfl (sf_218_303 H) fun D =>
                                j_gfc (pc := 114) (a := 322) D rfl rfl (by decide) rfl (s0_322 H) rfl (sf_124_322 H) fun D =>
                                j_ild (pc := 117) D rfl rfl rfl fun D =>
                                j_ald (pc := 119) D rfl rfl rfl fun D =>
                                j_lldn (pc := 121) D rfl rfl rfl fun D =>
                                have D : fk_D 423 [(122, none, .lload 5, 2, 0, 0, 0), (124, none, .invokestatic 959, 3, 5, 428, 0), (127, none, .aload_n 0, 1, 0, 0, 0), (128, none, .getfield 234, 3, 218, 100, 12), (131, none, .getfield 962, 3, 132, 116, 10), (134, none, .ireturn, 1, 0, 0, 0)] := fq_of2 cd_423 ow_423 cl_423 rfl (pc := 122) (by decide +kernel)
                                j_lld (pc := 122) D rfl rfl rfl fun D =>
                                j_isv (pc := 124) (m := 428) (a := [(4, 323), (0, v22), (4, h4 324 (h4 12 320 x2.toNat).toNat 0), (1, x3), (1, x5)]) (rest := []) D rfl rfl rfl rfl (fun h26 e1 D =>
                                  have T := fj_run_ok _ _ _ _ _ _ H.1 e1
                                  have kc8 := cls_st H.1 T.2 kc8 (by decide)
                                  have H := shp_st H T
                                  j_aldn (pc := 127) D rfl rfl rfl fun D =>
                                  j_gfc (pc := 128) (a := 303) D rfl rfl (by decide) rfl (s0_303 H) rfl (sf_218_303 H) fun D =>
                                  j_gf (pc := 131) (a := 322) D rfl rfl (by decide) rfl (s0_322 H) rfl fun D =>
                                  j_iret D rt_423) (fun q28 h26 e1 =>
                                  j_tx (hx_423 _))) (fun q23 h21 e1 =>
                                j_tx (hx_423 _))) (fun q D =>
                              j_bp (pc := 81) D rfl fun D =>
                              j_iret D rt_423)) (fun q20 h18 e1 =>
                            j_tx (hx_423 _))))) (fun q17 h15 e1 =>
                      j_tx (hx_423 _)))) (fun q14 h12 e1 =>
                  j_tx (hx_423 _)))) (fun q11 h9 e1 =>
              j_tx (hx_423 _)))) (fun q6 h4 e1 =>
          j_tx (hx_423 _)))) (fun q3 h1 e1 =>
      j_tx (hx_423 _))
/-! 424 StatuteHouse.isFact(I)Z -/
theorem cd_424 : fi_code 424 = prog_1_method_72_code := rfl
theorem hx_424 : ∀ pc, fi_hat 424 pc = none := fun pc => by unfold fi_hat; rw [show fi_hh 424 = [] from rfl]; rfl
theorem rt_424 : fi_ret 424 = some .boolean := rfl
theorem nl_424 : fi_nl 424 = 2 := rfl
theorem ow_424 : fi_ow 424 = 0 := rfl
theorem cl_424 : fj_cutT.getD 424 [] = [] := rfl
theorem m_424 (d : Nat) (x1 : Int) {h : fi_H} (H : Shp h) : fj_run (d + 1) 424 h [(4, 303), (0, x1)] =
  ca_ (fj_run d 3 h [(1, wI x1), (1, 0), (1, wJ ((wI (h 215 303 0)) - 1))]) 0
    (fun v2 h1 =>
    if v2 = 0 then
      some (.inl (some (0, 0)), h1)
    else
      if 0 ≤ x1 ∧ x1 < 40 then
      dv_ (fi_vt 177 (h1 0 (h1 12 320 x1.toNat).toNat 0)) fun m8 => ca_ (fj_run d m8 h1 [(4, h1 12 320 x1.toNat)]) 0
        (fun v6 h5 =>
        if v6 = 0 then
          some (.inl (some (0, 0)), h5)
        else
          some (.inl (some (0, 1)), h5))
        (fun q7 h5 => tx_ q7 h5)
      else none)
    (fun q3 h1 => tx_ q3 h1) := by
  rw [fj_run_eq d (by decide) h [(4, 303), (0, x1)] (Nat.le_of_ble_eq_true (by rw [nl_424]; rfl))]
  show gG (fj_run d) 424 0 [(0, (4, 303)), (1, (0, x1))] [] h = _
  exact
    have D : fk_D 424 [(0, none, .iload_n 1, 1, 0, 0, 0), (1, none, .i2l, 1, 0, 0, 0), (2, none, .lconst 0, 1, 0, 0, 0), (3, none, .aload_n 0, 1, 0, 0, 0), (4, none, .getfield 252, 3, 215, 100, 10), (7, none, .i2l, 1, 0, 0, 0), (8, none, .lconst 1, 1, 0, 0, 0), (9, none, .lsub, 1, 0, 0, 0), (10, none, .invokestatic 46, 3, 3, 3, 1), (13, none, .ifCond .eq 19, 3, 32, 0, 0), (16, none, .aload_n 0, 1, 0, 0, 0), (17, none, .getfield 255, 3, 214, 100, 12), (20, none, .iload_n 1, 1, 0, 0, 0), (21, none, .aaload, 1, 0, 0, 0), (22, none, .invokevirtual 940, 3, 0, 177, 1), (25, none, .ifCond .eq 7, 3, 32, 0, 0), (28, none, .iconst 1, 1, 0, 1, 0), (29, none, .goto 4, 3, 33, 0, 0)] := fq_of2 cd_424 ow_424 cl_424 rfl (pc := 0) (by decide +kernel)
    j_ildn (pc := 0) D rfl rfl rfl fun D =>
    j_i2l (pc := 1) D rfl fun D =>
    j_c0 (pc := 2) (v := (1, 0)) D rfl rfl (by decide +kernel) fun D =>
    j_aldn (pc := 3) D rfl rfl rfl fun D =>
    j_gf (pc := 4) (a := 303) D rfl rfl (by decide) rfl (s0_303 H) rfl fun D =>
    j_i2l (pc := 7) D rfl fun D =>
    j_c0 (pc := 8) (v := (1, 1)) D rfl rfl (by decide +kernel) fun D =>
    j_lsub (pc := 9) D rfl fun D =>
    j_is (pc := 10) (m := 3) (a := [(1, wI x1), (1, 0), (1, wJ ((wI (h 215 303 0)) - 1))]) (rest := []) D rfl rfl rfl rfl (fun v2 h1 e1 D =>
      have T := fj_run_ok _ _ _ _ _ _ H.1 e1
      have H := shp_st H T
      j_ifeq (pc := 13) D rfl (fun q =>
        have D : fk_D 424 [(32, none, .iconst 0, 1, 0, 0, 0), (33, none, .ireturn, 1, 0, 0, 0)] := fq_of2 cd_424 ow_424 cl_424 rfl (pc := 32) (by decide +kernel)
        j_ic (pc := 32) D rfl fun D =>
        j_zret D rt_424 (gy (by decide))) (fun q D =>
        j_aldn (pc := 16) D rfl rfl rfl fun D =>
        j_gfc (pc := 17) (a := 303) D rfl rfl (by decide) rfl (s0_303 H) rfl (sf_214_303 H) fun D =>
        j_ildn (pc := 20) D rfl rfl rfl fun D =>
        j_al (pc := 21) (a := 320) (e := 12) D rfl rfl rfl (by decide) (s0_320 H) (s1_320 H) ⟨rfl, rfl, rfl⟩ rfl gn fun qb4 D =>
        j_ivu (pc := 22) (dd := 177) (a := []) (rest := []) H.2.1 D rfl rfl rfl rfl rfl (fun m8 v6 h5 e1 D =>
          have T := fj_run_ok _ _ _ _ _ _ H.1 e1
          have H := shp_st H T
          j_ifeq (pc := 25) D rfl (fun q =>
            have D : fk_D 424 [(32, none, .iconst 0, 1, 0, 0, 0), (33, none, .ireturn, 1, 0, 0, 0)] := fq_of2 cd_424 ow_424 cl_424 rfl (pc := 32) (by decide +kernel)
            j_ic (pc := 32) D rfl fun D =>
            j_zret D rt_424 (gy (by decide))) (fun q D =>
            j_ic (pc := 28) D rfl fun D =>
            j_goto (pc := 29) D rfl <|
            have D : fk_D 424 [(33, none, .ireturn, 1, 0, 0, 0)] := fq_of2 cd_424 ow_424 cl_424 rfl (pc := 33) (by decide +kernel)
            j_zret D rt_424 (gy (by decide)))) (fun m8 q7 h5 e1 =>
          j_tx (hx_424 _)))) (fun q3 h1 e1 =>
      j_tx (hx_424 _))
/-! 425 StatuteHouse.isValue(LStatuteHouse$Kind;JJ)Z -/
theorem cd_425 : fi_code 425 = prog_1_method_73_code := rfl
theorem hx_425 : ∀ pc, fi_hat 425 pc = none := fun pc => by unfold fi_hat; rw [show fi_hh 425 = [] from rfl]; rfl
theorem rt_425 : fi_ret 425 = some .boolean := rfl
theorem nl_425 : fi_nl 425 = 6 := rfl
theorem ow_425 : fi_ow 425 = 0 := rfl
theorem cl_425 : fj_cutT.getD 425 [] = [] := rfl
theorem m_425 (d : Nat) (x1 x2 x4 : Int) {h : fi_H} (H : Shp h) : fj_run (d + 1) 425 h [(4, 303), (4, x1), (1, x2), (1, x4)] =
  dv_ (fi_vt 111 (h 0 x1.toNat 0)) fun m4 => ca_ (fj_run d m4 h [(4, x1)]) 0
    (fun v2 h1 =>
    if v2 = 0 then
      ca_ (fj_run d 3 h1 [(1, x2), (1, 0), (1, 1)]) 0
        (fun v6 h5 =>
        if v6 = 0 ∨ v6 = 1 then some (.inl (some (0, v6)), h5) else none)
        (fun q7 h5 => tx_ q7 h5)
    else if v2 = 1 then
      if lc_ (wI (wI x2)) x2 = 0 then
        some (.inl (some (0, 1)), h1)
      else
        some (.inl (some (0, 0)), h1)
    else if v2 = 2 then
      ca_ (fj_run d 3 h1 [(1, x2), (1, (-1000000000000)), (1, 1000000000000)]) 0
        (fun v9 h8 =>
        if v9 = 0 ∨ v9 = 1 then some (.inl (some (0, v9)), h8) else none)
        (fun q10 h8 => tx_ q10 h8)
    else if v2 = 3 then
      ca_ (fj_run d 426 h1 [(1, x2), (1, x4)]) 0
        (fun v12 h11 =>
        if v12 = 0 ∨ v12 = 1 then some (.inl (some (0, v12)), h11) else none)
        (fun q13 h11 => tx_ q13 h11)
    else if v2 = 4 then
      ca_ (fj_run d 3 h1 [(1, x2), (1, 0), (1, 65535)]) 0
        (fun v15 h14 =>
        if v15 = 0 ∨ v15 = 1 then some (.inl (some (0, v15)), h14) else none)
        (fun q16 h14 => tx_ q16 h14)
    else if v2 = 5 then
      ca_ (fj_run d 3 h1 [(1, x2), (1, (-2400)), (1, 2400)]) 0
        (fun v18 h17 =>
        if v18 = 0 then
          some (.inl (some (0, 0)), h17)
        else
          ca_ (fj_run d 3 h17 [(1, x4), (1, (-65535)), (1, 65535)]) 0
            (fun v21 h20 =>
            if v21 = 0 then
              some (.inl (some (0, 0)), h20)
            else
              some (.inl (some (0, 1)), h20))
            (fun q22 h20 => tx_ q22 h20))
        (fun q19 h17 => tx_ q19 h17)
    else if v2 = 6 then
      if lc_ (la_ x2 9223372036854775807) 9218868437227405312 < 0 then
        some (.inl (some (0, 1)), h1)
      else
        some (.inl (some (0, 0)), h1)
    else 
      ca_ (fj_run d 3 h1 [(1, x2), (1, 0), (1, wJ ((wI (h1 216 303 0)) - 1))]) 0
        (fun v24 h23 =>
        if v24 = 0 ∨ v24 = 1 then some (.inl (some (0, v24)), h23) else none)
        (fun q25 h23 => tx_ q25 h23))
    (fun q3 h1 => tx_ q3 h1) := by
  rw [fj_run_eq d (by decide) h [(4, 303), (4, x1), (1, x2), (1, x4)] (Nat.le_of_ble_eq_true (by rw [nl_425]; rfl))]
  show gG (fj_run d) 425 0 [(0, (4, 303)), (1, (4, x1)), (2, (1, x2)), (4, (1, x4))] [] h = _
  exact
    have D : fk_D 425 [(0, none, .aload_n 1, 1, 0, 0, 0), (1, none, .invokevirtual 50, 3, 0, 111, 1), (4, none, .tableswitch 143 0 6 #[44, 51, 65, 76, 83, 92, 125], 44, 0, 0, 0)] := fq_of3 cd_425 ow_425 cl_425 rfl (pc := 0) (by decide +kernel)
    j_aldn (pc := 0) D rfl rfl rfl fun D =>
    j_ivu (pc := 1) (dd := 111) (a := []) (rest := []) H.2.1 D rfl rfl rfl rfl rfl (fun m4 v2 h1 e1 D =>
      have T := fj_run_ok _ _ _ _ _ _ H.1 e1
      have H := shp_st H T
      have N : fk_ni (v2) [] := trivial
      j_tc (pc := 4) 0 (t := 48) D N rfl (by decide +kernel) (fun q =>
        have D : fk_D 425 [(48, none, .lload_n 2, 1, 0, 0, 0), (49, none, .lconst 0, 1, 0, 0, 0), (50, none, .lconst 1, 1, 0, 0, 0), (51, none, .invokestatic 46, 3, 3, 3, 1), (54, none, .ireturn, 1, 0, 0, 0)] := fq_of2 cd_425 ow_425 cl_425 rfl (pc := 48) (by decide +kernel)
        j_lldn (pc := 48) D rfl rfl rfl fun D =>
        j_c0 (pc := 49) (v := (1, 0)) D rfl rfl (by decide +kernel) fun D =>
        j_c0 (pc := 50) (v := (1, 1)) D rfl rfl (by decide +kernel) fun D =>
        j_is (pc := 51) (m := 3) (a := [(1, x2), (1, 0), (1, 1)]) (rest := []) D rfl rfl rfl rfl (fun v6 h5 e1 D =>
          have T := fj_run_ok _ _ _ _ _ _ H.1 e1
          have H := shp_st H T
          j_zret D rt_425 gn) (fun q7 h5 e1 =>
          j_tx (hx_425 _))) (fun N =>
        j_tc 1 (t := 55) D N rfl (by decide +kernel) (fun q =>
          have D : fk_D 425 [(55, none, .lload_n 2, 1, 0, 0, 0), (56, none, .l2i, 1, 0, 0, 0), (57, none, .i2l, 1, 0, 0, 0), (58, none, .lload_n 2, 1, 0, 0, 0), (59, none, .lcmp, 1, 0, 0, 0), (60, none, .ifCond .ne 7, 3, 67, 0, 0), (63, none, .iconst 1, 1, 0, 1, 0), (64, none, .goto 4, 3, 68, 0, 0)] := fq_of2 cd_425 ow_425 cl_425 rfl (pc := 55) (by decide +kernel)
          j_lldn (pc := 55) D rfl rfl rfl fun D =>
          j_l2i (pc := 56) D rfl fun D =>
          j_i2l (pc := 57) D rfl fun D =>
          j_lldn (pc := 58) D rfl rfl rfl fun D =>
          j_lcmp (pc := 59) D rfl fun D =>
          j_ifne (pc := 60) D rfl (fun q D =>
            j_ic (pc := 63) D rfl fun D =>
            j_goto (pc := 64) D rfl <|
            have D : fk_D 425 [(68, none, .ireturn, 1, 0, 0, 0)] := fq_of2 cd_425 ow_425 cl_425 rfl (pc := 68) (by decide +kernel)
            j_zret D rt_425 (gy (by decide))) (fun q =>
            have D : fk_D 425 [(67, none, .iconst 0, 1, 0, 0, 0), (68, none, .ireturn, 1, 0, 0, 0)] := fq_of2 cd_425 ow_425 cl_425 rfl (pc := 67) (by decide +kernel)
            j_ic (pc := 67) D rfl fun D =>
            j_zret D rt_425 (gy (by decide)))) (fun N =>
          j_tc 2 (t := 69) D N rfl (by decide +kernel) (fun q =>
            have D : fk_D 425 [(69, none, .lload_n 2, 1, 0, 0, 0), (70, none, .ldc2_w 117, 3, 1, (-1000000000000), 0), (73, none, .ldc2_w 119, 3, 1, 1000000000000, 0), (76, none, .invokestatic 46, 3, 3, 3, 1), (79, none, .ireturn, 1, 0, 0, 0)] := fq_of2 cd_425 ow_425 cl_425 rfl (pc := 69) (by decide +kernel)
            j_lldn (pc := 69) D rfl rfl rfl fun D =>
            j_ldc2 (pc := 70) D rfl fun D =>
            j_ldc2 (pc := 73) D rfl fun D =>
            j_is (pc := 76) (m := 3) (a := [(1, x2), (1, (-1000000000000)), (1, 1000000000000)]) (rest := []) D rfl rfl rfl rfl (fun v9 h8 e1 D =>
              have T := fj_run_ok _ _ _ _ _ _ H.1 e1
              have H := shp_st H T
              j_zret D rt_425 gn) (fun q10 h8 e1 =>
              j_tx (hx_425 _))) (fun N =>
            j_tc 3 (t := 80) D N rfl (by decide +kernel) (fun q =>
              have D : fk_D 425 [(80, none, .lload_n 2, 1, 0, 0, 0), (81, none, .lload 4, 2, 0, 0, 0), (83, none, .invokestatic 943, 3, 2, 426, 1), (86, none, .ireturn, 1, 0, 0, 0)] := fq_of2 cd_425 ow_425 cl_425 rfl (pc := 80) (by decide +kernel)
              j_lldn (pc := 80) D rfl rfl rfl fun D =>
              j_lld (pc := 81) D rfl rfl rfl fun D =>
              j_is (pc := 83) (m := 426) (a := [(1, x2), (1, x4)]) (rest := []) D rfl rfl rfl rfl (fun v12 h11 e1 D =>
                have T := fj_run_ok _ _ _ _ _ _ H.1 e1
                have H := shp_st H T
                j_zret D rt_425 gn) (fun q13 h11 e1 =>
                j_tx (hx_425 _))) (fun N =>
              j_tc 4 (t := 87) D N rfl (by decide +kernel) (fun q =>
                have D : fk_D 425 [(87, none, .lload_n 2, 1, 0, 0, 0), (88, none, .lconst 0, 1, 0, 0, 0), (89, none, .ldc2_w 44, 3, 1, 65535, 0), (92, none, .invokestatic 46, 3, 3, 3, 1), (95, none, .ireturn, 1, 0, 0, 0)] := fq_of2 cd_425 ow_425 cl_425 rfl (pc := 87) (by decide +kernel)
                j_lldn (pc := 87) D rfl rfl rfl fun D =>
                j_c0 (pc := 88) (v := (1, 0)) D rfl rfl (by decide +kernel) fun D =>
                j_ldc2 (pc := 89) D rfl fun D =>
                j_is (pc := 92) (m := 3) (a := [(1, x2), (1, 0), (1, 65535)]) (rest := []) D rfl rfl rfl rfl (fun v15 h14 e1 D =>
                  have T := fj_run_ok _ _ _ _ _ _ H.1 e1
                  have H := shp_st H T
                  j_zret D rt_425 gn) (fun q16 h14 e1 =>
                  j_tx (hx_425 _))) (fun N =>
                j_tc 5 (t := 96) D N rfl (by decide +kernel) (fun q =>
                  have D : fk_D 425 [(96, none, .lload_n 2, 1, 0, 0, 0), (97, none, .ldc2_w 124, 3, 1, (-2400), 0), (100, none, .ldc2_w 126, 3, 1, 2400, 0), (103, none, .invokestatic 46, 3, 3, 3, 1), (106, none, .ifCond .eq 21, 3, 127, 0, 0), (109, none, .lload 4, 2, 0, 0, 0), (111, none, .ldc2_w 128, 3, 1, (-65535), 0), (114, none, .ldc2_w 44, 3, 1, 65535, 0), (117, none, .invokestatic 46, 3, 3, 3, 1), (120, none, .ifCond .eq 7, 3, 127, 0, 0), (123, none, .iconst 1, 1, 0, 1, 0), (124, none, .goto 4, 3, 128, 0, 0)] := fq_of2 cd_425 ow_425 cl_425 rfl (pc := 96) (by decide +kernel)
                  j_lldn (pc := 96) D rfl rfl rfl fun D =>
                  j_ldc2 (pc := 97) D rfl fun D =>
                  j_ldc2 (pc := 100) D rfl fun D =>
                  j_is (pc := 103) (m := 3) (a := [(1, x2), (1, (-2400)), (1, 2400)]) (rest := []) D rfl rfl rfl rfl (fun v18 h17 e1 D =>
                    have T := fj_run_ok _ _ _ _ _ _ H.1 e1
                    have H := shp_st H T
                    j_ifeq (pc := 106) D rfl (fun q =>
                      have D : fk_D 425 [(127, none, .iconst 0, 1, 0, 0, 0), (128, none, .ireturn, 1, 0, 0, 0)] := fq_of2 cd_425 ow_425 cl_425 rfl (pc := 127) (by decide +kernel)
                      j_ic (pc := 127) D rfl fun D =>
                      j_zret D rt_425 (gy (by decide))) (fun q D =>
                      j_lld (pc := 109) D rfl rfl rfl fun D =>
                      j_ldc2 (pc := 111) D rfl fun D =>
                      j_ldc2 (pc := 114) D rfl fun D =>
                      j_is (pc := 117) (m := 3) (a := [(1, x4), (1, (-65535)), (1, 65535)]) (rest := []) D rfl rfl rfl rfl (fun v21 h20 e1 D =>
                        have T := fj_run_ok _ _ _ _ _ _ H.1 e1
                        have H := shp_st H T
                        j_ifeq (pc := 120) D rfl (fun q =>
                          have D : fk_D 425 [(127, none, .iconst 0, 1, 0, 0, 0), (128, none, .ireturn, 1, 0, 0, 0)] := fq_of2 cd_425 ow_425 cl_425 rfl (pc := 127) (by decide +kernel)
                          j_ic (pc := 127) D rfl fun D =>
                          j_zret D rt_425 (gy (by decide))) (fun q D =>
                          j_ic (pc := 123) D rfl fun D =>
                          j_goto (pc := 124) D rfl <|
                          have D : fk_D 425 [(128, none, .ireturn, 1, 0, 0, 0)] := fq_of2 cd_425 ow_425 cl_425 rfl (pc := 128) (by decide +kernel)
                          j_zret D rt_425 (gy (by decide)))) (fun q22 h20 e1 =>
                        j_tx (hx_425 _)))) (fun q19 h17 e1 =>
                    j_tx (hx_425 _))) (fun N =>
                  j_tc 6 (t := 129) D N rfl (by decide +kernel) (fun q =>
                    have D : fk_D 425 [(129, none, .lload_n 2, 1, 0, 0, 0), (130, none, .ldc2_w 93, 3, 1, 9223372036854775807, 0), (133, none, .land, 1, 0, 0, 0), (134, none, .ldc2_w 95, 3, 1, 9218868437227405312, 0), (137, none, .lcmp, 1, 0, 0, 0), (138, none, .ifCond .ge 7, 3, 145, 0, 0), (141, none, .iconst 1, 1, 0, 1, 0), (142, none, .goto 4, 3, 146, 0, 0)] := fq_of2 cd_425 ow_425 cl_425 rfl (pc := 129) (by decide +kernel)
                    j_lldn (pc := 129) D rfl rfl rfl fun D =>
                    j_ldc2 (pc := 130) D rfl fun D =>
                    j_land (pc := 133) D rfl fun D =>
                    j_ldc2 (pc := 134) D rfl fun D =>
                    j_lcmp (pc := 137) D rfl fun D =>
                    j_ifge (pc := 138) D rfl (fun q D =>
                      j_ic (pc := 141) D rfl fun D =>
                      j_goto (pc := 142) D rfl <|
                      have D : fk_D 425 [(146, none, .ireturn, 1, 0, 0, 0)] := fq_of2 cd_425 ow_425 cl_425 rfl (pc := 146) (by decide +kernel)
                      j_zret D rt_425 (gy (by decide))) (fun q =>
                      have D : fk_D 425 [(145, none, .iconst 0, 1, 0, 0, 0), (146, none, .ireturn, 1, 0, 0, 0)] := fq_of2 cd_425 ow_425 cl_425 rfl (pc := 145) (by decide +kernel)
                      j_ic (pc := 145) D rfl fun D =>
                      j_zret D rt_425 (gy (by decide)))) (fun N =>
                    j_td (t := 147) D N rfl (by decide +kernel) (by decide +kernel) <|
                    have D : fk_D 425 [(147, none, .lload_n 2, 1, 0, 0, 0), (148, none, .lconst 0, 1, 0, 0, 0), (149, none, .aload_n 0, 1, 0, 0, 0), (150, none, .getfield 267, 3, 216, 100, 10), (153, none, .i2l, 1, 0, 0, 0), (154, none, .lconst 1, 1, 0, 0, 0), (155, none, .lsub, 1, 0, 0, 0), (156, none, .invokestatic 46, 3, 3, 3, 1), (159, none, .ireturn, 1, 0, 0, 0)] := fq_of2 cd_425 ow_425 cl_425 rfl (pc := 147) (by decide +kernel)
                    j_lldn (pc := 147) D rfl rfl rfl fun D =>
                    j_c0 (pc := 148) (v := (1, 0)) D rfl rfl (by decide +kernel) fun D =>
                    j_aldn (pc := 149) D rfl rfl rfl fun D =>
                    j_gf (pc := 150) (a := 303) D rfl rfl (by decide) rfl (s0_303 H) rfl fun D =>
                    j_i2l (pc := 153) D rfl fun D =>
                    j_c0 (pc := 154) (v := (1, 1)) D rfl rfl (by decide +kernel) fun D =>
                    j_lsub (pc := 155) D rfl fun D =>
                    j_is (pc := 156) (m := 3) (a := [(1, x2), (1, 0), (1, wJ ((wI (h1 216 303 0)) - 1))]) (rest := []) D rfl rfl rfl rfl (fun v24 h23 e1 D =>
                      have T := fj_run_ok _ _ _ _ _ _ H.1 e1
                      have H := shp_st H T
                      j_zret D rt_425 gn) (fun q25 h23 e1 =>
                      j_tx (hx_425 _)))))))))) (fun m4 q3 h1 e1 =>
      j_tx (hx_425 _))
/-! 426 StatuteHouse.isRate(JJ)Z -/
theorem cd_426 : fi_code 426 = prog_1_method_74_code := rfl
theorem hx_426 : ∀ pc, fi_hat 426 pc = none := fun pc => by unfold fi_hat; rw [show fi_hh 426 = [] from rfl]; rfl
theorem rt_426 : fi_ret 426 = some .boolean := rfl
theorem nl_426 : fi_nl 426 = 6 := rfl
theorem ow_426 : fi_ow 426 = 0 := rfl
theorem cl_426 : fj_cutT.getD 426 [] = [(38, [0, 2])] := rfl
theorem cut_426_38 : fj_cut 426 38 = some [0, 2] := by decide +kernel
noncomputable def c_426_38 (d : Nat) (x0 x2 s0 : Int) (h : fi_H) : fk_R := gG (fj_run d) 426 38 [(0, (1, x0)), (2, (1, x2))] [(1, s0)] h
theorem e_426_38 (d : Nat) (x0 x2 s0 : Int) {h : fi_H} (H : Shp h) : c_426_38 d x0 x2 s0 h =
  ca_ (fj_run d 194 h [(1, s0), (1, x2)]) 1
    (fun v2 h1 =>
    if v2 = 0 then none else
    ca_ (fj_run d 3 h1 [(1, lq_ x0 v2), (1, (-1000000)), (1, 1000000)]) 0
      (fun v5 h4 =>
      if v5 = 0 then
        some (.inl (some (0, 0)), h4)
      else
        if v2 = 0 then none else
        if 0 < lc_ (lq_ x2 v2) 1000000 then
          some (.inl (some (0, 0)), h4)
        else
          some (.inl (some (0, 1)), h4))
      (fun q6 h4 => tx_ q6 h4))
    (fun q3 h1 => tx_ q3 h1) := by
  unfold c_426_38
  exact
    have D : fk_D 426 [(38, some [0, 2], .lload_n 2, 1, 0, 0, 0), (39, none, .invokestatic 134, 3, 2, 194, 2), (42, none, .lstore 4, 2, 0, 0, 0), (44, none, .lload_n 0, 1, 0, 0, 0), (45, none, .lload 4, 2, 0, 0, 0), (47, none, .ldiv, 1, 0, 0, 0), (48, none, .ldc2_w 138, 3, 1, (-1000000), 0), (51, none, .ldc2_w 140, 3, 1, 1000000, 0), (54, none, .invokestatic 46, 3, 3, 3, 1), (57, none, .ifCond .eq 18, 3, 75, 0, 0), (60, none, .lload_n 2, 1, 0, 0, 0), (61, none, .lload 4, 2, 0, 0, 0), (63, none, .ldiv, 1, 0, 0, 0), (64, none, .ldc2_w 140, 3, 1, 1000000, 0), (67, none, .lcmp, 1, 0, 0, 0), (68, none, .ifCond .gt 7, 3, 75, 0, 0), (71, none, .iconst 1, 1, 0, 1, 0), (72, none, .goto 4, 3, 76, 0, 0)] := fq_of2 cd_426 ow_426 cl_426 rfl (pc := 38) (by decide +kernel)
    j_lldn (pc := 38) D rfl rfl rfl fun D =>
    j_is (pc := 39) (m := 194) (a := [(1, s0), (1, x2)]) (rest := []) D rfl rfl rfl rfl (fun v2 h1 e1 D =>
      have T := fj_run_ok _ _ _ _ _ _ H.1 e1
      have H := shp_st H T
      j_lst (pc := 42) (L' := [(4, (1, v2)), (0, (1, x0)), (2, (1, x2))]) D rfl nl_426 rfl rfl fun D =>
      j_lldn (pc := 44) D rfl rfl rfl fun D =>
      j_lld (pc := 45) D rfl rfl rfl fun D =>
      j_ldiv (pc := 47) D rfl fun q D =>
      j_ldc2 (pc := 48) D rfl fun D =>
      j_ldc2 (pc := 51) D rfl fun D =>
      j_is (pc := 54) (m := 3) (a := [(1, lq_ x0 v2), (1, (-1000000)), (1, 1000000)]) (rest := []) D rfl rfl rfl rfl (fun v5 h4 e1 D =>
        have T := fj_run_ok _ _ _ _ _ _ H.1 e1
        have H := shp_st H T
        j_ifeq (pc := 57) D rfl (fun q =>
          have D : fk_D 426 [(75, none, .iconst 0, 1, 0, 0, 0), (76, none, .ireturn, 1, 0, 0, 0)] := fq_of2 cd_426 ow_426 cl_426 rfl (pc := 75) (by decide +kernel)
          j_ic (pc := 75) D rfl fun D =>
          j_zret D rt_426 (gy (by decide))) (fun q D =>
          j_lldn (pc := 60) D rfl rfl rfl fun D =>
          j_lld (pc := 61) D rfl rfl rfl fun D =>
          j_ldiv (pc := 63) D rfl fun q D =>
          j_ldc2 (pc := 64) D rfl fun D =>
          j_lcmp (pc := 67) D rfl fun D =>
          j_ifgt (pc := 68) D rfl (fun q =>
            have D : fk_D 426 [(75, none, .iconst 0, 1, 0, 0, 0), (76, none, .ireturn, 1, 0, 0, 0)] := fq_of2 cd_426 ow_426 cl_426 rfl (pc := 75) (by decide +kernel)
            j_ic (pc := 75) D rfl fun D =>
            j_zret D rt_426 (gy (by decide))) (fun q D =>
            j_ic (pc := 71) D rfl fun D =>
            j_goto (pc := 72) D rfl <|
            have D : fk_D 426 [(76, none, .ireturn, 1, 0, 0, 0)] := fq_of2 cd_426 ow_426 cl_426 rfl (pc := 76) (by decide +kernel)
            j_zret D rt_426 (gy (by decide))))) (fun q6 h4 e1 =>
        j_tx (hx_426 _))) (fun q3 h1 e1 =>
      j_tx (hx_426 _))
theorem m_426 (d : Nat) (x0 x2 : Int) {h : fi_H} (H : Shp h) : fj_run (d + 1) 426 h [(1, x0), (1, x2)] =
  ca_ (fj_run d 3 h [(1, x0), (1, (-1000000000000)), (1, 1000000000000)]) 0
    (fun v2 h1 =>
    if v2 = 0 then
      some (.inl (some (0, 0)), h1)
    else
      ca_ (fj_run d 3 h1 [(1, x2), (1, 1), (1, 1000000000000)]) 0
        (fun v5 h4 =>
        if v5 = 0 then
          some (.inl (some (0, 0)), h4)
        else
          if lc_ x0 0 < 0 then
            c_426_38 d x0 x2 (wJ (-x0)) h4
          else
            c_426_38 d x0 x2 x0 h4)
        (fun q6 h4 => tx_ q6 h4))
    (fun q3 h1 => tx_ q3 h1) := by
  rw [fj_run_eq d (by decide) h [(1, x0), (1, x2)] (Nat.le_of_ble_eq_true (by rw [nl_426]; rfl))]
  show gG (fj_run d) 426 0 [(0, (1, x0)), (2, (1, x2))] [] h = _
  exact
    have D : fk_D 426 [(0, none, .lload_n 0, 1, 0, 0, 0), (1, none, .ldc2_w 117, 3, 1, (-1000000000000), 0), (4, none, .ldc2_w 119, 3, 1, 1000000000000, 0), (7, none, .invokestatic 46, 3, 3, 3, 1), (10, none, .ifCond .eq 14, 3, 24, 0, 0), (13, none, .lload_n 2, 1, 0, 0, 0), (14, none, .lconst 1, 1, 0, 0, 0), (15, none, .ldc2_w 119, 3, 1, 1000000000000, 0), (18, none, .invokestatic 46, 3, 3, 3, 1), (21, none, .ifCond .ne 5, 3, 26, 0, 0), (24, none, .iconst 0, 1, 0, 0, 0), (25, none, .ireturn, 1, 0, 0, 0)] := fq_of2 cd_426 ow_426 cl_426 rfl (pc := 0) (by decide +kernel)
    j_lldn (pc := 0) D rfl rfl rfl fun D =>
    j_ldc2 (pc := 1) D rfl fun D =>
    j_ldc2 (pc := 4) D rfl fun D =>
    j_is (pc := 7) (m := 3) (a := [(1, x0), (1, (-1000000000000)), (1, 1000000000000)]) (rest := []) D rfl rfl rfl rfl (fun v2 h1 e1 D =>
      have T := fj_run_ok _ _ _ _ _ _ H.1 e1
      have H := shp_st H T
      j_ifeq (pc := 10) D rfl (fun q =>
        have D : fk_D 426 [(24, none, .iconst 0, 1, 0, 0, 0), (25, none, .ireturn, 1, 0, 0, 0)] := fq_of2 cd_426 ow_426 cl_426 rfl (pc := 24) (by decide +kernel)
        j_ic (pc := 24) D rfl fun D =>
        j_zret D rt_426 (gy (by decide))) (fun q D =>
        j_lldn (pc := 13) D rfl rfl rfl fun D =>
        j_c0 (pc := 14) (v := (1, 1)) D rfl rfl (by decide +kernel) fun D =>
        j_ldc2 (pc := 15) D rfl fun D =>
        j_is (pc := 18) (m := 3) (a := [(1, x2), (1, 1), (1, 1000000000000)]) (rest := []) D rfl rfl rfl rfl (fun v5 h4 e1 D =>
          have T := fj_run_ok _ _ _ _ _ _ H.1 e1
          have H := shp_st H T
          j_ifne (pc := 21) D rfl (fun q D =>
            j_ic (pc := 24) D rfl fun D =>
            j_zret D rt_426 (gy (by decide))) (fun q =>
            have D : fk_D 426 [(26, none, .lload_n 0, 1, 0, 0, 0), (27, none, .lconst 0, 1, 0, 0, 0), (28, none, .lcmp, 1, 0, 0, 0), (29, none, .ifCond .ge 8, 3, 37, 0, 0), (32, none, .lload_n 0, 1, 0, 0, 0), (33, none, .lneg, 1, 0, 0, 0), (34, none, .goto 4, 3, 38, 0, 0)] := fq_of2 cd_426 ow_426 cl_426 rfl (pc := 26) (by decide +kernel)
            j_lldn (pc := 26) D rfl rfl rfl fun D =>
            j_c0 (pc := 27) (v := (1, 0)) D rfl rfl (by decide +kernel) fun D =>
            j_lcmp (pc := 28) D rfl fun D =>
            j_ifge (pc := 29) D rfl (fun q D =>
              j_lldn (pc := 32) D rfl rfl rfl fun D =>
              j_lneg (pc := 33) D rfl fun D =>
              j_goto (pc := 34) D rfl <|
              fk_jump cut_426_38 rfl rfl) (fun q =>
              have D : fk_D 426 [(37, none, .lload_n 0, 1, 0, 0, 0)] := fq_of2 cd_426 ow_426 cl_426 rfl (pc := 37) (by decide +kernel)
              j_lldn (pc := 37) D rfl rfl rfl fun D =>
              fk_jump cut_426_38 rfl rfl))) (fun q6 h4 e1 =>
          j_tx (hx_426 _)))) (fun q3 h1 e1 =>
      j_tx (hx_426 _))
/-! 427 StatuteHouse$Records.isFull(II)Z -/
theorem cd_427 : fi_code 427 = prog_54_method_2_code := rfl
theorem hx_427 : ∀ pc, fi_hat 427 pc = none := fun pc => by unfold fi_hat; rw [show fi_hh 427 = [] from rfl]; rfl
theorem rt_427 : fi_ret 427 = some .boolean := rfl
theorem nl_427 : fi_nl 427 = 3 := rfl
theorem ow_427 : fi_ow 427 = 16 := rfl
theorem cl_427 : fj_cutT.getD 427 [] = [] := rfl
theorem m_427 (d : Nat) (x1 x2 : Int) {h : fi_H} (H : Shp h) : fj_run (d + 1) 427 h [(4, 322), (0, x1), (0, x2)] =
  if h 132 322 0 = 500 then
    some (.inl (some (0, 1)), h)
  else
    if 0 ≤ wI ((wI (40 * x1)) + x2) ∧ wI ((wI (40 * x1)) + x2) < 1200 then
    if h 8 340 (wI ((wI (40 * x1)) + x2)).toNat = 16 then
      some (.inl (some (0, 1)), h)
    else
      some (.inl (some (0, 0)), h)
    else none := by
  rw [fj_run_eq d (by decide) h [(4, 322), (0, x1), (0, x2)] (Nat.le_of_ble_eq_true (by rw [nl_427]; rfl))]
  show gG (fj_run d) 427 0 [(0, (4, 322)), (1, (0, x1)), (2, (0, x2))] [] h = _
  exact
    have D : fk_D 427 [(0, none, .aload_n 0, 1, 0, 0, 0), (1, none, .getfield 49, 3, 132, 116, 10), (4, none, .sipush 500, 3, 0, 500, 0), (7, none, .if_icmp .eq 19, 3, 26, 0, 0), (10, none, .aload_n 0, 1, 0, 0, 0), (11, none, .getfield 45, 3, 131, 116, 12), (14, none, .bipush 40, 2, 0, 40, 0), (16, none, .iload_n 1, 1, 0, 0, 0), (17, none, .imul, 1, 0, 0, 0), (18, none, .iload_n 2, 1, 0, 0, 0), (19, none, .iadd, 1, 0, 0, 0), (20, none, .baload, 1, 0, 0, 0), (21, none, .bipush 16, 2, 0, 16, 0), (23, none, .if_icmp .ne 7, 3, 30, 0, 0), (26, none, .iconst 1, 1, 0, 1, 0), (27, none, .goto 4, 3, 31, 0, 0)] := fq_of2 cd_427 ow_427 cl_427 rfl (pc := 0) (by decide +kernel)
    j_aldn (pc := 0) D rfl rfl rfl fun D =>
    j_gf (pc := 1) (a := 322) D rfl rfl (by decide) rfl (s0_322 H) rfl fun D =>
    j_sp (pc := 4) D rfl fun D =>
    j_ieq (pc := 7) D rfl (fun q =>
      have D : fk_D 427 [(26, none, .iconst 1, 1, 0, 1, 0), (27, none, .goto 4, 3, 31, 0, 0)] := fq_of2 cd_427 ow_427 cl_427 rfl (pc := 26) (by decide +kernel)
      j_ic (pc := 26) D rfl fun D =>
      j_goto (pc := 27) D rfl <|
      have D : fk_D 427 [(31, none, .ireturn, 1, 0, 0, 0)] := fq_of2 cd_427 ow_427 cl_427 rfl (pc := 31) (by decide +kernel)
      j_zret D rt_427 (gy (by decide))) (fun q D =>
      j_aldn (pc := 10) D rfl rfl rfl fun D =>
      j_gfc (pc := 11) (a := 322) D rfl rfl (by decide) rfl (s0_322 H) rfl (sf_131_322 H) fun D =>
      j_bp (pc := 14) D rfl fun D =>
      j_ildn (pc := 16) D rfl rfl rfl fun D =>
      j_imul (pc := 17) D rfl fun D =>
      j_ildn (pc := 18) D rfl rfl rfl fun D =>
      j_iadd (pc := 19) D rfl fun D =>
      j_al (pc := 20) (a := 340) (e := 8) D rfl rfl rfl (by decide) (s0_340 H) (s1_340 H) ⟨rfl, rfl, rfl⟩ rfl gn fun qb1 D =>
      j_bp (pc := 21) D rfl fun D =>
      j_ine (pc := 23) D rfl (fun q D =>
        j_ic (pc := 26) D rfl fun D =>
        j_goto (pc := 27) D rfl <|
        have D : fk_D 427 [(31, none, .ireturn, 1, 0, 0, 0)] := fq_of2 cd_427 ow_427 cl_427 rfl (pc := 31) (by decide +kernel)
        j_zret D rt_427 (gy (by decide))) (fun q =>
        have D : fk_D 427 [(30, none, .iconst 0, 1, 0, 0, 0), (31, none, .ireturn, 1, 0, 0, 0)] := fq_of2 cd_427 ow_427 cl_427 rfl (pc := 30) (by decide +kernel)
        j_ic (pc := 30) D rfl fun D =>
        j_zret D rt_427 (gy (by decide))))
/-! 428 StatuteHouse.lays(LStatuteHouse$Shelf;ILStatuteHouse$Kind;JJ)V -/
theorem cd_428 : fi_code 428 = prog_1_method_75_code := rfl
theorem hx_428 : ∀ pc, fi_hat 428 pc = none := fun pc => by unfold fi_hat; rw [show fi_hh 428 = [] from rfl]; rfl
theorem rt_428 : fi_ret 428 = none := rfl
theorem nl_428 : fi_nl 428 = 9 := rfl
theorem ow_428 : fi_ow 428 = 0 := rfl
theorem cl_428 : fj_cutT.getD 428 [] = [(29, [0, 1, 2, 3, 5])] := rfl
theorem cut_428_29 : fj_cut 428 29 = some [0, 1, 2, 3, 5] := by decide +kernel
noncomputable def c_428_29 (d : Nat) (x0 x1 x2 x3 x5 s0 : Int) (h : fi_H) : fk_R := gG (fj_run d) 428 29 [(0, (4, x0)), (1, (0, x1)), (2, (4, x2)), (3, (1, x3)), (5, (1, x5))] [(1, s0)] h
theorem e_428_29 (d : Nat) (x0 x1 x2 x3 x5 s0 : Int) {h : fi_H} (H : Shp h) : c_428_29 d x0 x1 x2 x3 x5 s0 h =
  ca_ (fj_run d 194 h [(1, s0), (1, x5)]) 1
    (fun v2 h1 =>
    if v2 = 0 then none else
    if v2 = 0 then none else
    cv_ (fj_run d 215 h1 [(4, x0), (0, x1), (4, x2), (1, lq_ x3 v2), (1, lq_ x5 v2)])
      (fun h4 =>
      some (.inl none, h4))
      (fun q6 h4 => tx_ q6 h4))
    (fun q3 h1 => tx_ q3 h1) := by
  unfold c_428_29
  exact
    have D : fk_D 428 [(29, some [0, 1, 2, 3, 5], .lload 5, 2, 0, 0, 0), (31, none, .invokestatic 134, 3, 2, 194, 2), (34, none, .lstore 7, 2, 0, 0, 0), (36, none, .aload_n 0, 1, 0, 0, 0), (37, none, .iload_n 1, 1, 0, 0, 0), (38, none, .aload_n 2, 1, 0, 0, 0), (39, none, .lload_n 3, 1, 0, 0, 0), (40, none, .lload 7, 2, 0, 0, 0), (42, none, .ldiv, 1, 0, 0, 0), (43, none, .lload 5, 2, 0, 0, 0), (45, none, .lload 7, 2, 0, 0, 0), (47, none, .ldiv, 1, 0, 0, 0), (48, none, .invokestatic 299, 3, 5, 215, 0), (51, none, .return_, 1, 0, 0, 0)] := fq_of2 cd_428 ow_428 cl_428 rfl (pc := 29) (by decide +kernel)
    j_lld (pc := 29) D rfl rfl rfl fun D =>
    j_is (pc := 31) (m := 194) (a := [(1, s0), (1, x5)]) (rest := []) D rfl rfl rfl rfl (fun v2 h1 e1 D =>
      have T := fj_run_ok _ _ _ _ _ _ H.1 e1
      have H := shp_st H T
      j_lst (pc := 34) (L' := [(7, (1, v2)), (0, (4, x0)), (1, (0, x1)), (2, (4, x2)), (3, (1, x3)), (5, (1, x5))]) D rfl nl_428 rfl rfl fun D =>
      j_aldn (pc := 36) D rfl rfl rfl fun D =>
      j_ildn (pc := 37) D rfl rfl rfl fun D =>
      j_aldn (pc := 38) D rfl rfl rfl fun D =>
      j_lldn (pc := 39) D rfl rfl rfl fun D =>
      j_lld (pc := 40) D rfl rfl rfl fun D =>
      j_ldiv (pc := 42) D rfl fun q D =>
      j_lld (pc := 43) D rfl rfl rfl fun D =>
      j_lld (pc := 45) D rfl rfl rfl fun D =>
      j_ldiv (pc := 47) D rfl fun q D =>
      j_isv (pc := 48) (m := 215) (a := [(4, x0), (0, x1), (4, x2), (1, lq_ x3 v2), (1, lq_ x5 v2)]) (rest := []) D rfl rfl rfl rfl (fun h4 e1 D =>
        have T := fj_run_ok _ _ _ _ _ _ H.1 e1
        have H := shp_st H T
        j_vret D rt_428) (fun q6 h4 e1 =>
        j_tx (hx_428 _))) (fun q3 h1 e1 =>
      j_tx (hx_428 _))
theorem m_428 (d : Nat) (x0 x1 x2 x3 x5 : Int) {h : fi_H} (H : Shp h) : fj_run (d + 1) 428 h [(4, x0), (0, x1), (4, x2), (1, x3), (1, x5)] =
  if x2 = 5 then
    if lc_ x3 0 < 0 then
      c_428_29 d x0 x1 x2 x3 x5 (wJ (-x3)) h
    else
      c_428_29 d x0 x1 x2 x3 x5 x3 h
  else
    cv_ (fj_run d 215 h [(4, x0), (0, x1), (4, x2), (1, x3), (1, x5)])
      (fun h1 =>
      some (.inl none, h1))
      (fun q3 h1 => tx_ q3 h1) := by
  rw [fj_run_eq d (by decide) h [(4, x0), (0, x1), (4, x2), (1, x3), (1, x5)] (Nat.le_of_ble_eq_true (by rw [nl_428]; rfl))]
  show gG (fj_run d) 428 0 [(0, (4, x0)), (1, (0, x1)), (2, (4, x2)), (3, (1, x3)), (5, (1, x5))] [] h = _
  exact
    have D : fk_D 428 [(0, none, .aload_n 2, 1, 0, 0, 0), (1, none, .getstatic 947, 3, 4, 5, 0), (4, none, .if_acmp .eq 13, 3, 17, 0, 0), (7, none, .aload_n 0, 1, 0, 0, 0), (8, none, .iload_n 1, 1, 0, 0, 0), (9, none, .aload_n 2, 1, 0, 0, 0), (10, none, .lload_n 3, 1, 0, 0, 0), (11, none, .lload 5, 2, 0, 0, 0), (13, none, .invokestatic 299, 3, 5, 215, 0), (16, none, .return_, 1, 0, 0, 0)] := fq_of2 cd_428 ow_428 cl_428 rfl (pc := 0) (by decide +kernel)
    j_aldn (pc := 0) D rfl rfl rfl fun D =>
    j_gs (pc := 1) D rfl fun D =>
    j_aeq (pc := 4) D rfl (fun q =>
      have D : fk_D 428 [(17, none, .lload_n 3, 1, 0, 0, 0), (18, none, .lconst 0, 1, 0, 0, 0), (19, none, .lcmp, 1, 0, 0, 0), (20, none, .ifCond .ge 8, 3, 28, 0, 0), (23, none, .lload_n 3, 1, 0, 0, 0), (24, none, .lneg, 1, 0, 0, 0), (25, none, .goto 4, 3, 29, 0, 0)] := fq_of2 cd_428 ow_428 cl_428 rfl (pc := 17) (by decide +kernel)
      j_lldn (pc := 17) D rfl rfl rfl fun D =>
      j_c0 (pc := 18) (v := (1, 0)) D rfl rfl (by decide +kernel) fun D =>
      j_lcmp (pc := 19) D rfl fun D =>
      j_ifge (pc := 20) D rfl (fun q D =>
        j_lldn (pc := 23) D rfl rfl rfl fun D =>
        j_lneg (pc := 24) D rfl fun D =>
        j_goto (pc := 25) D rfl <|
        fk_jump cut_428_29 rfl rfl) (fun q =>
        have D : fk_D 428 [(28, none, .lload_n 3, 1, 0, 0, 0)] := fq_of2 cd_428 ow_428 cl_428 rfl (pc := 28) (by decide +kernel)
        j_lldn (pc := 28) D rfl rfl rfl fun D =>
        fk_jump cut_428_29 rfl rfl)) (fun q D =>
      j_aldn (pc := 7) D rfl rfl rfl fun D =>
      j_ildn (pc := 8) D rfl rfl rfl fun D =>
      j_aldn (pc := 9) D rfl rfl rfl fun D =>
      j_lldn (pc := 10) D rfl rfl rfl fun D =>
      j_lld (pc := 11) D rfl rfl rfl fun D =>
      j_isv (pc := 13) (m := 215) (a := [(4, x0), (0, x1), (4, x2), (1, x3), (1, x5)]) (rest := []) D rfl rfl rfl rfl (fun h1 e1 D =>
        have T := fj_run_ok _ _ _ _ _ _ H.1 e1
        have H := shp_st H T
        j_vret D rt_428) (fun q3 h1 e1 =>
        j_tx (hx_428 _)))
/-! 429 StatuteHouse.withdraw(IIII)I -/
theorem cd_429 : fi_code 429 = prog_1_method_77_code := rfl
theorem hx_429 : ∀ pc, fi_hat 429 pc = none := fun pc => by unfold fi_hat; rw [show fi_hh 429 = [] from rfl]; rfl
theorem rt_429 : fi_ret 429 = some .int := rfl
theorem nl_429 : fi_nl 429 = 6 := rfl
theorem ow_429 : fi_ow 429 = 0 := rfl
theorem cl_429 : fj_cutT.getD 429 [] = [] := rfl
theorem m_429 (d : Nat) (x1 x2 x3 x4 : Int) {h : fi_H} (H : Shp h) : fj_run (d + 1) 429 h [(4, 303), (0, x1), (0, x2), (0, x3), (0, x4)] =
  ca_ (fj_run d 303 h [(4, 303), (0, x1)]) 0
    (fun v2 h1 =>
    if v2 = 0 then
      some (.inl (some (0, (-1))), h1)
    else
      ca_ (fj_run d 424 h1 [(4, 303), (0, x2)]) 0
        (fun v5 h4 =>
        if v5 = 0 then
          some (.inl (some (0, (-1))), h4)
        else
          ca_ (fj_run d 2 h4 [(4, 303), (0, x3)]) 0
            (fun v8 h7 =>
            if v8 = 0 then
              some (.inl (some (0, (-2))), h7)
            else
              ca_ (fj_run d 2 h7 [(4, 303), (0, x4)]) 0
                (fun v11 h10 =>
                if v11 = 0 then
                  some (.inl (some (0, (-2))), h10)
                else
                  if x4 < x3 then
                    some (.inl (some (0, (-2))), h10)
                  else
                    ca_ (fj_run d 427 h10 [(4, 322), (0, x1), (0, x2)]) 0
                      (fun v14 h13 =>
                      if v14 = 0 then
                        ca_ (fj_run d 214 h13 [(4, 322), (0, x1), (0, x2), (0, x3), (0, x4)]) 0
                          (fun v17 h16 =>
                          if 0 ≤ v17 ∧ v17 < 500 then
                          lt_ (fi_upd h16 4 334 v17.toNat 0) fun h19 =>
                          some (.inl (some (0, h19 132 322 0)), h19)
                          else none)
                          (fun q18 h16 => tx_ q18 h16)
                      else
                        some (.inl (some (0, (-4))), h13))
                      (fun q15 h13 => tx_ q15 h13))
                (fun q12 h10 => tx_ q12 h10))
            (fun q9 h7 => tx_ q9 h7))
        (fun q6 h4 => tx_ q6 h4))
    (fun q3 h1 => tx_ q3 h1) := by
  rw [fj_run_eq d (by decide) h [(4, 303), (0, x1), (0, x2), (0, x3), (0, x4)] (Nat.le_of_ble_eq_true (by rw [nl_429]; rfl))]
  show gG (fj_run d) 429 0 [(0, (4, 303)), (1, (0, x1)), (2, (0, x2)), (3, (0, x3)), (4, (0, x4))] [] h = _
  exact
    have D : fk_D 429 [(0, none, .aload_n 0, 1, 0, 0, 0), (1, none, .iload_n 1, 1, 0, 0, 0), (2, none, .invokevirtual 870, 3, 1, 167, 1), (5, none, .ifCond .eq 11, 3, 16, 0, 0), (8, none, .aload_n 0, 1, 0, 0, 0), (9, none, .iload_n 2, 1, 0, 0, 0), (10, none, .invokevirtual 950, 3, 1, 178, 1), (13, none, .ifCond .ne 5, 3, 18, 0, 0), (16, none, .iconst (-1), 1, 0, (-1), 0), (17, none, .ireturn, 1, 0, 0, 0)] := fq_of2 cd_429 ow_429 cl_429 rfl (pc := 0) (by decide +kernel)
    j_aldn (pc := 0) D rfl rfl rfl fun D =>
    j_ildn (pc := 1) D rfl rfl rfl fun D =>
    j_iv (pc := 2) (m := 303) (dd := 167) (a := [(0, x1)]) (rest := []) D rfl rfl rfl rfl rfl (by decide) (s0_303 H) (by decide +kernel) (fun v2 h1 e1 D =>
      have T := fj_run_ok _ _ _ _ _ _ H.1 e1
      have H := shp_st H T
      j_ifeq (pc := 5) D rfl (fun q =>
        have D : fk_D 429 [(16, none, .iconst (-1), 1, 0, (-1), 0), (17, none, .ireturn, 1, 0, 0, 0)] := fq_of2 cd_429 ow_429 cl_429 rfl (pc := 16) (by decide +kernel)
        j_ic (pc := 16) D rfl fun D =>
        j_iret D rt_429) (fun q D =>
        j_aldn (pc := 8) D rfl rfl rfl fun D =>
        j_ildn (pc := 9) D rfl rfl rfl fun D =>
        j_iv (pc := 10) (m := 424) (dd := 178) (a := [(0, x2)]) (rest := []) D rfl rfl rfl rfl rfl (by decide) (s0_303 H) (by decide +kernel) (fun v5 h4 e1 D =>
          have T := fj_run_ok _ _ _ _ _ _ H.1 e1
          have H := shp_st H T
          j_ifne (pc := 13) D rfl (fun q D =>
            j_ic (pc := 16) D rfl fun D =>
            j_iret D rt_429) (fun q =>
            have D : fk_D 429 [(18, none, .aload_n 0, 1, 0, 0, 0), (19, none, .iload_n 3, 1, 0, 0, 0), (20, none, .invokevirtual 121, 3, 1, 113, 1), (23, none, .ifCond .eq 18, 3, 41, 0, 0), (26, none, .aload_n 0, 1, 0, 0, 0), (27, none, .iload 4, 2, 0, 0, 0), (29, none, .invokevirtual 121, 3, 1, 113, 1), (32, none, .ifCond .eq 9, 3, 41, 0, 0), (35, none, .iload_n 3, 1, 0, 0, 0), (36, none, .iload 4, 2, 0, 0, 0), (38, none, .if_icmp .le 6, 3, 44, 0, 0), (41, none, .bipush (-2), 2, 0, (-2), 0), (43, none, .ireturn, 1, 0, 0, 0)] := fq_of2 cd_429 ow_429 cl_429 rfl (pc := 18) (by decide +kernel)
            j_aldn (pc := 18) D rfl rfl rfl fun D =>
            j_ildn (pc := 19) D rfl rfl rfl fun D =>
            j_iv (pc := 20) (m := 2) (dd := 113) (a := [(0, x3)]) (rest := []) D rfl rfl rfl rfl rfl (by decide) (s0_303 H) (by decide +kernel) (fun v8 h7 e1 D =>
              have T := fj_run_ok _ _ _ _ _ _ H.1 e1
              have H := shp_st H T
              j_ifeq (pc := 23) D rfl (fun q =>
                have D : fk_D 429 [(41, none, .bipush (-2), 2, 0, (-2), 0), (43, none, .ireturn, 1, 0, 0, 0)] := fq_of2 cd_429 ow_429 cl_429 rfl (pc := 41) (by decide +kernel)
                j_bp (pc := 41) D rfl fun D =>
                j_iret D rt_429) (fun q D =>
                j_aldn (pc := 26) D rfl rfl rfl fun D =>
                j_ild (pc := 27) D rfl rfl rfl fun D =>
                j_iv (pc := 29) (m := 2) (dd := 113) (a := [(0, x4)]) (rest := []) D rfl rfl rfl rfl rfl (by decide) (s0_303 H) (by decide +kernel) (fun v11 h10 e1 D =>
                  have T := fj_run_ok _ _ _ _ _ _ H.1 e1
                  have H := shp_st H T
                  j_ifeq (pc := 32) D rfl (fun q =>
                    have D : fk_D 429 [(41, none, .bipush (-2), 2, 0, (-2), 0), (43, none, .ireturn, 1, 0, 0, 0)] := fq_of2 cd_429 ow_429 cl_429 rfl (pc := 41) (by decide +kernel)
                    j_bp (pc := 41) D rfl fun D =>
                    j_iret D rt_429) (fun q D =>
                    j_ildn (pc := 35) D rfl rfl rfl fun D =>
                    j_ild (pc := 36) D rfl rfl rfl fun D =>
                    j_ile (pc := 38) D rfl (fun q D =>
                      j_bp (pc := 41) D rfl fun D =>
                      j_iret D rt_429) (fun q =>
                      have D : fk_D 429 [(44, none, .aload_n 0, 1, 0, 0, 0), (45, none, .getfield 234, 3, 218, 100, 12), (48, none, .iload_n 1, 1, 0, 0, 0), (49, none, .iload_n 2, 1, 0, 0, 0), (50, none, .invokevirtual 956, 3, 2, 180, 1), (53, none, .ifCond .eq 6, 3, 59, 0, 0), (56, none, .bipush (-4), 2, 0, (-4), 0), (58, none, .ireturn, 1, 0, 0, 0)] := fq_of2 cd_429 ow_429 cl_429 rfl (pc := 44) (by decide +kernel)
                      j_aldn (pc := 44) D rfl rfl rfl fun D =>
                      j_gfc (pc := 45) (a := 303) D rfl rfl (by decide) rfl (s0_303 H) rfl (sf_218_303 H) fun D =>
                      j_ildn (pc := 48) D rfl rfl rfl fun D =>
                      j_ildn (pc := 49) D rfl rfl rfl fun D =>
                      j_iv (pc := 50) (m := 427) (dd := 180) (a := [(0, x1), (0, x2)]) (rest := []) D rfl rfl rfl rfl rfl (by decide) (s0_322 H) (by decide +kernel) (fun v14 h13 e1 D =>
                        have T := fj_run_ok _ _ _ _ _ _ H.1 e1
                        have H := shp_st H T
                        j_ifeq (pc := 53) D rfl (fun q =>
                          have D : fk_D 429 [(59, none, .aload_n 0, 1, 0, 0, 0), (60, none, .getfield 234, 3, 218, 100, 12), (63, none, .iload_n 1, 1, 0, 0, 0), (64, none, .iload_n 2, 1, 0, 0, 0), (65, none, .iload_n 3, 1, 0, 0, 0), (66, none, .iload 4, 2, 0, 0, 0), (68, none, .invokevirtual 819, 3, 4, 164, 1), (71, none, .istore 5, 2, 0, 0, 0), (73, none, .aload_n 0, 1, 0, 0, 0), (74, none, .getfield 234, 3, 218, 100, 12), (77, none, .getfield 823, 3, 125, 116, 12), (80, none, .iload 5, 2, 0, 0, 0), (82, none, .iconst 0, 1, 0, 0, 0), (83, none, .bastore, 1, 0, 0, 0), (84, none, .aload_n 0, 1, 0, 0, 0), (85, none, .getfield 234, 3, 218, 100, 12), (88, none, .getfield 962, 3, 132, 116, 10), (91, none, .ireturn, 1, 0, 0, 0)] := fq_of2 cd_429 ow_429 cl_429 rfl (pc := 59) (by decide +kernel)
                          j_aldn (pc := 59) D rfl rfl rfl fun D =>
                          j_gfc (pc := 60) (a := 303) D rfl rfl (by decide) rfl (s0_303 H) rfl (sf_218_303 H) fun D =>
                          j_ildn (pc := 63) D rfl rfl rfl fun D =>
                          j_ildn (pc := 64) D rfl rfl rfl fun D =>
                          j_ildn (pc := 65) D rfl rfl rfl fun D =>
                          j_ild (pc := 66) D rfl rfl rfl fun D =>
                          j_iv (pc := 68) (m := 214) (dd := 164) (a := [(0, x1), (0, x2), (0, x3), (0, x4)]) (rest := []) D rfl rfl rfl rfl rfl (by decide) (s0_322 H) (by decide +kernel) (fun v17 h16 e1 D =>
                            have T := fj_run_ok _ _ _ _ _ _ H.1 e1
                            have H := shp_st H T
                            j_ist (pc := 71) (L' := [(5, (0, v17)), (0, (4, 303)), (1, (0, x1)), (2, (0, x2)), (3, (0, x3)), (4, (0, x4))]) D rfl nl_429 rfl rfl fun D =>
                            j_aldn (pc := 73) D rfl rfl rfl fun D =>
                            j_gfc (pc := 74) (a := 303) D rfl rfl (by decide) rfl (s0_303 H) rfl (sf_218_303 H) fun D =>
                            j_gfc (pc := 77) (a := 322) D rfl rfl (by decide) rfl (s0_322 H) rfl (sf_125_322 H) fun D =>
                            j_ild (pc := 80) D rfl rfl rfl fun D =>
                            j_ic (pc := 82) D rfl fun D =>
                            j_as (pc := 83) (a := 334) (e := 4) D rfl ⟨rfl, rfl⟩ rfl (by decide) (s0_334 H) (s1_334 H) ⟨rfl, rfl, rfl⟩ rfl gn (gy (by decide)) fun h19 eh19 S qb20 D =>
                            have T := fj_hs_ok H.1 S
                            have H := shp_st H T
                            j_aldn (pc := 84) D rfl rfl rfl fun D =>
                            j_gfc (pc := 85) (a := 303) D rfl rfl (by decide) rfl (s0_303 H) rfl (sf_218_303 H) fun D =>
                            j_gf (pc := 88) (a := 322) D rfl rfl (by decide) rfl (s0_322 H) rfl fun D =>
                            j_iret D rt_429) (fun q18 h16 e1 =>
                            j_tx (hx_429 _))) (fun q D =>
                          j_bp (pc := 56) D rfl fun D =>
                          j_iret D rt_429)) (fun q15 h13 e1 =>
                        j_tx (hx_429 _))))) (fun q12 h10 e1 =>
                  j_tx (hx_429 _)))) (fun q9 h7 e1 =>
              j_tx (hx_429 _)))) (fun q6 h4 e1 =>
          j_tx (hx_429 _)))) (fun q3 h1 e1 =>
      j_tx (hx_429 _))
/-! 430 StatuteHouse.suppose(IIJJ)I -/
theorem cd_430 : fi_code 430 = prog_1_method_78_code := rfl
theorem hx_430 : ∀ pc, fi_hat 430 pc = none := fun pc => by unfold fi_hat; rw [show fi_hh 430 = [] from rfl]; rfl
theorem rt_430 : fi_ret 430 = some .int := rfl
theorem nl_430 : fi_nl 430 = 9 := rfl
theorem ow_430 : fi_ow 430 = 0 := rfl
theorem cl_430 : fj_cutT.getD 430 [] = [(70, [0, 1, 2, 3, 5, 7, 8]), (110, [0, 3, 5, 7, 8])] := rfl
theorem cut_430_70 : fj_cut 430 70 = some [0, 1, 2, 3, 5, 7, 8] := by decide +kernel
noncomputable def c_430_70 (d : Nat) (x1 x2 x3 x5 x7 x8 : Int) (h : fi_H) : fk_R := gG (fj_run d) 430 70 [(0, (4, 303)), (1, (0, x1)), (2, (0, x2)), (3, (1, x3)), (5, (1, x5)), (7, (4, x7)), (8, (0, x8))] [] h
theorem cut_430_110 : fj_cut 430 110 = some [0, 3, 5, 7, 8] := by decide +kernel
noncomputable def c_430_110 (d : Nat) (x3 x5 x7 x8 : Int) (h : fi_H) : fk_R := gG (fj_run d) 430 110 [(0, (4, 303)), (3, (1, x3)), (5, (1, x5)), (7, (4, x7)), (8, (0, x8))] [] h
theorem e_430_70 (d : Nat) (x1 x2 x3 x5 x7 x8 : Int) {h : fi_H} (H : Shp h) : c_430_70 d x1 x2 x3 x5 x7 x8 h =
  if x8 = (-1) then
    if 0 ≤ h 222 303 0 ∧ h 222 303 0 < 8 then
    lt_ (fi_upd h 8 352 (h 222 303 0).toNat (wB x1)) fun h1 =>
    lt_ (fi_upd h1 8 353 (h 222 303 0).toNat (wB x2)) fun h3 =>
    lt_ (fi_upd h3 222 303 0 (wI ((h3 222 303 0) + 1))) fun h4 =>
    c_430_110 d x3 x5 x7 (h 222 303 0) h4
    else none
  else
    c_430_110 d x3 x5 x7 x8 h := by
  unfold c_430_70
  exact
    have D : fk_D 430 [(70, some [0, 1, 2, 3, 5, 7, 8], .iload 8, 2, 0, 0, 0), (72, none, .iconst (-1), 1, 0, (-1), 0), (73, none, .if_icmp .ne 37, 3, 110, 0, 0), (76, none, .aload_n 0, 1, 0, 0, 0), (77, none, .getfield 218, 3, 222, 100, 10), (80, none, .istore 8, 2, 0, 0, 0), (82, none, .aload_n 0, 1, 0, 0, 0), (83, none, .getfield 221, 3, 220, 100, 12), (86, none, .iload 8, 2, 0, 0, 0), (88, none, .iload_n 1, 1, 0, 0, 0), (89, none, .i2b, 1, 0, 0, 0), (90, none, .bastore, 1, 0, 0, 0), (91, none, .aload_n 0, 1, 0, 0, 0), (92, none, .getfield 224, 3, 221, 100, 12), (95, none, .iload 8, 2, 0, 0, 0), (97, none, .iload_n 2, 1, 0, 0, 0), (98, none, .i2b, 1, 0, 0, 0), (99, none, .bastore, 1, 0, 0, 0), (100, none, .aload_n 0, 1, 0, 0, 0), (101, none, .dup, 1, 0, 0, 0)] := fq_of2 cd_430 ow_430 cl_430 rfl (pc := 70) (by decide +kernel)
    j_ild (pc := 70) D rfl rfl rfl fun D =>
    j_ic (pc := 72) D rfl fun D =>
    j_ine (pc := 73) D rfl (fun q D =>
      j_aldn (pc := 76) D rfl rfl rfl fun D =>
      j_gf (pc := 77) (a := 303) D rfl rfl (by decide) rfl (s0_303 H) rfl fun D =>
      j_ist (pc := 80) (L' := [(8, (0, h 222 303 0)), (0, (4, 303)), (1, (0, x1)), (2, (0, x2)), (3, (1, x3)), (5, (1, x5)), (7, (4, x7))]) D rfl nl_430 rfl rfl fun D =>
      j_aldn (pc := 82) D rfl rfl rfl fun D =>
      j_gfc (pc := 83) (a := 303) D rfl rfl (by decide) rfl (s0_303 H) rfl (sf_220_303 H) fun D =>
      j_ild (pc := 86) D rfl rfl rfl fun D =>
      j_ildn (pc := 88) D rfl rfl rfl fun D =>
      j_i2b (pc := 89) D rfl fun D =>
      j_as (pc := 90) (a := 352) (e := 8) D rfl ⟨rfl, rfl⟩ rfl (by decide) (s0_352 H) (s1_352 H) ⟨rfl, rfl, rfl⟩ rfl gn (gy (fk_rgB _)) fun h1 eh1 S qb2 D =>
      have T := fj_hs_ok H.1 S
      have H := shp_st H T
      j_aldn (pc := 91) D rfl rfl rfl fun D =>
      j_gfc (pc := 92) (a := 303) D rfl rfl (by decide) rfl (s0_303 H) rfl (sf_221_303 H) fun D =>
      j_ild (pc := 95) D rfl rfl rfl fun D =>
      j_ildn (pc := 97) D rfl rfl rfl fun D =>
      j_i2b (pc := 98) D rfl fun D =>
      j_as (pc := 99) (a := 353) (e := 8) D rfl ⟨rfl, rfl⟩ rfl (by decide) (s0_353 H) (s1_353 H) ⟨rfl, rfl, rfl⟩ rfl (gy qb2) (gy (fk_rgB _)) fun h3 eh3 S q D =>
      have T := fj_hs_ok H.1 S
      have H := shp_st H T
      j_aldn (pc := 100) D rfl rfl rfl fun D =>
      j_sh (pc := 101) D rfl rfl rfl fun D =>
      have D : fk_D 430 [(102, none, .getfield 218, 3, 222, 100, 10), (105, none, .iconst 1, 1, 0, 1, 0), (106, none, .iadd, 1, 0, 0, 0), (107, none, .putfield 218, 3, 222, 100, 10)] := fq_of2 cd_430 ow_430 cl_430 rfl (pc := 102) (by decide +kernel)
      j_gf (pc := 102) (a := 303) D rfl rfl (by decide) rfl (s0_303 H) rfl fun D =>
      j_ic (pc := 105) D rfl fun D =>
      j_iadd (pc := 106) D rfl fun D =>
      j_pf (pc := 107) (a := 303) D rfl rfl rfl (s0_303 H) rfl rfl (gy (by decide)) (gy rfl) fun h4 eh4 S D =>
      have T := fj_hs_ok H.1 S
      have H := shp_st H T
      fk_jump cut_430_110 rfl rfl) (fun q =>
      fk_jump cut_430_110 rfl rfl)
theorem e_430_110 (d : Nat) (x3 x5 x7 x8 : Int) {h : fi_H} (H : Shp h) : c_430_110 d x3 x5 x7 x8 h =
  cv_ (fj_run d 428 h [(4, 341), (0, x8), (4, x7), (1, x3), (1, x5)])
    (fun h1 =>
    some (.inl (some (0, h1 222 303 0)), h1))
    (fun q3 h1 => tx_ q3 h1) := by
  unfold c_430_110
  exact
    have D : fk_D 430 [(110, some [0, 3, 5, 7, 8], .aload_n 0, 1, 0, 0, 0), (111, none, .getfield 243, 3, 219, 100, 12), (114, none, .iload 8, 2, 0, 0, 0), (116, none, .aload 7, 2, 0, 0, 0), (118, none, .lload_n 3, 1, 0, 0, 0), (119, none, .lload 5, 2, 0, 0, 0), (121, none, .invokestatic 959, 3, 5, 428, 0), (124, none, .aload_n 0, 1, 0, 0, 0), (125, none, .getfield 218, 3, 222, 100, 10), (128, none, .ireturn, 1, 0, 0, 0)] := fq_of2 cd_430 ow_430 cl_430 rfl (pc := 110) (by decide +kernel)
    j_aldn (pc := 110) D rfl rfl rfl fun D =>
    j_gfc (pc := 111) (a := 303) D rfl rfl (by decide) rfl (s0_303 H) rfl (sf_219_303 H) fun D =>
    j_ild (pc := 114) D rfl rfl rfl fun D =>
    j_ald (pc := 116) D rfl rfl rfl fun D =>
    j_lldn (pc := 118) D rfl rfl rfl fun D =>
    j_lld (pc := 119) D rfl rfl rfl fun D =>
    j_isv (pc := 121) (m := 428) (a := [(4, 341), (0, x8), (4, x7), (1, x3), (1, x5)]) (rest := []) D rfl rfl rfl rfl (fun h1 e1 D =>
      have T := fj_run_ok _ _ _ _ _ _ H.1 e1
      have H := shp_st H T
      j_aldn (pc := 124) D rfl rfl rfl fun D =>
      j_gf (pc := 125) (a := 303) D rfl rfl (by decide) rfl (s0_303 H) rfl fun D =>
      j_iret D rt_430) (fun q3 h1 e1 =>
      j_tx (hx_430 _))
theorem m_430 (d : Nat) (x1 x2 x3 x5 : Int) {h : fi_H} (H : Shp h) : fj_run (d + 1) 430 h [(4, 303), (0, x1), (0, x2), (1, x3), (1, x5)] =
  ca_ (fj_run d 303 h [(4, 303), (0, x1)]) 0
    (fun v2 h1 =>
    if v2 = 0 then
      some (.inl (some (0, (-1))), h1)
    else
      ca_ (fj_run d 424 h1 [(4, 303), (0, x2)]) 0
        (fun v5 h4 =>
        if v5 = 0 then
          some (.inl (some (0, (-1))), h4)
        else
          if 0 ≤ x2 ∧ x2 < 40 then
          if h4 0 (h4 12 320 x2.toNat).toNat 0 = 124 then
          ca_ (fj_run d 425 h4 [(4, 303), (4, h4 324 (h4 12 320 x2.toNat).toNat 0), (1, x3), (1, x5)]) 0
            (fun v10 h9 =>
            if v10 = 0 then
              some (.inl (some (0, (-2))), h9)
            else
              ca_ (fj_run d 318 h9 [(4, 303), (0, x1), (0, x2)]) 0
                (fun v13 h12 =>
                if v13 = (-1) then
                  if h12 222 303 0 = 8 then
                    some (.inl (some (0, (-4))), h12)
                  else
                    c_430_70 d x1 x2 x3 x5 (h4 324 (h4 12 320 x2.toNat).toNat 0) v13 h12
                else
                  c_430_70 d x1 x2 x3 x5 (h4 324 (h4 12 320 x2.toNat).toNat 0) v13 h12)
                (fun q14 h12 => tx_ q14 h12))
            (fun q11 h9 => tx_ q11 h9)
          else none
          else none)
        (fun q6 h4 => tx_ q6 h4))
    (fun q3 h1 => tx_ q3 h1) := by
  rw [fj_run_eq d (by decide) h [(4, 303), (0, x1), (0, x2), (1, x3), (1, x5)] (Nat.le_of_ble_eq_true (by rw [nl_430]; rfl))]
  show gG (fj_run d) 430 0 [(0, (4, 303)), (1, (0, x1)), (2, (0, x2)), (3, (1, x3)), (5, (1, x5))] [] h = _
  exact
    have D : fk_D 430 [(0, none, .aload_n 0, 1, 0, 0, 0), (1, none, .iload_n 1, 1, 0, 0, 0), (2, none, .invokevirtual 870, 3, 1, 167, 1), (5, none, .ifCond .eq 11, 3, 16, 0, 0), (8, none, .aload_n 0, 1, 0, 0, 0), (9, none, .iload_n 2, 1, 0, 0, 0), (10, none, .invokevirtual 950, 3, 1, 178, 1), (13, none, .ifCond .ne 5, 3, 18, 0, 0), (16, none, .iconst (-1), 1, 0, (-1), 0), (17, none, .ireturn, 1, 0, 0, 0)] := fq_of2 cd_430 ow_430 cl_430 rfl (pc := 0) (by decide +kernel)
    j_aldn (pc := 0) D rfl rfl rfl fun D =>
    j_ildn (pc := 1) D rfl rfl rfl fun D =>
    j_iv (pc := 2) (m := 303) (dd := 167) (a := [(0, x1)]) (rest := []) D rfl rfl rfl rfl rfl (by decide) (s0_303 H) (by decide +kernel) (fun v2 h1 e1 D =>
      have T := fj_run_ok _ _ _ _ _ _ H.1 e1
      have H := shp_st H T
      j_ifeq (pc := 5) D rfl (fun q =>
        have D : fk_D 430 [(16, none, .iconst (-1), 1, 0, (-1), 0), (17, none, .ireturn, 1, 0, 0, 0)] := fq_of2 cd_430 ow_430 cl_430 rfl (pc := 16) (by decide +kernel)
        j_ic (pc := 16) D rfl fun D =>
        j_iret D rt_430) (fun q D =>
        j_aldn (pc := 8) D rfl rfl rfl fun D =>
        j_ildn (pc := 9) D rfl rfl rfl fun D =>
        j_iv (pc := 10) (m := 424) (dd := 178) (a := [(0, x2)]) (rest := []) D rfl rfl rfl rfl rfl (by decide) (s0_303 H) (by decide +kernel) (fun v5 h4 e1 D =>
          have T := fj_run_ok _ _ _ _ _ _ H.1 e1
          have H := shp_st H T
          j_ifne (pc := 13) D rfl (fun q D =>
            j_ic (pc := 16) D rfl fun D =>
            j_iret D rt_430) (fun q =>
            have D : fk_D 430 [(18, none, .aload_n 0, 1, 0, 0, 0), (19, none, .getfield 255, 3, 214, 100, 12), (22, none, .iload_n 2, 1, 0, 0, 0), (23, none, .aaload, 1, 0, 0, 0), (24, none, .getfield 283, 3, 324, (-124), 12), (27, none, .astore 7, 2, 0, 0, 0), (29, none, .aload_n 0, 1, 0, 0, 0), (30, none, .aload 7, 2, 0, 0, 0), (32, none, .lload_n 3, 1, 0, 0, 0), (33, none, .lload 5, 2, 0, 0, 0), (35, none, .invokevirtual 952, 3, 3, 179, 1), (38, none, .ifCond .ne 6, 3, 44, 0, 0), (41, none, .bipush (-2), 2, 0, (-2), 0), (43, none, .ireturn, 1, 0, 0, 0)] := fq_of2 cd_430 ow_430 cl_430 rfl (pc := 18) (by decide +kernel)
            j_aldn (pc := 18) D rfl rfl rfl fun D =>
            j_gfc (pc := 19) (a := 303) D rfl rfl (by decide) rfl (s0_303 H) rfl (sf_214_303 H) fun D =>
            j_ildn (pc := 22) D rfl rfl rfl fun D =>
            j_al (pc := 23) (a := 320) (e := 12) D rfl rfl rfl (by decide) (s0_320 H) (s1_320 H) ⟨rfl, rfl, rfl⟩ rfl gn fun qb7 D =>
            j_gfo (pc := 24) H.2.1 D rfl rfl rfl rfl fun kc8 D =>
            j_ast (pc := 27) (L' := [(7, (4, h4 324 (h4 12 320 x2.toNat).toNat 0)), (0, (4, 303)), (1, (0, x1)), (2, (0, x2)), (3, (1, x3)), (5, (1, x5))]) D rfl nl_430 rfl rfl fun D =>
            j_aldn (pc := 29) D rfl rfl rfl fun D =>
            j_ald (pc := 30) D rfl rfl rfl fun D =>
            j_lldn (pc := 32) D rfl rfl rfl fun D =>
            j_lld (pc := 33) D rfl rfl rfl fun D =>
            j_iv (pc := 35) (m := 425) (dd := 179) (a := [(4, h4 324 (h4 12 320 x2.toNat).toNat 0), (1, x3), (1, x5)]) (rest := []) D rfl rfl rfl rfl rfl (by decide) (s0_303 H) (by decide +kernel) (fun v10 h9 e1 D =>
              have T := fj_run_ok _ _ _ _ _ _ H.1 e1
              have kc8 := cls_st H.1 T.2 kc8 (by decide)
              have H := shp_st H T
              j_ifne (pc := 38) D rfl (fun q D =>
                j_bp (pc := 41) D rfl fun D =>
                j_iret D rt_430) (fun q =>
                have D : fk_D 430 [(44, none, .aload_n 0, 1, 0, 0, 0), (45, none, .iload_n 1, 1, 0, 0, 0), (46, none, .iload_n 2, 1, 0, 0, 0), (47, none, .invokevirtual 230, 3, 2, 126, 1), (50, none, .istore 8, 2, 0, 0, 0), (52, none, .iload 8, 2, 0, 0, 0), (54, none, .iconst (-1), 1, 0, (-1), 0), (55, none, .if_icmp .ne 15, 3, 70, 0, 0), (58, none, .aload_n 0, 1, 0, 0, 0), (59, none, .getfield 218, 3, 222, 100, 10), (62, none, .bipush 8, 2, 0, 8, 0), (64, none, .if_icmp .ne 6, 3, 70, 0, 0), (67, none, .bipush (-4), 2, 0, (-4), 0), (69, none, .ireturn, 1, 0, 0, 0)] := fq_of2 cd_430 ow_430 cl_430 rfl (pc := 44) (by decide +kernel)
                j_aldn (pc := 44) D rfl rfl rfl fun D =>
                j_ildn (pc := 45) D rfl rfl rfl fun D =>
                j_ildn (pc := 46) D rfl rfl rfl fun D =>
                j_iv (pc := 47) (m := 318) (dd := 126) (a := [(0, x1), (0, x2)]) (rest := []) D rfl rfl rfl rfl rfl (by decide) (s0_303 H) (by decide +kernel) (fun v13 h12 e1 D =>
                  have T := fj_run_ok _ _ _ _ _ _ H.1 e1
                  have kc8 := cls_st H.1 T.2 kc8 (by decide)
                  have H := shp_st H T
                  j_ist (pc := 50) (L' := [(8, (0, v13)), (7, (4, h4 324 (h4 12 320 x2.toNat).toNat 0)), (0, (4, 303)), (1, (0, x1)), (2, (0, x2)), (3, (1, x3)), (5, (1, x5))]) D rfl nl_430 rfl rfl fun D =>
                  j_ild (pc := 52) D rfl rfl rfl fun D =>
                  j_ic (pc := 54) D rfl fun D =>
                  j_ine (pc := 55) D rfl (fun q D =>
                    j_aldn (pc := 58) D rfl rfl rfl fun D =>
                    j_gf (pc := 59) (a := 303) D rfl rfl (by decide) rfl (s0_303 H) rfl fun D =>
                    j_bp (pc := 62) D rfl fun D =>
                    j_ine (pc := 64) D rfl (fun q D =>
                      j_bp (pc := 67) D rfl fun D =>
                      j_iret D rt_430) (fun q =>
                      fk_jump cut_430_70 rfl rfl)) (fun q =>
                    fk_jump cut_430_70 rfl rfl)) (fun q14 h12 e1 =>
                  j_tx (hx_430 _)))) (fun q11 h9 e1 =>
              j_tx (hx_430 _)))) (fun q6 h4 e1 =>
          j_tx (hx_430 _)))) (fun q3 h1 e1 =>
      j_tx (hx_430 _))
/-! 431 StatuteHouse.forget()I -/
theorem cd_431 : fi_code 431 = prog_1_method_79_code := rfl
theorem hx_431 : ∀ pc, fi_hat 431 pc = none := fun pc => by unfold fi_hat; rw [show fi_hh 431 = [] from rfl]; rfl
theorem rt_431 : fi_ret 431 = some .int := rfl
theorem nl_431 : fi_nl 431 = 2 := rfl
theorem ow_431 : fi_ow 431 = 0 := rfl
theorem cl_431 : fj_cutT.getD 431 [] = [] := rfl
theorem m_431 (d : Nat) {h : fi_H} (H : Shp h) : fj_run (d + 1) 431 h [(4, 303)] =
  lt_ (fi_upd h 222 303 0 0) fun h1 =>
  some (.inl (some (0, h 222 303 0)), h1) := by
  rw [fj_run_eq d (by decide) h [(4, 303)] (Nat.le_of_ble_eq_true (by rw [nl_431]; rfl))]
  show gG (fj_run d) 431 0 [(0, (4, 303))] [] h = _
  exact
    have D : fk_D 431 [(0, none, .aload_n 0, 1, 0, 0, 0), (1, none, .getfield 218, 3, 222, 100, 10), (4, none, .istore_n 1, 1, 0, 0, 0), (5, none, .aload_n 0, 1, 0, 0, 0), (6, none, .iconst 0, 1, 0, 0, 0), (7, none, .putfield 218, 3, 222, 100, 10), (10, none, .iload_n 1, 1, 0, 0, 0), (11, none, .ireturn, 1, 0, 0, 0)] := fq_of2 cd_431 ow_431 cl_431 rfl (pc := 0) (by decide +kernel)
    j_aldn (pc := 0) D rfl rfl rfl fun D =>
    j_gf (pc := 1) (a := 303) D rfl rfl (by decide) rfl (s0_303 H) rfl fun D =>
    j_istn (pc := 4) (L' := [(1, (0, h 222 303 0)), (0, (4, 303))]) D rfl nl_431 rfl rfl fun D =>
    j_aldn (pc := 5) D rfl rfl rfl fun D =>
    j_ic (pc := 6) D rfl fun D =>
    j_pf (pc := 7) (a := 303) D rfl rfl rfl (s0_303 H) rfl rfl (gy (by decide)) (gy rfl) fun h1 eh1 S D =>
    have T := fj_hs_ok H.1 S
    have H := shp_st H T
    j_ildn (pc := 10) D rfl rfl rfl fun D =>
    j_iret D rt_431
/-! 432 StatuteHouse.reckon(IIIII)I -/
theorem cd_432 : fi_code 432 = prog_1_method_80_code := rfl
theorem hx_432 : ∀ pc, fi_hat 432 pc = none := fun pc => by unfold fi_hat; rw [show fi_hh 432 = [] from rfl]; rfl
theorem rt_432 : fi_ret 432 = some .int := rfl
theorem nl_432 : fi_nl 432 = 6 := rfl
theorem ow_432 : fi_ow 432 = 0 := rfl
theorem cl_432 : fj_cutT.getD 432 [] = [] := rfl
theorem m_432 (d : Nat) (x1 x2 x3 x4 x5 : Int) {h : fi_H} (H : Shp h) : fj_run (d + 1) 432 h [(4, 303), (0, x1), (0, x2), (0, x3), (0, x4), (0, x5)] =
  ca_ (fj_run d 71 h [(4, 303), (0, x2)]) 0
    (fun v2 h1 =>
    if v2 = 0 then
      some (.inl (some (0, (-1))), h1)
    else
      ca_ (fj_run d 1 h1 [(0, x1)]) 0
        (fun v5 h4 =>
        if v5 = 0 then
          some (.inl (some (0, (-2))), h4)
        else
          ca_ (fj_run d 303 h4 [(4, 303), (0, x3)]) 0
            (fun v8 h7 =>
            if v8 = 0 then
              some (.inl (some (0, (-2))), h7)
            else
              ca_ (fj_run d 2 h7 [(4, 303), (0, x4)]) 0
                (fun v11 h10 =>
                if v11 = 0 then
                  some (.inl (some (0, (-2))), h10)
                else
                  ca_ (fj_run d 2 h10 [(4, 303), (0, x5)]) 0
                    (fun v14 h13 =>
                    if v14 = 0 then
                      some (.inl (some (0, (-2))), h13)
                    else
                      ca_ (fj_run d 306 h13 [(4, 303), (4, 0), (0, x2), (0, x1), (0, x3), (0, x4), (0, x5)]) 0
                        (fun v17 h16 =>
                        some (.inl (some (0, v17)), h16))
                        (fun q18 h16 => tx_ q18 h16))
                    (fun q15 h13 => tx_ q15 h13))
                (fun q12 h10 => tx_ q12 h10))
            (fun q9 h7 => tx_ q9 h7))
        (fun q6 h4 => tx_ q6 h4))
    (fun q3 h1 => tx_ q3 h1) := by
  rw [fj_run_eq d (by decide) h [(4, 303), (0, x1), (0, x2), (0, x3), (0, x4), (0, x5)] (Nat.le_of_ble_eq_true (by rw [nl_432]; rfl))]
  show gG (fj_run d) 432 0 [(0, (4, 303)), (1, (0, x1)), (2, (0, x2)), (3, (0, x3)), (4, (0, x4)), (5, (0, x5))] [] h = _
  exact
    have D : fk_D 432 [(0, none, .aload_n 0, 1, 0, 0, 0), (1, none, .iload_n 2, 1, 0, 0, 0), (2, none, .invokevirtual 613, 3, 1, 155, 1), (5, none, .ifCond .ne 5, 3, 10, 0, 0), (8, none, .iconst (-1), 1, 0, (-1), 0), (9, none, .ireturn, 1, 0, 0, 0)] := fq_of2 cd_432 ow_432 cl_432 rfl (pc := 0) (by decide +kernel)
    j_aldn (pc := 0) D rfl rfl rfl fun D =>
    j_ildn (pc := 1) D rfl rfl rfl fun D =>
    j_iv (pc := 2) (m := 71) (dd := 155) (a := [(0, x2)]) (rest := []) D rfl rfl rfl rfl rfl (by decide) (s0_303 H) (by decide +kernel) (fun v2 h1 e1 D =>
      have T := fj_run_ok _ _ _ _ _ _ H.1 e1
      have H := shp_st H T
      j_ifne (pc := 5) D rfl (fun q D =>
        j_ic (pc := 8) D rfl fun D =>
        j_iret D rt_432) (fun q =>
        have D : fk_D 432 [(10, none, .iload_n 1, 1, 0, 0, 0), (11, none, .invokestatic 526, 3, 1, 1, 1), (14, none, .ifCond .eq 29, 3, 43, 0, 0), (17, none, .aload_n 0, 1, 0, 0, 0), (18, none, .iload_n 3, 1, 0, 0, 0), (19, none, .invokevirtual 870, 3, 1, 167, 1), (22, none, .ifCond .eq 21, 3, 43, 0, 0), (25, none, .aload_n 0, 1, 0, 0, 0), (26, none, .iload 4, 2, 0, 0, 0), (28, none, .invokevirtual 121, 3, 1, 113, 1), (31, none, .ifCond .eq 12, 3, 43, 0, 0), (34, none, .aload_n 0, 1, 0, 0, 0), (35, none, .iload 5, 2, 0, 0, 0), (37, none, .invokevirtual 121, 3, 1, 113, 1), (40, none, .ifCond .ne 6, 3, 46, 0, 0), (43, none, .bipush (-2), 2, 0, (-2), 0), (45, none, .ireturn, 1, 0, 0, 0)] := fq_of2 cd_432 ow_432 cl_432 rfl (pc := 10) (by decide +kernel)
        j_ildn (pc := 10) D rfl rfl rfl fun D =>
        j_is (pc := 11) (m := 1) (a := [(0, x1)]) (rest := []) D rfl rfl rfl rfl (fun v5 h4 e1 D =>
          have T := fj_run_ok _ _ _ _ _ _ H.1 e1
          have H := shp_st H T
          j_ifeq (pc := 14) D rfl (fun q =>
            have D : fk_D 432 [(43, none, .bipush (-2), 2, 0, (-2), 0), (45, none, .ireturn, 1, 0, 0, 0)] := fq_of2 cd_432 ow_432 cl_432 rfl (pc := 43) (by decide +kernel)
            j_bp (pc := 43) D rfl fun D =>
            j_iret D rt_432) (fun q D =>
            j_aldn (pc := 17) D rfl rfl rfl fun D =>
            j_ildn (pc := 18) D rfl rfl rfl fun D =>
            j_iv (pc := 19) (m := 303) (dd := 167) (a := [(0, x3)]) (rest := []) D rfl rfl rfl rfl rfl (by decide) (s0_303 H) (by decide +kernel) (fun v8 h7 e1 D =>
              have T := fj_run_ok _ _ _ _ _ _ H.1 e1
              have H := shp_st H T
              j_ifeq (pc := 22) D rfl (fun q =>
                have D : fk_D 432 [(43, none, .bipush (-2), 2, 0, (-2), 0), (45, none, .ireturn, 1, 0, 0, 0)] := fq_of2 cd_432 ow_432 cl_432 rfl (pc := 43) (by decide +kernel)
                j_bp (pc := 43) D rfl fun D =>
                j_iret D rt_432) (fun q D =>
                j_aldn (pc := 25) D rfl rfl rfl fun D =>
                j_ild (pc := 26) D rfl rfl rfl fun D =>
                j_iv (pc := 28) (m := 2) (dd := 113) (a := [(0, x4)]) (rest := []) D rfl rfl rfl rfl rfl (by decide) (s0_303 H) (by decide +kernel) (fun v11 h10 e1 D =>
                  have T := fj_run_ok _ _ _ _ _ _ H.1 e1
                  have H := shp_st H T
                  j_ifeq (pc := 31) D rfl (fun q =>
                    have D : fk_D 432 [(43, none, .bipush (-2), 2, 0, (-2), 0), (45, none, .ireturn, 1, 0, 0, 0)] := fq_of2 cd_432 ow_432 cl_432 rfl (pc := 43) (by decide +kernel)
                    j_bp (pc := 43) D rfl fun D =>
                    j_iret D rt_432) (fun q D =>
                    j_aldn (pc := 34) D rfl rfl rfl fun D =>
                    j_ild (pc := 35) D rfl rfl rfl fun D =>
                    j_iv (pc := 37) (m := 2) (dd := 113) (a := [(0, x5)]) (rest := []) D rfl rfl rfl rfl rfl (by decide) (s0_303 H) (by decide +kernel) (fun v14 h13 e1 D =>
                      have T := fj_run_ok _ _ _ _ _ _ H.1 e1
                      have H := shp_st H T
                      j_ifne (pc := 40) D rfl (fun q D =>
                        j_bp (pc := 43) D rfl fun D =>
                        j_iret D rt_432) (fun q =>
                        have D : fk_D 432 [(46, none, .aload_n 0, 1, 0, 0, 0), (47, none, .aconst_null, 1, 0, 0, 0), (48, none, .iload_n 2, 1, 0, 0, 0), (49, none, .iload_n 1, 1, 0, 0, 0), (50, none, .iload_n 3, 1, 0, 0, 0), (51, none, .iload 4, 2, 0, 0, 0), (53, none, .iload 5, 2, 0, 0, 0), (55, none, .invokevirtual 877, 3, 6, 169, 1), (58, none, .ireturn, 1, 0, 0, 0)] := fq_of2 cd_432 ow_432 cl_432 rfl (pc := 46) (by decide +kernel)
                        j_aldn (pc := 46) D rfl rfl rfl fun D =>
                        j_c0 (pc := 47) (v := (4, 0)) D rfl rfl (by decide +kernel) fun D =>
                        j_ildn (pc := 48) D rfl rfl rfl fun D =>
                        j_ildn (pc := 49) D rfl rfl rfl fun D =>
                        j_ildn (pc := 50) D rfl rfl rfl fun D =>
                        j_ild (pc := 51) D rfl rfl rfl fun D =>
                        j_ild (pc := 53) D rfl rfl rfl fun D =>
                        j_iv (pc := 55) (m := 306) (dd := 169) (a := [(4, 0), (0, x2), (0, x1), (0, x3), (0, x4), (0, x5)]) (rest := []) D rfl rfl rfl rfl rfl (by decide) (s0_303 H) (by decide +kernel) (fun v17 h16 e1 D =>
                          have T := fj_run_ok _ _ _ _ _ _ H.1 e1
                          have H := shp_st H T
                          j_iret D rt_432) (fun q18 h16 e1 =>
                          j_tx (hx_432 _)))) (fun q15 h13 e1 =>
                      j_tx (hx_432 _)))) (fun q12 h10 e1 =>
                  j_tx (hx_432 _)))) (fun q9 h7 e1 =>
              j_tx (hx_432 _)))) (fun q6 h4 e1 =>
          j_tx (hx_432 _)))) (fun q3 h1 e1 =>
      j_tx (hx_432 _))
/-! 433 StatuteHouse.value(I)J -/
theorem cd_433 : fi_code 433 = prog_1_method_81_code := rfl
theorem hx_433 : ∀ pc, fi_hat 433 pc = none := fun pc => by unfold fi_hat; rw [show fi_hh 433 = [] from rfl]; rfl
theorem rt_433 : fi_ret 433 = some .long := rfl
theorem nl_433 : fi_nl 433 = 2 := rfl
theorem ow_433 : fi_ow 433 = 0 := rfl
theorem cl_433 : fj_cutT.getD 433 [] = [] := rfl
theorem m_433 (d : Nat) (x1 : Int) {h : fi_H} (H : Shp h) : fj_run (d + 1) 433 h [(4, 303), (0, x1)] =
  if x1 = 0 then
    some (.inl (some (1, h 280 303 0)), h)
  else
    if x1 = 1 then
      some (.inl (some (1, h 281 303 0)), h)
    else
      some (.inl (some (1, 0)), h) := by
  rw [fj_run_eq d (by decide) h [(4, 303), (0, x1)] (Nat.le_of_ble_eq_true (by rw [nl_433]; rfl))]
  show gG (fj_run d) 433 0 [(0, (4, 303)), (1, (0, x1))] [] h = _
  exact
    have D : fk_D 433 [(0, none, .iload_n 1, 1, 0, 0, 0), (1, none, .ifCond .ne 10, 3, 11, 0, 0), (4, none, .aload_n 0, 1, 0, 0, 0), (5, none, .getfield 891, 3, 280, 100, 11), (8, none, .goto 16, 3, 24, 0, 0)] := fq_of2 cd_433 ow_433 cl_433 rfl (pc := 0) (by decide +kernel)
    j_ildn (pc := 0) D rfl rfl rfl fun D =>
    j_ifne (pc := 1) D rfl (fun q D =>
      j_aldn (pc := 4) D rfl rfl rfl fun D =>
      j_gf (pc := 5) (a := 303) D rfl rfl (by decide) rfl (s0_303 H) rfl fun D =>
      j_goto (pc := 8) D rfl <|
      have D : fk_D 433 [(24, none, .lreturn, 1, 0, 0, 0)] := fq_of2 cd_433 ow_433 cl_433 rfl (pc := 24) (by decide +kernel)
      j_lret D rt_433) (fun q =>
      have D : fk_D 433 [(11, none, .iload_n 1, 1, 0, 0, 0), (12, none, .iconst 1, 1, 0, 1, 0), (13, none, .if_icmp .ne 10, 3, 23, 0, 0), (16, none, .aload_n 0, 1, 0, 0, 0), (17, none, .getfield 894, 3, 281, 100, 11), (20, none, .goto 4, 3, 24, 0, 0)] := fq_of2 cd_433 ow_433 cl_433 rfl (pc := 11) (by decide +kernel)
      j_ildn (pc := 11) D rfl rfl rfl fun D =>
      j_ic (pc := 12) D rfl fun D =>
      j_ine (pc := 13) D rfl (fun q D =>
        j_aldn (pc := 16) D rfl rfl rfl fun D =>
        j_gf (pc := 17) (a := 303) D rfl rfl (by decide) rfl (s0_303 H) rfl fun D =>
        j_goto (pc := 20) D rfl <|
        have D : fk_D 433 [(24, none, .lreturn, 1, 0, 0, 0)] := fq_of2 cd_433 ow_433 cl_433 rfl (pc := 24) (by decide +kernel)
        j_lret D rt_433) (fun q =>
        have D : fk_D 433 [(23, none, .lconst 0, 1, 0, 0, 0), (24, none, .lreturn, 1, 0, 0, 0)] := fq_of2 cd_433 ow_433 cl_433 rfl (pc := 23) (by decide +kernel)
        j_c0 (pc := 23) (v := (1, 0)) D rfl rfl (by decide +kernel) fun D =>
        j_lret D rt_433))
/-! 434 StatuteHouse.failed(I)I -/
theorem cd_434 : fi_code 434 = prog_1_method_82_code := rfl
theorem hx_434 : ∀ pc, fi_hat 434 pc = none := fun pc => by unfold fi_hat; rw [show fi_hh 434 = [] from rfl]; rfl
theorem rt_434 : fi_ret 434 = some .int := rfl
theorem nl_434 : fi_nl 434 = 2 := rfl
theorem ow_434 : fi_ow 434 = 0 := rfl
theorem cl_434 : fj_cutT.getD 434 [] = [] := rfl
theorem m_434 (d : Nat) (x1 : Int) {h : fi_H} (H : Shp h) : fj_run (d + 1) 434 h [(4, 303), (0, x1)] =
  ca_ (fj_run d 3 h [(1, wI x1), (1, 0), (1, 5)]) 0
    (fun v2 h1 =>
    if v2 = 0 then
      some (.inl (some (0, (-1))), h1)
    else
      if 0 ≤ x1 ∧ x1 < 6 then
      some (.inl (some (0, h1 10 364 x1.toNat)), h1)
      else none)
    (fun q3 h1 => tx_ q3 h1) := by
  rw [fj_run_eq d (by decide) h [(4, 303), (0, x1)] (Nat.le_of_ble_eq_true (by rw [nl_434]; rfl))]
  show gG (fj_run d) 434 0 [(0, (4, 303)), (1, (0, x1))] [] h = _
  exact
    have D : fk_D 434 [(0, none, .iload_n 1, 1, 0, 0, 0), (1, none, .i2l, 1, 0, 0, 0), (2, none, .lconst 0, 1, 0, 0, 0), (3, none, .ldc2_w 963, 3, 1, 5, 0), (6, none, .invokestatic 46, 3, 3, 3, 1), (9, none, .ifCond .eq 12, 3, 21, 0, 0), (12, none, .aload_n 0, 1, 0, 0, 0), (13, none, .getfield 314, 3, 251, 100, 12), (16, none, .iload_n 1, 1, 0, 0, 0), (17, none, .iaload, 1, 0, 0, 0), (18, none, .goto 4, 3, 22, 0, 0)] := fq_of2 cd_434 ow_434 cl_434 rfl (pc := 0) (by decide +kernel)
    j_ildn (pc := 0) D rfl rfl rfl fun D =>
    j_i2l (pc := 1) D rfl fun D =>
    j_c0 (pc := 2) (v := (1, 0)) D rfl rfl (by decide +kernel) fun D =>
    j_ldc2 (pc := 3) D rfl fun D =>
    j_is (pc := 6) (m := 3) (a := [(1, wI x1), (1, 0), (1, 5)]) (rest := []) D rfl rfl rfl rfl (fun v2 h1 e1 D =>
      have T := fj_run_ok _ _ _ _ _ _ H.1 e1
      have H := shp_st H T
      j_ifeq (pc := 9) D rfl (fun q =>
        have D : fk_D 434 [(21, none, .iconst (-1), 1, 0, (-1), 0), (22, none, .ireturn, 1, 0, 0, 0)] := fq_of2 cd_434 ow_434 cl_434 rfl (pc := 21) (by decide +kernel)
        j_ic (pc := 21) D rfl fun D =>
        j_iret D rt_434) (fun q D =>
        j_aldn (pc := 12) D rfl rfl rfl fun D =>
        j_gfc (pc := 13) (a := 303) D rfl rfl (by decide) rfl (s0_303 H) rfl (sf_251_303 H) fun D =>
        j_ildn (pc := 16) D rfl rfl rfl fun D =>
        j_al (pc := 17) (a := 364) (e := 10) D rfl rfl rfl (by decide) (s0_364 H) (s1_364 H) ⟨rfl, rfl, rfl⟩ rfl gn fun qb4 D =>
        j_goto (pc := 18) D rfl <|
        have D : fk_D 434 [(22, none, .ireturn, 1, 0, 0, 0)] := fq_of2 cd_434 ow_434 cl_434 rfl (pc := 22) (by decide +kernel)
        j_iret D rt_434)) (fun q3 h1 e1 =>
      j_tx (hx_434 _))
/-! 435 StatuteHouse.why(II)J -/
theorem cd_435 : fi_code 435 = prog_1_method_83_code := rfl
theorem hx_435 : ∀ pc, fi_hat 435 pc = none := fun pc => by unfold fi_hat; rw [show fi_hh 435 = [] from rfl]; rfl
theorem rt_435 : fi_ret 435 = some .long := rfl
theorem nl_435 : fi_nl 435 = 3 := rfl
theorem ow_435 : fi_ow 435 = 0 := rfl
theorem cl_435 : fj_cutT.getD 435 [] = [(80, [0, 1]), (88, [0, 1]), (96, [0, 1]), (104, [0, 1]), (112, [0, 1]), (120, [0, 1]), (128, [0, 1]), (136, [0, 1]), (144, [0, 1]), (151, [0, 1]), (158, [])] := rfl
theorem cut_435_80 : fj_cut 435 80 = some [0, 1] := by decide +kernel
noncomputable def c_435_80 (d : Nat) (x1 : Int) (h : fi_H) : fk_R := gG (fj_run d) 435 80 [(0, (4, 303)), (1, (0, x1))] [] h
theorem cut_435_88 : fj_cut 435 88 = some [0, 1] := by decide +kernel
noncomputable def c_435_88 (d : Nat) (x1 : Int) (h : fi_H) : fk_R := gG (fj_run d) 435 88 [(0, (4, 303)), (1, (0, x1))] [] h
theorem cut_435_96 : fj_cut 435 96 = some [0, 1] := by decide +kernel
noncomputable def c_435_96 (d : Nat) (x1 : Int) (h : fi_H) : fk_R := gG (fj_run d) 435 96 [(0, (4, 303)), (1, (0, x1))] [] h
theorem cut_435_104 : fj_cut 435 104 = some [0, 1] := by decide +kernel
noncomputable def c_435_104 (d : Nat) (x1 : Int) (h : fi_H) : fk_R := gG (fj_run d) 435 104 [(0, (4, 303)), (1, (0, x1))] [] h
theorem cut_435_112 : fj_cut 435 112 = some [0, 1] := by decide +kernel
noncomputable def c_435_112 (d : Nat) (x1 : Int) (h : fi_H) : fk_R := gG (fj_run d) 435 112 [(0, (4, 303)), (1, (0, x1))] [] h
theorem cut_435_120 : fj_cut 435 120 = some [0, 1] := by decide +kernel
noncomputable def c_435_120 (d : Nat) (x1 : Int) (h : fi_H) : fk_R := gG (fj_run d) 435 120 [(0, (4, 303)), (1, (0, x1))] [] h
theorem cut_435_128 : fj_cut 435 128 = some [0, 1] := by decide +kernel
noncomputable def c_435_128 (d : Nat) (x1 : Int) (h : fi_H) : fk_R := gG (fj_run d) 435 128 [(0, (4, 303)), (1, (0, x1))] [] h
theorem cut_435_136 : fj_cut 435 136 = some [0, 1] := by decide +kernel
noncomputable def c_435_136 (d : Nat) (x1 : Int) (h : fi_H) : fk_R := gG (fj_run d) 435 136 [(0, (4, 303)), (1, (0, x1))] [] h
theorem cut_435_144 : fj_cut 435 144 = some [0, 1] := by decide +kernel
noncomputable def c_435_144 (d : Nat) (x1 : Int) (h : fi_H) : fk_R := gG (fj_run d) 435 144 [(0, (4, 303)), (1, (0, x1))] [] h
theorem cut_435_151 : fj_cut 435 151 = some [0, 1] := by decide +kernel
noncomputable def c_435_151 (d : Nat) (x1 : Int) (h : fi_H) : fk_R := gG (fj_run d) 435 151 [(0, (4, 303)), (1, (0, x1))] [] h
theorem cut_435_158 : fj_cut 435 158 = some [] := by decide +kernel
noncomputable def c_435_158 (d : Nat) (h : fi_H) : fk_R := gG (fj_run d) 435 158 [] [] h
theorem e_435_80 (d : Nat) (x1 : Int) {h : fi_H} (H : Shp h) : c_435_80 d x1 h =
  if 0 ≤ x1 ∧ x1 < 300 then
  some (.inl (some (1, wI (h 8 365 x1.toNat))), h)
  else none := by
  unfold c_435_80
  exact
    have D : fk_D 435 [(80, some [0, 1], .aload_n 0, 1, 0, 0, 0), (81, none, .getfield 421, 3, 252, 100, 12), (84, none, .iload_n 1, 1, 0, 0, 0), (85, none, .baload, 1, 0, 0, 0), (86, none, .i2l, 1, 0, 0, 0), (87, none, .lreturn, 1, 0, 0, 0)] := fq_of2 cd_435 ow_435 cl_435 rfl (pc := 80) (by decide +kernel)
    j_aldn (pc := 80) D rfl rfl rfl fun D =>
    j_gfc (pc := 81) (a := 303) D rfl rfl (by decide) rfl (s0_303 H) rfl (sf_252_303 H) fun D =>
    j_ildn (pc := 84) D rfl rfl rfl fun D =>
    j_al (pc := 85) (a := 365) (e := 8) D rfl rfl rfl (by decide) (s0_365 H) (s1_365 H) ⟨rfl, rfl, rfl⟩ rfl gn fun qb1 D =>
    j_i2l (pc := 86) D rfl fun D =>
    j_lret D rt_435
theorem e_435_88 (d : Nat) (x1 : Int) {h : fi_H} (H : Shp h) : c_435_88 d x1 h =
  if 0 ≤ x1 ∧ x1 < 300 then
  some (.inl (some (1, wI (h 8 366 x1.toNat))), h)
  else none := by
  unfold c_435_88
  exact
    have D : fk_D 435 [(88, some [0, 1], .aload_n 0, 1, 0, 0, 0), (89, none, .getfield 424, 3, 253, 100, 12), (92, none, .iload_n 1, 1, 0, 0, 0), (93, none, .baload, 1, 0, 0, 0), (94, none, .i2l, 1, 0, 0, 0), (95, none, .lreturn, 1, 0, 0, 0)] := fq_of2 cd_435 ow_435 cl_435 rfl (pc := 88) (by decide +kernel)
    j_aldn (pc := 88) D rfl rfl rfl fun D =>
    j_gfc (pc := 89) (a := 303) D rfl rfl (by decide) rfl (s0_303 H) rfl (sf_253_303 H) fun D =>
    j_ildn (pc := 92) D rfl rfl rfl fun D =>
    j_al (pc := 93) (a := 366) (e := 8) D rfl rfl rfl (by decide) (s0_366 H) (s1_366 H) ⟨rfl, rfl, rfl⟩ rfl gn fun qb1 D =>
    j_i2l (pc := 94) D rfl fun D =>
    j_lret D rt_435
theorem e_435_96 (d : Nat) (x1 : Int) {h : fi_H} (H : Shp h) : c_435_96 d x1 h =
  if 0 ≤ x1 ∧ x1 < 300 then
  some (.inl (some (1, wI (h 8 367 x1.toNat))), h)
  else none := by
  unfold c_435_96
  exact
    have D : fk_D 435 [(96, some [0, 1], .aload_n 0, 1, 0, 0, 0), (97, none, .getfield 427, 3, 254, 100, 12), (100, none, .iload_n 1, 1, 0, 0, 0), (101, none, .baload, 1, 0, 0, 0), (102, none, .i2l, 1, 0, 0, 0), (103, none, .lreturn, 1, 0, 0, 0)] := fq_of2 cd_435 ow_435 cl_435 rfl (pc := 96) (by decide +kernel)
    j_aldn (pc := 96) D rfl rfl rfl fun D =>
    j_gfc (pc := 97) (a := 303) D rfl rfl (by decide) rfl (s0_303 H) rfl (sf_254_303 H) fun D =>
    j_ildn (pc := 100) D rfl rfl rfl fun D =>
    j_al (pc := 101) (a := 367) (e := 8) D rfl rfl rfl (by decide) (s0_367 H) (s1_367 H) ⟨rfl, rfl, rfl⟩ rfl gn fun qb1 D =>
    j_i2l (pc := 102) D rfl fun D =>
    j_lret D rt_435
theorem e_435_104 (d : Nat) (x1 : Int) {h : fi_H} (H : Shp h) : c_435_104 d x1 h =
  if 0 ≤ x1 ∧ x1 < 300 then
  some (.inl (some (1, wI (h 8 368 x1.toNat))), h)
  else none := by
  unfold c_435_104
  exact
    have D : fk_D 435 [(104, some [0, 1], .aload_n 0, 1, 0, 0, 0), (105, none, .getfield 430, 3, 255, 100, 12), (108, none, .iload_n 1, 1, 0, 0, 0), (109, none, .baload, 1, 0, 0, 0), (110, none, .i2l, 1, 0, 0, 0), (111, none, .lreturn, 1, 0, 0, 0)] := fq_of2 cd_435 ow_435 cl_435 rfl (pc := 104) (by decide +kernel)
    j_aldn (pc := 104) D rfl rfl rfl fun D =>
    j_gfc (pc := 105) (a := 303) D rfl rfl (by decide) rfl (s0_303 H) rfl (sf_255_303 H) fun D =>
    j_ildn (pc := 108) D rfl rfl rfl fun D =>
    j_al (pc := 109) (a := 368) (e := 8) D rfl rfl rfl (by decide) (s0_368 H) (s1_368 H) ⟨rfl, rfl, rfl⟩ rfl gn fun qb1 D =>
    j_i2l (pc := 110) D rfl fun D =>
    j_lret D rt_435
theorem e_435_112 (d : Nat) (x1 : Int) {h : fi_H} (H : Shp h) : c_435_112 d x1 h =
  if 0 ≤ x1 ∧ x1 < 300 then
  some (.inl (some (1, wI (h 5 371 x1.toNat))), h)
  else none := by
  unfold c_435_112
  exact
    have D : fk_D 435 [(112, some [0, 1], .aload_n 0, 1, 0, 0, 0), (113, none, .getfield 433, 3, 258, 100, 12), (116, none, .iload_n 1, 1, 0, 0, 0), (117, none, .caload, 1, 0, 0, 0), (118, none, .i2l, 1, 0, 0, 0), (119, none, .lreturn, 1, 0, 0, 0)] := fq_of2 cd_435 ow_435 cl_435 rfl (pc := 112) (by decide +kernel)
    j_aldn (pc := 112) D rfl rfl rfl fun D =>
    j_gfc (pc := 113) (a := 303) D rfl rfl (by decide) rfl (s0_303 H) rfl (sf_258_303 H) fun D =>
    j_ildn (pc := 116) D rfl rfl rfl fun D =>
    j_al (pc := 117) (a := 371) (e := 5) D rfl rfl rfl (by decide) (s0_371 H) (s1_371 H) ⟨rfl, rfl, rfl⟩ rfl gn fun qb1 D =>
    j_i2l (pc := 118) D rfl fun D =>
    j_lret D rt_435
theorem e_435_120 (d : Nat) (x1 : Int) {h : fi_H} (H : Shp h) : c_435_120 d x1 h =
  if 0 ≤ x1 ∧ x1 < 300 then
  some (.inl (some (1, wI (h 10 372 x1.toNat))), h)
  else none := by
  unfold c_435_120
  exact
    have D : fk_D 435 [(120, some [0, 1], .aload_n 0, 1, 0, 0, 0), (121, none, .getfield 381, 3, 259, 100, 12), (124, none, .iload_n 1, 1, 0, 0, 0), (125, none, .iaload, 1, 0, 0, 0), (126, none, .i2l, 1, 0, 0, 0), (127, none, .lreturn, 1, 0, 0, 0)] := fq_of2 cd_435 ow_435 cl_435 rfl (pc := 120) (by decide +kernel)
    j_aldn (pc := 120) D rfl rfl rfl fun D =>
    j_gfc (pc := 121) (a := 303) D rfl rfl (by decide) rfl (s0_303 H) rfl (sf_259_303 H) fun D =>
    j_ildn (pc := 124) D rfl rfl rfl fun D =>
    j_al (pc := 125) (a := 372) (e := 10) D rfl rfl rfl (by decide) (s0_372 H) (s1_372 H) ⟨rfl, rfl, rfl⟩ rfl gn fun qb1 D =>
    j_i2l (pc := 126) D rfl fun D =>
    j_lret D rt_435
theorem e_435_128 (d : Nat) (x1 : Int) {h : fi_H} (H : Shp h) : c_435_128 d x1 h =
  if 0 ≤ x1 ∧ x1 < 300 then
  some (.inl (some (1, wI (h 8 369 x1.toNat))), h)
  else none := by
  unfold c_435_128
  exact
    have D : fk_D 435 [(128, some [0, 1], .aload_n 0, 1, 0, 0, 0), (129, none, .getfield 384, 3, 256, 100, 12), (132, none, .iload_n 1, 1, 0, 0, 0), (133, none, .baload, 1, 0, 0, 0), (134, none, .i2l, 1, 0, 0, 0), (135, none, .lreturn, 1, 0, 0, 0)] := fq_of2 cd_435 ow_435 cl_435 rfl (pc := 128) (by decide +kernel)
    j_aldn (pc := 128) D rfl rfl rfl fun D =>
    j_gfc (pc := 129) (a := 303) D rfl rfl (by decide) rfl (s0_303 H) rfl (sf_256_303 H) fun D =>
    j_ildn (pc := 132) D rfl rfl rfl fun D =>
    j_al (pc := 133) (a := 369) (e := 8) D rfl rfl rfl (by decide) (s0_369 H) (s1_369 H) ⟨rfl, rfl, rfl⟩ rfl gn fun qb1 D =>
    j_i2l (pc := 134) D rfl fun D =>
    j_lret D rt_435
theorem e_435_136 (d : Nat) (x1 : Int) {h : fi_H} (H : Shp h) : c_435_136 d x1 h =
  if 0 ≤ x1 ∧ x1 < 300 then
  some (.inl (some (1, wI (h 8 370 x1.toNat))), h)
  else none := by
  unfold c_435_136
  exact
    have D : fk_D 435 [(136, some [0, 1], .aload_n 0, 1, 0, 0, 0), (137, none, .getfield 436, 3, 257, 100, 12), (140, none, .iload_n 1, 1, 0, 0, 0), (141, none, .baload, 1, 0, 0, 0), (142, none, .i2l, 1, 0, 0, 0), (143, none, .lreturn, 1, 0, 0, 0)] := fq_of2 cd_435 ow_435 cl_435 rfl (pc := 136) (by decide +kernel)
    j_aldn (pc := 136) D rfl rfl rfl fun D =>
    j_gfc (pc := 137) (a := 303) D rfl rfl (by decide) rfl (s0_303 H) rfl (sf_257_303 H) fun D =>
    j_ildn (pc := 140) D rfl rfl rfl fun D =>
    j_al (pc := 141) (a := 370) (e := 8) D rfl rfl rfl (by decide) (s0_370 H) (s1_370 H) ⟨rfl, rfl, rfl⟩ rfl gn fun qb1 D =>
    j_i2l (pc := 142) D rfl fun D =>
    j_lret D rt_435
theorem e_435_144 (d : Nat) (x1 : Int) {h : fi_H} (H : Shp h) : c_435_144 d x1 h =
  if 0 ≤ x1 ∧ x1 < 300 then
  some (.inl (some (1, h 11 373 x1.toNat)), h)
  else none := by
  unfold c_435_144
  exact
    have D : fk_D 435 [(144, some [0, 1], .aload_n 0, 1, 0, 0, 0), (145, none, .getfield 442, 3, 260, 100, 12), (148, none, .iload_n 1, 1, 0, 0, 0), (149, none, .laload, 1, 0, 0, 0), (150, none, .lreturn, 1, 0, 0, 0)] := fq_of2 cd_435 ow_435 cl_435 rfl (pc := 144) (by decide +kernel)
    j_aldn (pc := 144) D rfl rfl rfl fun D =>
    j_gfc (pc := 145) (a := 303) D rfl rfl (by decide) rfl (s0_303 H) rfl (sf_260_303 H) fun D =>
    j_ildn (pc := 148) D rfl rfl rfl fun D =>
    j_al (pc := 149) (a := 373) (e := 11) D rfl rfl rfl (by decide) (s0_373 H) (s1_373 H) ⟨rfl, rfl, rfl⟩ rfl gn fun qb1 D =>
    j_lret D rt_435
theorem e_435_151 (d : Nat) (x1 : Int) {h : fi_H} (H : Shp h) : c_435_151 d x1 h =
  if 0 ≤ x1 ∧ x1 < 300 then
  some (.inl (some (1, h 11 374 x1.toNat)), h)
  else none := by
  unfold c_435_151
  exact
    have D : fk_D 435 [(151, some [0, 1], .aload_n 0, 1, 0, 0, 0), (152, none, .getfield 445, 3, 261, 100, 12), (155, none, .iload_n 1, 1, 0, 0, 0), (156, none, .laload, 1, 0, 0, 0), (157, none, .lreturn, 1, 0, 0, 0)] := fq_of2 cd_435 ow_435 cl_435 rfl (pc := 151) (by decide +kernel)
    j_aldn (pc := 151) D rfl rfl rfl fun D =>
    j_gfc (pc := 152) (a := 303) D rfl rfl (by decide) rfl (s0_303 H) rfl (sf_261_303 H) fun D =>
    j_ildn (pc := 155) D rfl rfl rfl fun D =>
    j_al (pc := 156) (a := 374) (e := 11) D rfl rfl rfl (by decide) (s0_374 H) (s1_374 H) ⟨rfl, rfl, rfl⟩ rfl gn fun qb1 D =>
    j_lret D rt_435
theorem e_435_158 (d : Nat) {h : fi_H} (H : Shp h) : c_435_158 d h =
  some (.inl (some (1, (-1))), h) := by
  unfold c_435_158
  exact
    have D : fk_D 435 [(158, some [], .ldc2_w 965, 3, 1, (-1), 0), (161, none, .lreturn, 1, 0, 0, 0)] := fq_of2 cd_435 ow_435 cl_435 rfl (pc := 158) (by decide +kernel)
    j_ldc2 (pc := 158) D rfl fun D =>
    j_lret D rt_435
theorem m_435 (d : Nat) (x1 x2 : Int) {h : fi_H} (H : Shp h) : fj_run (d + 1) 435 h [(4, 303), (0, x1), (0, x2)] =
  if x1 < 0 then
    some (.inl (some (1, (-1))), h)
  else
    if x1 < h 263 303 0 then
      if x1 < 300 then
        if x2 = 0 then
          c_435_80 d x1 h
        else if x2 = 1 then
          c_435_88 d x1 h
        else if x2 = 2 then
          c_435_96 d x1 h
        else if x2 = 3 then
          c_435_104 d x1 h
        else if x2 = 4 then
          c_435_112 d x1 h
        else if x2 = 5 then
          c_435_120 d x1 h
        else if x2 = 6 then
          c_435_128 d x1 h
        else if x2 = 7 then
          c_435_136 d x1 h
        else if x2 = 8 then
          c_435_144 d x1 h
        else if x2 = 9 then
          c_435_151 d x1 h
        else 
          c_435_158 d h
      else
        some (.inl (some (1, (-1))), h)
    else
      some (.inl (some (1, (-1))), h) := by
  rw [fj_run_eq d (by decide) h [(4, 303), (0, x1), (0, x2)] (Nat.le_of_ble_eq_true (by rw [nl_435]; rfl))]
  show gG (fj_run d) 435 0 [(0, (4, 303)), (1, (0, x1)), (2, (0, x2))] [] h = _
  exact
    have D : fk_D 435 [(0, none, .iload_n 1, 1, 0, 0, 0), (1, none, .ifCond .lt 18, 3, 19, 0, 0), (4, none, .iload_n 1, 1, 0, 0, 0), (5, none, .aload_n 0, 1, 0, 0, 0), (6, none, .getfield 418, 3, 263, 100, 10), (9, none, .if_icmp .ge 10, 3, 19, 0, 0), (12, none, .iload_n 1, 1, 0, 0, 0), (13, none, .sipush 300, 3, 0, 300, 0), (16, none, .if_icmp .lt 7, 3, 23, 0, 0), (19, none, .ldc2_w 965, 3, 1, (-1), 0), (22, none, .lreturn, 1, 0, 0, 0)] := fq_of2 cd_435 ow_435 cl_435 rfl (pc := 0) (by decide +kernel)
    j_ildn (pc := 0) D rfl rfl rfl fun D =>
    j_iflt (pc := 1) D rfl (fun q =>
      have D : fk_D 435 [(19, none, .ldc2_w 965, 3, 1, (-1), 0), (22, none, .lreturn, 1, 0, 0, 0)] := fq_of2 cd_435 ow_435 cl_435 rfl (pc := 19) (by decide +kernel)
      j_ldc2 (pc := 19) D rfl fun D =>
      j_lret D rt_435) (fun q D =>
      j_ildn (pc := 4) D rfl rfl rfl fun D =>
      j_aldn (pc := 5) D rfl rfl rfl fun D =>
      j_gf (pc := 6) (a := 303) D rfl rfl (by decide) rfl (s0_303 H) rfl fun D =>
      j_ige (pc := 9) D rfl (fun q D =>
        j_ildn (pc := 12) D rfl rfl rfl fun D =>
        j_sp (pc := 13) D rfl fun D =>
        j_ilt (pc := 16) D rfl (fun q =>
          have D : fk_D 435 [(23, none, .iload_n 2, 1, 0, 0, 0), (24, none, .tableswitch 134 0 9 #[56, 64, 72, 80, 88, 96, 104, 112, 120, 127], 56, 0, 0, 0)] := fq_of3 cd_435 ow_435 cl_435 rfl (pc := 23) (by decide +kernel)
          j_ildn (pc := 23) D rfl rfl rfl fun D =>
          have N : fk_ni (x2) [] := trivial
          j_tc (pc := 24) 0 (t := 80) D N rfl (by decide +kernel) (fun q =>
            fk_jump cut_435_80 rfl rfl) (fun N =>
            j_tc 1 (t := 88) D N rfl (by decide +kernel) (fun q =>
              fk_jump cut_435_88 rfl rfl) (fun N =>
              j_tc 2 (t := 96) D N rfl (by decide +kernel) (fun q =>
                fk_jump cut_435_96 rfl rfl) (fun N =>
                j_tc 3 (t := 104) D N rfl (by decide +kernel) (fun q =>
                  fk_jump cut_435_104 rfl rfl) (fun N =>
                  j_tc 4 (t := 112) D N rfl (by decide +kernel) (fun q =>
                    fk_jump cut_435_112 rfl rfl) (fun N =>
                    j_tc 5 (t := 120) D N rfl (by decide +kernel) (fun q =>
                      fk_jump cut_435_120 rfl rfl) (fun N =>
                      j_tc 6 (t := 128) D N rfl (by decide +kernel) (fun q =>
                        fk_jump cut_435_128 rfl rfl) (fun N =>
                        j_tc 7 (t := 136) D N rfl (by decide +kernel) (fun q =>
                          fk_jump cut_435_136 rfl rfl) (fun N =>
                          j_tc 8 (t := 144) D N rfl (by decide +kernel) (fun q =>
                            fk_jump cut_435_144 rfl rfl) (fun N =>
                            j_tc 9 (t := 151) D N rfl (by decide +kernel) (fun q =>
                              fk_jump cut_435_151 rfl rfl) (fun N =>
                              j_td (t := 158) D N rfl (by decide +kernel) (by decide +kernel) <|
                              fk_jump cut_435_158 rfl rfl))))))))))) (fun q D =>
          j_ldc2 (pc := 19) D rfl fun D =>
          j_lret D rt_435)) (fun q =>
        have D : fk_D 435 [(19, none, .ldc2_w 965, 3, 1, (-1), 0), (22, none, .lreturn, 1, 0, 0, 0)] := fq_of2 cd_435 ow_435 cl_435 rfl (pc := 19) (by decide +kernel)
        j_ldc2 (pc := 19) D rfl fun D =>
        j_lret D rt_435))
/-! 436 StatuteHouse.tell()I -/
theorem cd_436 : fi_code 436 = prog_1_method_86_code := rfl
theorem hx_436 : ∀ pc, fi_hat 436 pc = none := fun pc => by unfold fi_hat; rw [show fi_hh 436 = [] from rfl]; rfl
theorem rt_436 : fi_ret 436 = some .int := rfl
theorem nl_436 : fi_nl 436 = 2 := rfl
theorem ow_436 : fi_ow 436 = 0 := rfl
theorem cl_436 : fj_cutT.getD 436 [] = [(9, [0, 1]), (35, [0])] := rfl
theorem cut_436_9 : fj_cut 436 9 = some [0, 1] := by decide +kernel
noncomputable def c_436_9 (d : Nat) (x1 : Int) (h : fi_H) : fk_R := gG (fj_run d) 436 9 [(0, (4, 303)), (1, (0, x1))] [] h
theorem cut_436_35 : fj_cut 436 35 = some [0] := by decide +kernel
noncomputable def c_436_35 (d : Nat) (h : fi_H) : fk_R := gG (fj_run d) 436 35 [(0, (4, 303))] [] h
theorem e_436_9 (d : Nat) (x1 : Int) {h : fi_H} (H : Shp h) : c_436_9 d x1 h =
  if x1 < h 263 303 0 then
    if x1 < 300 then
      cv_ (fj_run d 437 h [(4, 303), (0, x1)])
        (fun h1 =>
        c_436_9 d (wI (x1 + 1)) h1)
        (fun q3 h1 => tx_ q3 h1)
    else
      c_436_35 d h
  else
    c_436_35 d h := by
  unfold c_436_9
  exact
    have D : fk_D 436 [(9, some [0, 1], .iload_n 1, 1, 0, 0, 0), (10, none, .aload_n 0, 1, 0, 0, 0), (11, none, .getfield 418, 3, 263, 100, 10), (14, none, .if_icmp .ge 21, 3, 35, 0, 0), (17, none, .iload_n 1, 1, 0, 0, 0), (18, none, .sipush 300, 3, 0, 300, 0), (21, none, .if_icmp .ge 14, 3, 35, 0, 0), (24, none, .aload_n 0, 1, 0, 0, 0), (25, none, .iload_n 1, 1, 0, 0, 0), (26, none, .invokevirtual 996, 3, 1, 184, 0), (29, none, .iinc 1 1, 3, 0, 1, 0), (32, none, .goto (-23), 3, 9, 0, 0)] := fq_of2 cd_436 ow_436 cl_436 rfl (pc := 9) (by decide +kernel)
    j_ildn (pc := 9) D rfl rfl rfl fun D =>
    j_aldn (pc := 10) D rfl rfl rfl fun D =>
    j_gf (pc := 11) (a := 303) D rfl rfl (by decide) rfl (s0_303 H) rfl fun D =>
    j_ige (pc := 14) D rfl (fun q D =>
      j_ildn (pc := 17) D rfl rfl rfl fun D =>
      j_sp (pc := 18) D rfl fun D =>
      j_ige (pc := 21) D rfl (fun q D =>
        j_aldn (pc := 24) D rfl rfl rfl fun D =>
        j_ildn (pc := 25) D rfl rfl rfl fun D =>
        j_ivv (pc := 26) (m := 437) (dd := 184) (a := [(0, x1)]) (rest := []) D rfl rfl rfl rfl rfl (by decide) (s0_303 H) (by decide +kernel) (fun h1 e1 D =>
          have T := fj_run_ok _ _ _ _ _ _ H.1 e1
          have H := shp_st H T
          j_inc (pc := 29) (L' := [(1, (0, wI (x1 + 1))), (0, (4, 303))]) D rfl rfl rfl (by decide +kernel) rfl fun D =>
          j_goto (pc := 32) D rfl <|
          fk_jump cut_436_9 rfl rfl) (fun q3 h1 e1 =>
          j_tx (hx_436 _))) (fun q =>
        fk_jump cut_436_35 rfl rfl)) (fun q =>
      fk_jump cut_436_35 rfl rfl)
theorem e_436_35 (d : Nat) {h : fi_H} (H : Shp h) : c_436_35 d h =
  ca_ (fj_run d 50 h [(4, 303)]) 0
    (fun v2 h1 =>
    some (.inl (some (0, v2)), h1))
    (fun q3 h1 => tx_ q3 h1) := by
  unfold c_436_35
  exact
    have D : fk_D 436 [(35, some [0], .aload_n 0, 1, 0, 0, 0), (36, none, .invokevirtual 566, 3, 0, 151, 1), (39, none, .ireturn, 1, 0, 0, 0)] := fq_of2 cd_436 ow_436 cl_436 rfl (pc := 35) (by decide +kernel)
    j_aldn (pc := 35) D rfl rfl rfl fun D =>
    j_iv (pc := 36) (m := 50) (dd := 151) (a := []) (rest := []) D rfl rfl rfl rfl rfl (by decide) (s0_303 H) (by decide +kernel) (fun v2 h1 e1 D =>
      have T := fj_run_ok _ _ _ _ _ _ H.1 e1
      have H := shp_st H T
      j_iret D rt_436) (fun q3 h1 e1 =>
      j_tx (hx_436 _))
theorem m_436 (d : Nat) {h : fi_H} (H : Shp h) : fj_run (d + 1) 436 h [(4, 303)] =
  dv_ (fi_vt 146 (h 0 (h 270 303 0).toNat 0)) fun m4 => cv_ (fj_run d m4 h [(4, h 270 303 0)])
    (fun h1 =>
    c_436_9 d 0 h1)
    (fun q3 h1 => tx_ q3 h1) := by
  rw [fj_run_eq d (by decide) h [(4, 303)] (Nat.le_of_ble_eq_true (by rw [nl_436]; rfl))]
  show gG (fj_run d) 436 0 [(0, (4, 303))] [] h = _
  exact
    have D : fk_D 436 [(0, none, .aload_n 0, 1, 0, 0, 0), (1, none, .getfield 457, 3, 270, 100, 12), (4, none, .invokevirtual 533, 3, 0, 146, 0), (7, none, .iconst 0, 1, 0, 0, 0), (8, none, .istore_n 1, 1, 0, 0, 0)] := fq_of2 cd_436 ow_436 cl_436 rfl (pc := 0) (by decide +kernel)
    j_aldn (pc := 0) D rfl rfl rfl fun D =>
    j_gf (pc := 1) (a := 303) D rfl rfl (by decide) rfl (s0_303 H) rfl fun D =>
    j_ivuv (pc := 4) (dd := 146) (a := []) (rest := []) H.2.1 D rfl rfl rfl rfl rfl (fun m4 h1 e1 D =>
      have T := fj_run_ok _ _ _ _ _ _ H.1 e1
      have H := shp_st H T
      j_ic (pc := 7) D rfl fun D =>
      j_istn (pc := 8) (L' := [(1, (0, 0)), (0, (4, 303))]) D rfl nl_436 rfl rfl fun D =>
      fk_jump cut_436_9 rfl rfl) (fun m4 q3 h1 e1 =>
      j_tx (hx_436 _))
/-! 437 StatuteHouse.writeLine(I)V -/
theorem cd_437 : fi_code 437 = prog_1_method_85_code := rfl
theorem hx_437 : ∀ pc, fi_hat 437 pc = none := fun pc => by unfold fi_hat; rw [show fi_hh 437 = [] from rfl]; rfl
theorem rt_437 : fi_ret 437 = none := rfl
theorem nl_437 : fi_nl 437 = 4 := rfl
theorem ow_437 : fi_ow 437 = 0 := rfl
theorem cl_437 : fj_cutT.getD 437 [] = [(14, [0, 1, 2, 3]), (124, [0, 1, 2]), (168, [0, 1, 2]), (237, [0, 1, 2]), (246, [0])] := rfl
theorem cut_437_14 : fj_cut 437 14 = some [0, 1, 2, 3] := by decide +kernel
noncomputable def c_437_14 (d : Nat) (x1 x2 x3 : Int) (h : fi_H) : fk_R := gG (fj_run d) 437 14 [(0, (4, 303)), (1, (0, x1)), (2, (4, x2)), (3, (0, x3))] [] h
theorem cut_437_124 : fj_cut 437 124 = some [0, 1, 2] := by decide +kernel
noncomputable def c_437_124 (d : Nat) (x1 x2 s0 s1 : Int) (h : fi_H) : fk_R := gG (fj_run d) 437 124 [(0, (4, 303)), (1, (0, x1)), (2, (4, x2))] [(4, s1), (4, s0)] h
theorem cut_437_168 : fj_cut 437 168 = some [0, 1, 2] := by decide +kernel
noncomputable def c_437_168 (d : Nat) (x1 x2 : Int) (h : fi_H) : fk_R := gG (fj_run d) 437 168 [(0, (4, 303)), (1, (0, x1)), (2, (4, x2))] [] h
theorem cut_437_237 : fj_cut 437 237 = some [0, 1, 2] := by decide +kernel
noncomputable def c_437_237 (d : Nat) (x1 x2 : Int) (h : fi_H) : fk_R := gG (fj_run d) 437 237 [(0, (4, 303)), (1, (0, x1)), (2, (4, x2))] [] h
theorem cut_437_246 : fj_cut 437 246 = some [0] := by decide +kernel
noncomputable def c_437_246 (d : Nat) (h : fi_H) : fk_R := gG (fj_run d) 437 246 [(0, (4, 303))] [] h
theorem e_437_14 (d : Nat) (x1 x2 x3 : Int) {h : fi_H} (H : Shp h) : c_437_14 d x1 x2 x3 h =
  if 0 ≤ x1 ∧ x1 < 300 then
  if x3 < h 8 366 x1.toNat then
    dv_ (fi_vt 139 (h 0 (h 270 303 0).toNat 0)) fun m5 => cv_ (fj_run d m5 h [(4, h 270 303 0), (0, 32)])
      (fun h2 =>
      c_437_14 d x1 x2 (wI (x3 + 1)) h2)
      (fun q4 h2 => tx_ q4 h2)
  else
    if h 8 365 x1.toNat = 2 then
      dv_ (fi_vt 144 (h 0 (h 270 303 0).toNat 0)) fun m9 => cv_ (fj_run d m9 h [(4, h 270 303 0), (0, h 10 372 x1.toNat)])
        (fun h6 =>
        dv_ (fi_vt 139 (h6 0 (h6 270 303 0).toNat 0)) fun m13 => cv_ (fj_run d m13 h6 [(4, h6 270 303 0), (0, 47)])
          (fun h10 =>
          dv_ (fi_vt 141 (h10 0 (h10 270 303 0).toNat 0)) fun m17 => cv_ (fj_run d m17 h10 [(4, h10 270 303 0), (1, wI (h10 8 369 x1.toNat)), (0, 1)])
            (fun h14 =>
            if h14 8 370 x1.toNat = 0 then
              c_437_124 d x1 x2 (h14 270 303 0) 265 h14
            else
              if h14 8 370 x1.toNat = 1 then
                c_437_124 d x1 x2 (h14 270 303 0) 71 h14
              else
                c_437_124 d x1 x2 (h14 270 303 0) 267 h14)
            (fun q16 h14 => tx_ q16 h14))
          (fun q12 h10 => tx_ q12 h10))
        (fun q8 h6 => tx_ q8 h6)
    else
      if h 8 365 x1.toNat = 3 then
        dv_ (fi_vt 138 (h 0 (h 270 303 0).toNat 0)) fun m21 => cv_ (fj_run d m21 h [(4, h 270 303 0), (4, 275)])
          (fun h18 =>
          c_437_168 d x1 x2 h18)
          (fun q20 h18 => tx_ q20 h18)
      else
        c_437_168 d x1 x2 h
  else none := by
  unfold c_437_14
  exact
    have D : fk_D 437 [(14, some [0, 1, 2, 3], .iload_n 3, 1, 0, 0, 0), (15, none, .aload_n 0, 1, 0, 0, 0), (16, none, .getfield 424, 3, 253, 100, 12), (19, none, .iload_n 1, 1, 0, 0, 0), (20, none, .baload, 1, 0, 0, 0), (21, none, .if_icmp .ge 18, 3, 39, 0, 0), (24, none, .aload_n 0, 1, 0, 0, 0), (25, none, .getfield 457, 3, 270, 100, 12), (28, none, .bipush 32, 2, 0, 32, 0), (30, none, .invokevirtual 477, 3, 1, 139, 0), (33, none, .iinc 3 1, 3, 0, 1, 0), (36, none, .goto (-22), 3, 14, 0, 0)] := fq_of2 cd_437 ow_437 cl_437 rfl (pc := 14) (by decide +kernel)
    j_ildn (pc := 14) D rfl rfl rfl fun D =>
    j_aldn (pc := 15) D rfl rfl rfl fun D =>
    j_gfc (pc := 16) (a := 303) D rfl rfl (by decide) rfl (s0_303 H) rfl (sf_253_303 H) fun D =>
    j_ildn (pc := 19) D rfl rfl rfl fun D =>
    j_al (pc := 20) (a := 366) (e := 8) D rfl rfl rfl (by decide) (s0_366 H) (s1_366 H) ⟨rfl, rfl, rfl⟩ rfl gn fun qb1 D =>
    j_ige (pc := 21) D rfl (fun q D =>
      j_aldn (pc := 24) D rfl rfl rfl fun D =>
      j_gf (pc := 25) (a := 303) D rfl rfl (by decide) rfl (s0_303 H) rfl fun D =>
      j_bp (pc := 28) D rfl fun D =>
      j_ivuv (pc := 30) (dd := 139) (a := [(0, 32)]) (rest := []) H.2.1 D rfl rfl rfl rfl rfl (fun m5 h2 e1 D =>
        have T := fj_run_ok _ _ _ _ _ _ H.1 e1
        have H := shp_st H T
        j_inc (pc := 33) (L' := [(3, (0, wI (x3 + 1))), (0, (4, 303)), (1, (0, x1)), (2, (4, x2))]) D rfl rfl rfl (by decide +kernel) rfl fun D =>
        j_goto (pc := 36) D rfl <|
        fk_jump cut_437_14 rfl rfl) (fun m5 q4 h2 e1 =>
        j_tx (hx_437 _))) (fun q =>
      have D : fk_D 437 [(39, none, .aload_n 0, 1, 0, 0, 0), (40, none, .getfield 421, 3, 252, 100, 12), (43, none, .iload_n 1, 1, 0, 0, 0), (44, none, .baload, 1, 0, 0, 0), (45, none, .iconst 2, 1, 0, 2, 0), (46, none, .if_icmp .ne 102, 3, 148, 0, 0), (49, none, .aload_n 0, 1, 0, 0, 0), (50, none, .getfield 457, 3, 270, 100, 12), (53, none, .aload_n 0, 1, 0, 0, 0), (54, none, .getfield 381, 3, 259, 100, 12), (57, none, .iload_n 1, 1, 0, 0, 0), (58, none, .iaload, 1, 0, 0, 0), (59, none, .invokevirtual 511, 3, 1, 144, 0), (62, none, .aload_n 0, 1, 0, 0, 0), (63, none, .getfield 457, 3, 270, 100, 12), (66, none, .bipush 47, 2, 0, 47, 0), (68, none, .invokevirtual 477, 3, 1, 139, 0), (71, none, .aload_n 0, 1, 0, 0, 0), (72, none, .getfield 457, 3, 270, 100, 12), (75, none, .aload_n 0, 1, 0, 0, 0)] := fq_of2 cd_437 ow_437 cl_437 rfl (pc := 39) (by decide +kernel)
      j_aldn (pc := 39) D rfl rfl rfl fun D =>
      j_gfc (pc := 40) (a := 303) D rfl rfl (by decide) rfl (s0_303 H) rfl (sf_252_303 H) fun D =>
      j_ildn (pc := 43) D rfl rfl rfl fun D =>
      j_al (pc := 44) (a := 365) (e := 8) D rfl rfl rfl (by decide) (s0_365 H) (s1_365 H) ⟨rfl, rfl, rfl⟩ rfl (gy qb1) fun q D =>
      j_ic (pc := 45) D rfl fun D =>
      j_ine (pc := 46) D rfl (fun q D =>
        j_aldn (pc := 49) D rfl rfl rfl fun D =>
        j_gf (pc := 50) (a := 303) D rfl rfl (by decide) rfl (s0_303 H) rfl fun D =>
        j_aldn (pc := 53) D rfl rfl rfl fun D =>
        j_gfc (pc := 54) (a := 303) D rfl rfl (by decide) rfl (s0_303 H) rfl (sf_259_303 H) fun D =>
        j_ildn (pc := 57) D rfl rfl rfl fun D =>
        j_al (pc := 58) (a := 372) (e := 10) D rfl rfl rfl (by decide) (s0_372 H) (s1_372 H) ⟨rfl, rfl, rfl⟩ rfl (gy qb1) fun q D =>
        j_ivuv (pc := 59) (dd := 144) (a := [(0, h 10 372 x1.toNat)]) (rest := []) H.2.1 D rfl rfl rfl rfl rfl (fun m9 h6 e1 D =>
          have T := fj_run_ok _ _ _ _ _ _ H.1 e1
          have H := shp_st H T
          j_aldn (pc := 62) D rfl rfl rfl fun D =>
          j_gf (pc := 63) (a := 303) D rfl rfl (by decide) rfl (s0_303 H) rfl fun D =>
          j_bp (pc := 66) D rfl fun D =>
          j_ivuv (pc := 68) (dd := 139) (a := [(0, 47)]) (rest := []) H.2.1 D rfl rfl rfl rfl rfl (fun m13 h10 e1 D =>
            have T := fj_run_ok _ _ _ _ _ _ H.1 e1
            have H := shp_st H T
            j_aldn (pc := 71) D rfl rfl rfl fun D =>
            j_gf (pc := 72) (a := 303) D rfl rfl (by decide) rfl (s0_303 H) rfl fun D =>
            j_aldn (pc := 75) D rfl rfl rfl fun D =>
            have D : fk_D 437 [(76, none, .getfield 384, 3, 256, 100, 12), (79, none, .iload_n 1, 1, 0, 0, 0), (80, none, .baload, 1, 0, 0, 0), (81, none, .i2l, 1, 0, 0, 0), (82, none, .iconst 1, 1, 0, 1, 0), (83, none, .invokevirtual 491, 3, 2, 141, 0), (86, none, .aload_n 0, 1, 0, 0, 0), (87, none, .getfield 457, 3, 270, 100, 12), (90, none, .aload_n 0, 1, 0, 0, 0), (91, none, .getfield 436, 3, 257, 100, 12), (94, none, .iload_n 1, 1, 0, 0, 0), (95, none, .baload, 1, 0, 0, 0), (96, none, .ifCond .ne 9, 3, 105, 0, 0), (99, none, .ldc_w 982, 3, 4, 265, 0), (102, none, .goto 22, 3, 124, 0, 0)] := fq_of2 cd_437 ow_437 cl_437 rfl (pc := 76) (by decide +kernel)
            j_gfc (pc := 76) (a := 303) D rfl rfl (by decide) rfl (s0_303 H) rfl (sf_256_303 H) fun D =>
            j_ildn (pc := 79) D rfl rfl rfl fun D =>
            j_al (pc := 80) (a := 369) (e := 8) D rfl rfl rfl (by decide) (s0_369 H) (s1_369 H) ⟨rfl, rfl, rfl⟩ rfl (gy qb1) fun q D =>
            j_i2l (pc := 81) D rfl fun D =>
            j_ic (pc := 82) D rfl fun D =>
            j_ivuv (pc := 83) (dd := 141) (a := [(1, wI (h10 8 369 x1.toNat)), (0, 1)]) (rest := []) H.2.1 D rfl rfl rfl rfl rfl (fun m17 h14 e1 D =>
              have T := fj_run_ok _ _ _ _ _ _ H.1 e1
              have H := shp_st H T
              j_aldn (pc := 86) D rfl rfl rfl fun D =>
              j_gf (pc := 87) (a := 303) D rfl rfl (by decide) rfl (s0_303 H) rfl fun D =>
              j_aldn (pc := 90) D rfl rfl rfl fun D =>
              j_gfc (pc := 91) (a := 303) D rfl rfl (by decide) rfl (s0_303 H) rfl (sf_257_303 H) fun D =>
              j_ildn (pc := 94) D rfl rfl rfl fun D =>
              j_al (pc := 95) (a := 370) (e := 8) D rfl rfl rfl (by decide) (s0_370 H) (s1_370 H) ⟨rfl, rfl, rfl⟩ rfl (gy qb1) fun q D =>
              j_ifne (pc := 96) D rfl (fun q D =>
                j_ldcw (pc := 99) D rfl fun D =>
                j_goto (pc := 102) D rfl <|
                fk_jump cut_437_124 rfl rfl) (fun q =>
                have D : fk_D 437 [(105, none, .aload_n 0, 1, 0, 0, 0), (106, none, .getfield 436, 3, 257, 100, 12), (109, none, .iload_n 1, 1, 0, 0, 0), (110, none, .baload, 1, 0, 0, 0), (111, none, .iconst 1, 1, 0, 1, 0), (112, none, .if_icmp .ne 9, 3, 121, 0, 0), (115, none, .ldc_w 483, 3, 4, 71, 0), (118, none, .goto 6, 3, 124, 0, 0)] := fq_of2 cd_437 ow_437 cl_437 rfl (pc := 105) (by decide +kernel)
                j_aldn (pc := 105) D rfl rfl rfl fun D =>
                j_gfc (pc := 106) (a := 303) D rfl rfl (by decide) rfl (s0_303 H) rfl (sf_257_303 H) fun D =>
                j_ildn (pc := 109) D rfl rfl rfl fun D =>
                j_al (pc := 110) (a := 370) (e := 8) D rfl rfl rfl (by decide) (s0_370 H) (s1_370 H) ⟨rfl, rfl, rfl⟩ rfl (gy qb1) fun q D =>
                j_ic (pc := 111) D rfl fun D =>
                j_ine (pc := 112) D rfl (fun q D =>
                  j_ldcw (pc := 115) D rfl fun D =>
                  j_goto (pc := 118) D rfl <|
                  fk_jump cut_437_124 rfl rfl) (fun q =>
                  have D : fk_D 437 [(121, none, .ldc_w 984, 3, 4, 267, 0)] := fq_of2 cd_437 ow_437 cl_437 rfl (pc := 121) (by decide +kernel)
                  j_ldcw (pc := 121) D rfl fun D =>
                  fk_jump cut_437_124 rfl rfl))) (fun m17 q16 h14 e1 =>
              j_tx (hx_437 _))) (fun m13 q12 h10 e1 =>
            j_tx (hx_437 _))) (fun m9 q8 h6 e1 =>
          j_tx (hx_437 _))) (fun q =>
        have D : fk_D 437 [(148, none, .aload_n 0, 1, 0, 0, 0), (149, none, .getfield 421, 3, 252, 100, 12), (152, none, .iload_n 1, 1, 0, 0, 0), (153, none, .baload, 1, 0, 0, 0), (154, none, .iconst 3, 1, 0, 3, 0), (155, none, .if_icmp .ne 13, 3, 168, 0, 0), (158, none, .aload_n 0, 1, 0, 0, 0), (159, none, .getfield 457, 3, 270, 100, 12), (162, none, .ldc_w 990, 3, 4, 275, 0), (165, none, .invokevirtual 463, 3, 1, 138, 0)] := fq_of2 cd_437 ow_437 cl_437 rfl (pc := 148) (by decide +kernel)
        j_aldn (pc := 148) D rfl rfl rfl fun D =>
        j_gfc (pc := 149) (a := 303) D rfl rfl (by decide) rfl (s0_303 H) rfl (sf_252_303 H) fun D =>
        j_ildn (pc := 152) D rfl rfl rfl fun D =>
        j_al (pc := 153) (a := 365) (e := 8) D rfl rfl rfl (by decide) (s0_365 H) (s1_365 H) ⟨rfl, rfl, rfl⟩ rfl (gy qb1) fun q D =>
        j_ic (pc := 154) D rfl fun D =>
        j_ine (pc := 155) D rfl (fun q D =>
          j_aldn (pc := 158) D rfl rfl rfl fun D =>
          j_gf (pc := 159) (a := 303) D rfl rfl (by decide) rfl (s0_303 H) rfl fun D =>
          j_ldcw (pc := 162) D rfl fun D =>
          j_ivuv (pc := 165) (dd := 138) (a := [(4, 275)]) (rest := []) H.2.1 D rfl rfl rfl rfl rfl (fun m21 h18 e1 D =>
            have T := fj_run_ok _ _ _ _ _ _ H.1 e1
            have H := shp_st H T
            fk_jump cut_437_168 rfl rfl) (fun m21 q20 h18 e1 =>
            j_tx (hx_437 _))) (fun q =>
          fk_jump cut_437_168 rfl rfl)))
theorem e_437_124 (d : Nat) (x1 x2 s0 s1 : Int) {h : fi_H} (H : Shp h) : c_437_124 d x1 x2 s0 s1 h =
  dv_ (fi_vt 138 (h 0 s0.toNat 0)) fun m4 => cv_ (fj_run d m4 h [(4, s0), (4, s1)])
    (fun h1 =>
    if 0 ≤ x1 ∧ x1 < 300 then
    if 0 < h1 8 370 x1.toNat then
      if h1 0 x2.toNat 0 = 124 then
      cv_ (fj_run d 438 h1 [(4, 303), (0, x1), (4, h1 324 x2.toNat 0)])
        (fun h7 =>
        c_437_246 d h7)
        (fun q9 h7 => tx_ q9 h7)
      else none
    else
      c_437_246 d h1
    else none)
    (fun q3 h1 => tx_ q3 h1) := by
  unfold c_437_124
  exact
    have D : fk_D 437 [(124, some [0, 1, 2], .invokevirtual 463, 3, 1, 138, 0), (127, none, .aload_n 0, 1, 0, 0, 0), (128, none, .getfield 436, 3, 257, 100, 12), (131, none, .iload_n 1, 1, 0, 0, 0), (132, none, .baload, 1, 0, 0, 0), (133, none, .ifCond .le 113, 3, 246, 0, 0), (136, none, .aload_n 0, 1, 0, 0, 0), (137, none, .iload_n 1, 1, 0, 0, 0), (138, none, .aload_n 2, 1, 0, 0, 0), (139, none, .getfield 283, 3, 324, (-124), 12), (142, none, .invokevirtual 986, 3, 2, 183, 0), (145, none, .goto 101, 3, 246, 0, 0)] := fq_of2 cd_437 ow_437 cl_437 rfl (pc := 124) (by decide +kernel)
    j_ivuv (pc := 124) (dd := 138) (a := [(4, s1)]) (rest := []) H.2.1 D rfl rfl rfl rfl rfl (fun m4 h1 e1 D =>
      have T := fj_run_ok _ _ _ _ _ _ H.1 e1
      have H := shp_st H T
      j_aldn (pc := 127) D rfl rfl rfl fun D =>
      j_gfc (pc := 128) (a := 303) D rfl rfl (by decide) rfl (s0_303 H) rfl (sf_257_303 H) fun D =>
      j_ildn (pc := 131) D rfl rfl rfl fun D =>
      j_al (pc := 132) (a := 370) (e := 8) D rfl rfl rfl (by decide) (s0_370 H) (s1_370 H) ⟨rfl, rfl, rfl⟩ rfl gn fun qb5 D =>
      j_ifle (pc := 133) D rfl (fun q D =>
        j_aldn (pc := 136) D rfl rfl rfl fun D =>
        j_ildn (pc := 137) D rfl rfl rfl fun D =>
        j_aldn (pc := 138) D rfl rfl rfl fun D =>
        j_gfo (pc := 139) H.2.1 D rfl rfl rfl rfl fun kc6 D =>
        j_ivv (pc := 142) (m := 438) (dd := 183) (a := [(0, x1), (4, h1 324 x2.toNat 0)]) (rest := []) D rfl rfl rfl rfl rfl (by decide) (s0_303 H) (by decide +kernel) (fun h7 e1 D =>
          have T := fj_run_ok _ _ _ _ _ _ H.1 e1
          have kc6 := cls_st H.1 T.2 kc6 (by decide)
          have H := shp_st H T
          j_goto (pc := 145) D rfl <|
          fk_jump cut_437_246 rfl rfl) (fun q9 h7 e1 =>
          j_tx (hx_437 _))) (fun q =>
        fk_jump cut_437_246 rfl rfl)) (fun m4 q3 h1 e1 =>
      j_tx (hx_437 _))
theorem e_437_168 (d : Nat) (x1 x2 : Int) {h : fi_H} (H : Shp h) : c_437_168 d x1 x2 h =
  if h 0 x2.toNat 0 = 124 then
  dv_ (fi_vt 138 (h 0 (h 270 303 0).toNat 0)) fun m5 => cv_ (fj_run d m5 h [(4, h 270 303 0), (4, h 321 x2.toNat 0)])
    (fun h2 =>
    dv_ (fi_vt 138 (h2 0 (h2 270 303 0).toNat 0)) fun m9 => cv_ (fj_run d m9 h2 [(4, h2 270 303 0), (4, 277)])
      (fun h6 =>
      if 0 ≤ x1 ∧ x1 < 300 then
      dv_ (fi_vt 141 (h6 0 (h6 270 303 0).toNat 0)) fun m14 => cv_ (fj_run d m14 h6 [(4, h6 270 303 0), (1, wI (h6 8 368 x1.toNat)), (0, 1)])
        (fun h11 =>
        dv_ (fi_vt 138 (h11 0 (h11 270 303 0).toNat 0)) fun m18 => cv_ (fj_run d m18 h11 [(4, h11 270 303 0), (4, 279)])
          (fun h15 =>
          dv_ (fi_vt 182 (h15 0 (h15 270 303 0).toNat 0)) fun m22 => cv_ (fj_run d m22 h15 [(4, h15 270 303 0), (0, h15 5 371 x1.toNat)])
            (fun h19 =>
            dv_ (fi_vt 138 (h19 0 (h19 270 303 0).toNat 0)) fun m26 => cv_ (fj_run d m26 h19 [(4, h19 270 303 0), (4, 71)])
              (fun h23 =>
              c_437_237 d x1 x2 h23)
              (fun q25 h23 => tx_ q25 h23))
            (fun q21 h19 => tx_ q21 h19))
          (fun q17 h15 => tx_ q17 h15))
        (fun q13 h11 => tx_ q13 h11)
      else none)
      (fun q8 h6 => tx_ q8 h6))
    (fun q4 h2 => tx_ q4 h2)
  else none := by
  unfold c_437_168
  exact
    have D : fk_D 437 [(168, some [0, 1, 2], .aload_n 0, 1, 0, 0, 0), (169, none, .getfield 457, 3, 270, 100, 12), (172, none, .aload_n 2, 1, 0, 0, 0), (173, none, .getfield 469, 3, 321, (-124), 12), (176, none, .invokevirtual 463, 3, 1, 138, 0), (179, none, .aload_n 0, 1, 0, 0, 0), (180, none, .getfield 457, 3, 270, 100, 12), (183, none, .ldc_w 992, 3, 4, 277, 0), (186, none, .invokevirtual 463, 3, 1, 138, 0), (189, none, .aload_n 0, 1, 0, 0, 0), (190, none, .getfield 457, 3, 270, 100, 12), (193, none, .aload_n 0, 1, 0, 0, 0), (194, none, .getfield 430, 3, 255, 100, 12), (197, none, .iload_n 1, 1, 0, 0, 0), (198, none, .baload, 1, 0, 0, 0), (199, none, .i2l, 1, 0, 0, 0), (200, none, .iconst 1, 1, 0, 1, 0), (201, none, .invokevirtual 491, 3, 2, 141, 0), (204, none, .aload_n 0, 1, 0, 0, 0), (205, none, .getfield 457, 3, 270, 100, 12)] := fq_of2 cd_437 ow_437 cl_437 rfl (pc := 168) (by decide +kernel)
    j_aldn (pc := 168) D rfl rfl rfl fun D =>
    j_gf (pc := 169) (a := 303) D rfl rfl (by decide) rfl (s0_303 H) rfl fun D =>
    j_aldn (pc := 172) D rfl rfl rfl fun D =>
    j_gfo (pc := 173) H.2.1 D rfl rfl rfl rfl fun kc1 D =>
    j_ivuv (pc := 176) (dd := 138) (a := [(4, h 321 x2.toNat 0)]) (rest := []) H.2.1 D rfl rfl rfl rfl rfl (fun m5 h2 e1 D =>
      have T := fj_run_ok _ _ _ _ _ _ H.1 e1
      have kc1 := cls_st H.1 T.2 kc1 (by decide)
      have H := shp_st H T
      j_aldn (pc := 179) D rfl rfl rfl fun D =>
      j_gf (pc := 180) (a := 303) D rfl rfl (by decide) rfl (s0_303 H) rfl fun D =>
      j_ldcw (pc := 183) D rfl fun D =>
      j_ivuv (pc := 186) (dd := 138) (a := [(4, 277)]) (rest := []) H.2.1 D rfl rfl rfl rfl rfl (fun m9 h6 e1 D =>
        have T := fj_run_ok _ _ _ _ _ _ H.1 e1
        have kc1 := cls_st H.1 T.2 kc1 (by decide)
        have H := shp_st H T
        j_aldn (pc := 189) D rfl rfl rfl fun D =>
        j_gf (pc := 190) (a := 303) D rfl rfl (by decide) rfl (s0_303 H) rfl fun D =>
        j_aldn (pc := 193) D rfl rfl rfl fun D =>
        j_gfc (pc := 194) (a := 303) D rfl rfl (by decide) rfl (s0_303 H) rfl (sf_255_303 H) fun D =>
        j_ildn (pc := 197) D rfl rfl rfl fun D =>
        j_al (pc := 198) (a := 368) (e := 8) D rfl rfl rfl (by decide) (s0_368 H) (s1_368 H) ⟨rfl, rfl, rfl⟩ rfl gn fun qb10 D =>
        j_i2l (pc := 199) D rfl fun D =>
        j_ic (pc := 200) D rfl fun D =>
        j_ivuv (pc := 201) (dd := 141) (a := [(1, wI (h6 8 368 x1.toNat)), (0, 1)]) (rest := []) H.2.1 D rfl rfl rfl rfl rfl (fun m14 h11 e1 D =>
          have T := fj_run_ok _ _ _ _ _ _ H.1 e1
          have kc1 := cls_st H.1 T.2 kc1 (by decide)
          have H := shp_st H T
          j_aldn (pc := 204) D rfl rfl rfl fun D =>
          j_gf (pc := 205) (a := 303) D rfl rfl (by decide) rfl (s0_303 H) rfl fun D =>
          have D : fk_D 437 [(208, none, .ldc_w 994, 3, 4, 279, 0), (211, none, .invokevirtual 463, 3, 1, 138, 0), (214, none, .aload_n 0, 1, 0, 0, 0), (215, none, .getfield 457, 3, 270, 100, 12), (218, none, .aload_n 0, 1, 0, 0, 0), (219, none, .getfield 433, 3, 258, 100, 12), (222, none, .iload_n 1, 1, 0, 0, 0), (223, none, .caload, 1, 0, 0, 0), (224, none, .invokevirtual 976, 3, 1, 182, 0), (227, none, .aload_n 0, 1, 0, 0, 0), (228, none, .getfield 457, 3, 270, 100, 12), (231, none, .ldc_w 483, 3, 4, 71, 0), (234, none, .invokevirtual 463, 3, 1, 138, 0)] := fq_of2 cd_437 ow_437 cl_437 rfl (pc := 208) (by decide +kernel)
          j_ldcw (pc := 208) D rfl fun D =>
          j_ivuv (pc := 211) (dd := 138) (a := [(4, 279)]) (rest := []) H.2.1 D rfl rfl rfl rfl rfl (fun m18 h15 e1 D =>
            have T := fj_run_ok _ _ _ _ _ _ H.1 e1
            have kc1 := cls_st H.1 T.2 kc1 (by decide)
            have H := shp_st H T
            j_aldn (pc := 214) D rfl rfl rfl fun D =>
            j_gf (pc := 215) (a := 303) D rfl rfl (by decide) rfl (s0_303 H) rfl fun D =>
            j_aldn (pc := 218) D rfl rfl rfl fun D =>
            j_gfc (pc := 219) (a := 303) D rfl rfl (by decide) rfl (s0_303 H) rfl (sf_258_303 H) fun D =>
            j_ildn (pc := 222) D rfl rfl rfl fun D =>
            j_al (pc := 223) (a := 371) (e := 5) D rfl rfl rfl (by decide) (s0_371 H) (s1_371 H) ⟨rfl, rfl, rfl⟩ rfl (gy qb10) fun q D =>
            j_ivuv (pc := 224) (dd := 182) (a := [(0, h15 5 371 x1.toNat)]) (rest := []) H.2.1 D rfl rfl rfl rfl rfl (fun m22 h19 e1 D =>
              have T := fj_run_ok _ _ _ _ _ _ H.1 e1
              have kc1 := cls_st H.1 T.2 kc1 (by decide)
              have H := shp_st H T
              j_aldn (pc := 227) D rfl rfl rfl fun D =>
              j_gf (pc := 228) (a := 303) D rfl rfl (by decide) rfl (s0_303 H) rfl fun D =>
              j_ldcw (pc := 231) D rfl fun D =>
              j_ivuv (pc := 234) (dd := 138) (a := [(4, 71)]) (rest := []) H.2.1 D rfl rfl rfl rfl rfl (fun m26 h23 e1 D =>
                have T := fj_run_ok _ _ _ _ _ _ H.1 e1
                have kc1 := cls_st H.1 T.2 kc1 (by decide)
                have H := shp_st H T
                fk_jump cut_437_237 rfl rfl) (fun m26 q25 h23 e1 =>
                j_tx (hx_437 _))) (fun m22 q21 h19 e1 =>
              j_tx (hx_437 _))) (fun m18 q17 h15 e1 =>
            j_tx (hx_437 _))) (fun m14 q13 h11 e1 =>
          j_tx (hx_437 _))) (fun m9 q8 h6 e1 =>
        j_tx (hx_437 _))) (fun m5 q4 h2 e1 =>
      j_tx (hx_437 _))
theorem e_437_237 (d : Nat) (x1 x2 : Int) {h : fi_H} (H : Shp h) : c_437_237 d x1 x2 h =
  if h 0 x2.toNat 0 = 124 then
  cv_ (fj_run d 438 h [(4, 303), (0, x1), (4, h 324 x2.toNat 0)])
    (fun h2 =>
    c_437_246 d h2)
    (fun q4 h2 => tx_ q4 h2)
  else none := by
  unfold c_437_237
  exact
    have D : fk_D 437 [(237, some [0, 1, 2], .aload_n 0, 1, 0, 0, 0), (238, none, .iload_n 1, 1, 0, 0, 0), (239, none, .aload_n 2, 1, 0, 0, 0), (240, none, .getfield 283, 3, 324, (-124), 12), (243, none, .invokevirtual 986, 3, 2, 183, 0)] := fq_of2 cd_437 ow_437 cl_437 rfl (pc := 237) (by decide +kernel)
    j_aldn (pc := 237) D rfl rfl rfl fun D =>
    j_ildn (pc := 238) D rfl rfl rfl fun D =>
    j_aldn (pc := 239) D rfl rfl rfl fun D =>
    j_gfo (pc := 240) H.2.1 D rfl rfl rfl rfl fun kc1 D =>
    j_ivv (pc := 243) (m := 438) (dd := 183) (a := [(0, x1), (4, h 324 x2.toNat 0)]) (rest := []) D rfl rfl rfl rfl rfl (by decide) (s0_303 H) (by decide +kernel) (fun h2 e1 D =>
      have T := fj_run_ok _ _ _ _ _ _ H.1 e1
      have kc1 := cls_st H.1 T.2 kc1 (by decide)
      have H := shp_st H T
      fk_jump cut_437_246 rfl rfl) (fun q4 h2 e1 =>
      j_tx (hx_437 _))
theorem e_437_246 (d : Nat) {h : fi_H} (H : Shp h) : c_437_246 d h =
  dv_ (fi_vt 139 (h 0 (h 270 303 0).toNat 0)) fun m4 => cv_ (fj_run d m4 h [(4, h 270 303 0), (0, 10)])
    (fun h1 =>
    some (.inl none, h1))
    (fun q3 h1 => tx_ q3 h1) := by
  unfold c_437_246
  exact
    have D : fk_D 437 [(246, some [0], .aload_n 0, 1, 0, 0, 0), (247, none, .getfield 457, 3, 270, 100, 12), (250, none, .bipush 10, 2, 0, 10, 0), (252, none, .invokevirtual 477, 3, 1, 139, 0), (255, none, .return_, 1, 0, 0, 0)] := fq_of2 cd_437 ow_437 cl_437 rfl (pc := 246) (by decide +kernel)
    j_aldn (pc := 246) D rfl rfl rfl fun D =>
    j_gf (pc := 247) (a := 303) D rfl rfl (by decide) rfl (s0_303 H) rfl fun D =>
    j_bp (pc := 250) D rfl fun D =>
    j_ivuv (pc := 252) (dd := 139) (a := [(0, 10)]) (rest := []) H.2.1 D rfl rfl rfl rfl rfl (fun m4 h1 e1 D =>
      have T := fj_run_ok _ _ _ _ _ _ H.1 e1
      have H := shp_st H T
      j_vret D rt_437) (fun m4 q3 h1 e1 =>
      j_tx (hx_437 _))
theorem m_437 (d : Nat) (x1 : Int) {h : fi_H} (H : Shp h) : fj_run (d + 1) 437 h [(4, 303), (0, x1)] =
  if 0 ≤ x1 ∧ x1 < 300 then
  if 0 ≤ h 8 367 x1.toNat ∧ h 8 367 x1.toNat < 40 then
  c_437_14 d x1 (h 12 320 (h 8 367 x1.toNat).toNat) 0 h
  else none
  else none := by
  rw [fj_run_eq d (by decide) h [(4, 303), (0, x1)] (Nat.le_of_ble_eq_true (by rw [nl_437]; rfl))]
  show gG (fj_run d) 437 0 [(0, (4, 303)), (1, (0, x1))] [] h = _
  exact
    have D : fk_D 437 [(0, none, .aload_n 0, 1, 0, 0, 0), (1, none, .getfield 255, 3, 214, 100, 12), (4, none, .aload_n 0, 1, 0, 0, 0), (5, none, .getfield 427, 3, 254, 100, 12), (8, none, .iload_n 1, 1, 0, 0, 0), (9, none, .baload, 1, 0, 0, 0), (10, none, .aaload, 1, 0, 0, 0), (11, none, .astore_n 2, 1, 0, 0, 0), (12, none, .iconst 0, 1, 0, 0, 0), (13, none, .istore_n 3, 1, 0, 0, 0)] := fq_of2 cd_437 ow_437 cl_437 rfl (pc := 0) (by decide +kernel)
    j_aldn (pc := 0) D rfl rfl rfl fun D =>
    j_gfc (pc := 1) (a := 303) D rfl rfl (by decide) rfl (s0_303 H) rfl (sf_214_303 H) fun D =>
    j_aldn (pc := 4) D rfl rfl rfl fun D =>
    j_gfc (pc := 5) (a := 303) D rfl rfl (by decide) rfl (s0_303 H) rfl (sf_254_303 H) fun D =>
    j_ildn (pc := 8) D rfl rfl rfl fun D =>
    j_al (pc := 9) (a := 367) (e := 8) D rfl rfl rfl (by decide) (s0_367 H) (s1_367 H) ⟨rfl, rfl, rfl⟩ rfl gn fun qb1 D =>
    j_al (pc := 10) (a := 320) (e := 12) D rfl rfl rfl (by decide) (s0_320 H) (s1_320 H) ⟨rfl, rfl, rfl⟩ rfl gn fun qb2 D =>
    j_astn (pc := 11) (L' := [(2, (4, h 12 320 (h 8 367 x1.toNat).toNat)), (0, (4, 303)), (1, (0, x1))]) D rfl nl_437 rfl rfl fun D =>
    j_ic (pc := 12) D rfl fun D =>
    j_istn (pc := 13) (L' := [(3, (0, 0)), (2, (4, h 12 320 (h 8 367 x1.toNat).toNat)), (0, (4, 303)), (1, (0, x1))]) D rfl nl_437 rfl rfl fun D =>
    fk_jump cut_437_14 rfl rfl
/-! 438 StatuteHouse.writeValue(ILStatuteHouse$Kind;)V -/
theorem cd_438 : fi_code 438 = prog_1_method_84_code := rfl
theorem hx_438 : ∀ pc, fi_hat 438 pc = none := fun pc => by unfold fi_hat; rw [show fi_hh 438 = [] from rfl]; rfl
theorem rt_438 : fi_ret 438 = none := rfl
theorem nl_438 : fi_nl 438 = 7 := rfl
theorem ow_438 : fi_ow 438 = 0 := rfl
theorem cl_438 : fj_cutT.getD 438 [] = [(95, []), (116, [0, 3]), (190, [0, 5])] := rfl
theorem cut_438_95 : fj_cut 438 95 = some [] := by decide +kernel
noncomputable def c_438_95 (d : Nat) (s0 s1 : Int) (h : fi_H) : fk_R := gG (fj_run d) 438 95 [] [(4, s1), (4, s0)] h
theorem cut_438_116 : fj_cut 438 116 = some [0, 3] := by decide +kernel
noncomputable def c_438_116 (d : Nat) (x3 : Int) (h : fi_H) : fk_R := gG (fj_run d) 438 116 [(0, (4, 303)), (3, (1, x3))] [] h
theorem cut_438_190 : fj_cut 438 190 = some [0, 5] := by decide +kernel
noncomputable def c_438_190 (d : Nat) (x5 : Int) (h : fi_H) : fk_R := gG (fj_run d) 438 190 [(0, (4, 303)), (5, (1, x5))] [] h
theorem e_438_95 (d : Nat) (s0 s1 : Int) {h : fi_H} (H : Shp h) : c_438_95 d s0 s1 h =
  dv_ (fi_vt 138 (h 0 s0.toNat 0)) fun m4 => cv_ (fj_run d m4 h [(4, s0), (4, s1)])
    (fun h1 =>
    some (.inl none, h1))
    (fun q3 h1 => tx_ q3 h1) := by
  unfold c_438_95
  exact
    have D : fk_D 438 [(95, some [], .invokevirtual 463, 3, 1, 138, 0), (98, none, .goto 122, 3, 220, 0, 0)] := fq_of2 cd_438 ow_438 cl_438 rfl (pc := 95) (by decide +kernel)
    j_ivuv (pc := 95) (dd := 138) (a := [(4, s1)]) (rest := []) H.2.1 D rfl rfl rfl rfl rfl (fun m4 h1 e1 D =>
      have T := fj_run_ok _ _ _ _ _ _ H.1 e1
      have H := shp_st H T
      j_goto (pc := 98) D rfl <|
      have D : fk_D 438 [(220, none, .return_, 1, 0, 0, 0)] := fq_of2 cd_438 ow_438 cl_438 rfl (pc := 220) (by decide +kernel)
      j_vret D rt_438) (fun m4 q3 h1 e1 =>
      j_tx (hx_438 _))
theorem e_438_116 (d : Nat) (x3 : Int) {h : fi_H} (H : Shp h) : c_438_116 d x3 h =
  ca_ (fj_run d 357 h [(1, x3)]) 1
    (fun v2 h1 =>
    dv_ (fi_vt 140 (h1 0 (h 270 303 0).toNat 0)) fun m7 => cv_ (fj_run d m7 h1 [(4, h 270 303 0), (1, v2)])
      (fun h4 =>
      some (.inl none, h4))
      (fun q6 h4 => tx_ q6 h4))
    (fun q3 h1 => tx_ q3 h1) := by
  unfold c_438_116
  exact
    have D : fk_D 438 [(116, some [0, 3], .aload_n 0, 1, 0, 0, 0), (117, none, .getfield 457, 3, 270, 100, 12), (120, none, .lload_n 3, 1, 0, 0, 0), (121, none, .invokestatic 191, 3, 1, 357, 2), (124, none, .invokevirtual 479, 3, 1, 140, 0), (127, none, .goto 93, 3, 220, 0, 0)] := fq_of2 cd_438 ow_438 cl_438 rfl (pc := 116) (by decide +kernel)
    j_aldn (pc := 116) D rfl rfl rfl fun D =>
    j_gf (pc := 117) (a := 303) D rfl rfl (by decide) rfl (s0_303 H) rfl fun D =>
    j_lldn (pc := 120) D rfl rfl rfl fun D =>
    j_is (pc := 121) (m := 357) (a := [(1, x3)]) (rest := [(4, h 270 303 0)]) D rfl rfl rfl rfl (fun v2 h1 e1 D =>
      have T := fj_run_ok _ _ _ _ _ _ H.1 e1
      have H := shp_st H T
      j_ivuv (pc := 124) (dd := 140) (a := [(1, v2)]) (rest := []) H.2.1 D rfl rfl rfl rfl rfl (fun m7 h4 e1 D =>
        have T := fj_run_ok _ _ _ _ _ _ H.1 e1
        have H := shp_st H T
        j_goto (pc := 127) D rfl <|
        have D : fk_D 438 [(220, none, .return_, 1, 0, 0, 0)] := fq_of2 cd_438 ow_438 cl_438 rfl (pc := 220) (by decide +kernel)
        j_vret D rt_438) (fun m7 q6 h4 e1 =>
        j_tx (hx_438 _))) (fun q3 h1 e1 =>
      j_tx (hx_438 _))
theorem e_438_190 (d : Nat) (x5 : Int) {h : fi_H} (H : Shp h) : c_438_190 d x5 h =
  dv_ (fi_vt 181 (h 0 (h 270 303 0).toNat 0)) fun m4 => cv_ (fj_run d m4 h [(4, h 270 303 0), (1, x5)])
    (fun h1 =>
    dv_ (fi_vt 138 (h1 0 (h1 270 303 0).toNat 0)) fun m8 => cv_ (fj_run d m8 h1 [(4, h1 270 303 0), (4, 137)])
      (fun h5 =>
      some (.inl none, h5))
      (fun q7 h5 => tx_ q7 h5))
    (fun q3 h1 => tx_ q3 h1) := by
  unfold c_438_190
  exact
    have D : fk_D 438 [(190, some [0, 5], .aload_n 0, 1, 0, 0, 0), (191, none, .getfield 457, 3, 270, 100, 12), (194, none, .lload 5, 2, 0, 0, 0), (196, none, .invokevirtual 973, 3, 1, 181, 0), (199, none, .aload_n 0, 1, 0, 0, 0), (200, none, .getfield 457, 3, 270, 100, 12), (203, none, .ldc_w 980, 3, 4, 137, 0), (206, none, .invokevirtual 463, 3, 1, 138, 0), (209, none, .goto 11, 3, 220, 0, 0)] := fq_of2 cd_438 ow_438 cl_438 rfl (pc := 190) (by decide +kernel)
    j_aldn (pc := 190) D rfl rfl rfl fun D =>
    j_gf (pc := 191) (a := 303) D rfl rfl (by decide) rfl (s0_303 H) rfl fun D =>
    j_lld (pc := 194) D rfl rfl rfl fun D =>
    j_ivuv (pc := 196) (dd := 181) (a := [(1, x5)]) (rest := []) H.2.1 D rfl rfl rfl rfl rfl (fun m4 h1 e1 D =>
      have T := fj_run_ok _ _ _ _ _ _ H.1 e1
      have H := shp_st H T
      j_aldn (pc := 199) D rfl rfl rfl fun D =>
      j_gf (pc := 200) (a := 303) D rfl rfl (by decide) rfl (s0_303 H) rfl fun D =>
      j_ldcw (pc := 203) D rfl fun D =>
      j_ivuv (pc := 206) (dd := 138) (a := [(4, 137)]) (rest := []) H.2.1 D rfl rfl rfl rfl rfl (fun m8 h5 e1 D =>
        have T := fj_run_ok _ _ _ _ _ _ H.1 e1
        have H := shp_st H T
        j_goto (pc := 209) D rfl <|
        have D : fk_D 438 [(220, none, .return_, 1, 0, 0, 0)] := fq_of2 cd_438 ow_438 cl_438 rfl (pc := 220) (by decide +kernel)
        j_vret D rt_438) (fun m8 q7 h5 e1 =>
        j_tx (hx_438 _))) (fun m4 q3 h1 e1 =>
      j_tx (hx_438 _))
theorem m_438 (d : Nat) (x1 x2 : Int) {h : fi_H} (H : Shp h) : fj_run (d + 1) 438 h [(4, 303), (0, x1), (4, x2)] =
  if 0 ≤ x1 ∧ x1 < 300 then
  if h 4 375 x1.toNat = 0 then
    dv_ (fi_vt 138 (h 0 (h 270 303 0).toNat 0)) fun m5 => cv_ (fj_run d m5 h [(4, h 270 303 0), (4, 269)])
      (fun h2 =>
      some (.inl none, h2))
      (fun q4 h2 => tx_ q4 h2)
  else
    dv_ (fi_vt 111 (h 0 x2.toNat 0)) fun m9 => ca_ (fj_run d m9 h [(4, x2)]) 0
      (fun v7 h6 =>
      if v7 = 0 then
        if lc_ (h 11 373 x1.toNat) 1 = 0 then
          c_438_95 d (h6 270 303 0) 131 h6
        else
          c_438_95 d (h6 270 303 0) 133 h6
      else if v7 = 2 then
        if lc_ (h 11 373 x1.toNat) 0 < 0 then
          dv_ (fi_vt 139 (h6 0 (h6 270 303 0).toNat 0)) fun m13 => cv_ (fj_run d m13 h6 [(4, h6 270 303 0), (0, 45)])
            (fun h10 =>
            c_438_116 d (h 11 373 x1.toNat) h10)
            (fun q12 h10 => tx_ q12 h10)
        else
          c_438_116 d (h 11 373 x1.toNat) h6
      else if v7 = 3 then
        dv_ (fi_vt 181 (h6 0 (h6 270 303 0).toNat 0)) fun m17 => cv_ (fj_run d m17 h6 [(4, h6 270 303 0), (1, h 11 373 x1.toNat)])
          (fun h14 =>
          dv_ (fi_vt 139 (h14 0 (h14 270 303 0).toNat 0)) fun m21 => cv_ (fj_run d m21 h14 [(4, h14 270 303 0), (0, 47)])
            (fun h18 =>
            dv_ (fi_vt 141 (h18 0 (h18 270 303 0).toNat 0)) fun m25 => cv_ (fj_run d m25 h18 [(4, h18 270 303 0), (1, h 11 374 x1.toNat), (0, 1)])
              (fun h22 =>
              some (.inl none, h22))
              (fun q24 h22 => tx_ q24 h22))
            (fun q20 h18 => tx_ q20 h18))
          (fun q16 h14 => tx_ q16 h14)
      else if v7 = 4 then
        dv_ (fi_vt 182 (h6 0 (h6 270 303 0).toNat 0)) fun m29 => cv_ (fj_run d m29 h6 [(4, h6 270 303 0), (0, wI (h 11 373 x1.toNat))])
          (fun h26 =>
          some (.inl none, h26))
          (fun q28 h26 => tx_ q28 h26)
      else if v7 = 5 then
        dv_ (fi_vt 181 (h6 0 (h6 270 303 0).toNat 0)) fun m33 => cv_ (fj_run d m33 h6 [(4, h6 270 303 0), (1, h 11 373 x1.toNat)])
          (fun h30 =>
          dv_ (fi_vt 138 (h30 0 (h30 270 303 0).toNat 0)) fun m37 => cv_ (fj_run d m37 h30 [(4, h30 270 303 0), (4, 273)])
            (fun h34 =>
            c_438_190 d (h 11 374 x1.toNat) h34)
            (fun q36 h34 => tx_ q36 h34))
          (fun q32 h30 => tx_ q32 h30)
      else 
        dv_ (fi_vt 181 (h6 0 (h6 270 303 0).toNat 0)) fun m41 => cv_ (fj_run d m41 h6 [(4, h6 270 303 0), (1, h 11 373 x1.toNat)])
          (fun h38 =>
          some (.inl none, h38))
          (fun q40 h38 => tx_ q40 h38))
      (fun q8 h6 => tx_ q8 h6)
  else none := by
  rw [fj_run_eq d (by decide) h [(4, 303), (0, x1), (4, x2)] (Nat.le_of_ble_eq_true (by rw [nl_438]; rfl))]
  show gG (fj_run d) 438 0 [(0, (4, 303)), (1, (0, x1)), (2, (4, x2))] [] h = _
  exact
    have D : fk_D 438 [(0, none, .aload_n 0, 1, 0, 0, 0), (1, none, .getfield 442, 3, 260, 100, 12), (4, none, .iload_n 1, 1, 0, 0, 0), (5, none, .laload, 1, 0, 0, 0), (6, none, .lstore_n 3, 1, 0, 0, 0), (7, none, .aload_n 0, 1, 0, 0, 0), (8, none, .getfield 445, 3, 261, 100, 12), (11, none, .iload_n 1, 1, 0, 0, 0), (12, none, .laload, 1, 0, 0, 0), (13, none, .lstore 5, 2, 0, 0, 0), (15, none, .aload_n 0, 1, 0, 0, 0), (16, none, .getfield 439, 3, 262, 100, 12), (19, none, .iload_n 1, 1, 0, 0, 0), (20, none, .baload, 1, 0, 0, 0), (21, none, .ifCond .ne 14, 3, 35, 0, 0), (24, none, .aload_n 0, 1, 0, 0, 0), (25, none, .getfield 457, 3, 270, 100, 12), (28, none, .ldc_w 967, 3, 4, 269, 0), (31, none, .invokevirtual 463, 3, 1, 138, 0), (34, none, .return_, 1, 0, 0, 0)] := fq_of2 cd_438 ow_438 cl_438 rfl (pc := 0) (by decide +kernel)
    j_aldn (pc := 0) D rfl rfl rfl fun D =>
    j_gfc (pc := 1) (a := 303) D rfl rfl (by decide) rfl (s0_303 H) rfl (sf_260_303 H) fun D =>
    j_ildn (pc := 4) D rfl rfl rfl fun D =>
    j_al (pc := 5) (a := 373) (e := 11) D rfl rfl rfl (by decide) (s0_373 H) (s1_373 H) ⟨rfl, rfl, rfl⟩ rfl gn fun qb1 D =>
    j_lstn (pc := 6) (L' := [(3, (1, h 11 373 x1.toNat)), (0, (4, 303)), (1, (0, x1)), (2, (4, x2))]) D rfl nl_438 rfl rfl fun D =>
    j_aldn (pc := 7) D rfl rfl rfl fun D =>
    j_gfc (pc := 8) (a := 303) D rfl rfl (by decide) rfl (s0_303 H) rfl (sf_261_303 H) fun D =>
    j_ildn (pc := 11) D rfl rfl rfl fun D =>
    j_al (pc := 12) (a := 374) (e := 11) D rfl rfl rfl (by decide) (s0_374 H) (s1_374 H) ⟨rfl, rfl, rfl⟩ rfl (gy qb1) fun q D =>
    j_lst (pc := 13) (L' := [(5, (1, h 11 374 x1.toNat)), (3, (1, h 11 373 x1.toNat)), (0, (4, 303)), (1, (0, x1)), (2, (4, x2))]) D rfl nl_438 rfl rfl fun D =>
    j_aldn (pc := 15) D rfl rfl rfl fun D =>
    j_gfc (pc := 16) (a := 303) D rfl rfl (by decide) rfl (s0_303 H) rfl (sf_262_303 H) fun D =>
    j_ildn (pc := 19) D rfl rfl rfl fun D =>
    j_al (pc := 20) (a := 375) (e := 4) D rfl rfl rfl (by decide) (s0_375 H) (s1_375 H) ⟨rfl, rfl, rfl⟩ rfl (gy qb1) fun q D =>
    j_ifne (pc := 21) D rfl (fun q D =>
      j_aldn (pc := 24) D rfl rfl rfl fun D =>
      j_gf (pc := 25) (a := 303) D rfl rfl (by decide) rfl (s0_303 H) rfl fun D =>
      j_ldcw (pc := 28) D rfl fun D =>
      j_ivuv (pc := 31) (dd := 138) (a := [(4, 269)]) (rest := []) H.2.1 D rfl rfl rfl rfl rfl (fun m5 h2 e1 D =>
        have T := fj_run_ok _ _ _ _ _ _ H.1 e1
        have H := shp_st H T
        j_vret D rt_438) (fun m5 q4 h2 e1 =>
        j_tx (hx_438 _))) (fun q =>
      have D : fk_D 438 [(35, none, .aload_n 2, 1, 0, 0, 0), (36, none, .invokevirtual 50, 3, 0, 111, 1), (39, none, .tableswitch 173 0 5 #[37, 173, 62, 91, 121, 133], 37, 0, 0, 0)] := fq_of3 cd_438 ow_438 cl_438 rfl (pc := 35) (by decide +kernel)
      j_aldn (pc := 35) D rfl rfl rfl fun D =>
      j_ivu (pc := 36) (dd := 111) (a := []) (rest := []) H.2.1 D rfl rfl rfl rfl rfl (fun m9 v7 h6 e1 D =>
        have T := fj_run_ok _ _ _ _ _ _ H.1 e1
        have H := shp_st H T
        have N : fk_ni (v7) [] := trivial
        j_tc (pc := 39) 0 (t := 76) D N rfl (by decide +kernel) (fun q =>
          have D : fk_D 438 [(76, none, .aload_n 0, 1, 0, 0, 0), (77, none, .getfield 457, 3, 270, 100, 12), (80, none, .lload_n 3, 1, 0, 0, 0), (81, none, .lconst 1, 1, 0, 0, 0), (82, none, .lcmp, 1, 0, 0, 0), (83, none, .ifCond .ne 9, 3, 92, 0, 0), (86, none, .ldc_w 969, 3, 4, 131, 0), (89, none, .goto 6, 3, 95, 0, 0)] := fq_of2 cd_438 ow_438 cl_438 rfl (pc := 76) (by decide +kernel)
          j_aldn (pc := 76) D rfl rfl rfl fun D =>
          j_gf (pc := 77) (a := 303) D rfl rfl (by decide) rfl (s0_303 H) rfl fun D =>
          j_lldn (pc := 80) D rfl rfl rfl fun D =>
          j_c0 (pc := 81) (v := (1, 1)) D rfl rfl (by decide +kernel) fun D =>
          j_lcmp (pc := 82) D rfl fun D =>
          j_ifne (pc := 83) D rfl (fun q D =>
            j_ldcw (pc := 86) D rfl fun D =>
            j_goto (pc := 89) D rfl <|
            fk_jump cut_438_95 rfl rfl) (fun q =>
            have D : fk_D 438 [(92, none, .ldc_w 971, 3, 4, 133, 0)] := fq_of2 cd_438 ow_438 cl_438 rfl (pc := 92) (by decide +kernel)
            j_ldcw (pc := 92) D rfl fun D =>
            fk_jump cut_438_95 rfl rfl)) (fun N =>
          j_tc 2 (t := 101) D N rfl (by decide +kernel) (fun q =>
            have D : fk_D 438 [(101, none, .lload_n 3, 1, 0, 0, 0), (102, none, .lconst 0, 1, 0, 0, 0), (103, none, .lcmp, 1, 0, 0, 0), (104, none, .ifCond .ge 12, 3, 116, 0, 0), (107, none, .aload_n 0, 1, 0, 0, 0), (108, none, .getfield 457, 3, 270, 100, 12), (111, none, .bipush 45, 2, 0, 45, 0), (113, none, .invokevirtual 477, 3, 1, 139, 0)] := fq_of2 cd_438 ow_438 cl_438 rfl (pc := 101) (by decide +kernel)
            j_lldn (pc := 101) D rfl rfl rfl fun D =>
            j_c0 (pc := 102) (v := (1, 0)) D rfl rfl (by decide +kernel) fun D =>
            j_lcmp (pc := 103) D rfl fun D =>
            j_ifge (pc := 104) D rfl (fun q D =>
              j_aldn (pc := 107) D rfl rfl rfl fun D =>
              j_gf (pc := 108) (a := 303) D rfl rfl (by decide) rfl (s0_303 H) rfl fun D =>
              j_bp (pc := 111) D rfl fun D =>
              j_ivuv (pc := 113) (dd := 139) (a := [(0, 45)]) (rest := []) H.2.1 D rfl rfl rfl rfl rfl (fun m13 h10 e1 D =>
                have T := fj_run_ok _ _ _ _ _ _ H.1 e1
                have H := shp_st H T
                fk_jump cut_438_116 rfl rfl) (fun m13 q12 h10 e1 =>
                j_tx (hx_438 _))) (fun q =>
              fk_jump cut_438_116 rfl rfl)) (fun N =>
            j_tc 3 (t := 130) D N rfl (by decide +kernel) (fun q =>
              have D : fk_D 438 [(130, none, .aload_n 0, 1, 0, 0, 0), (131, none, .getfield 457, 3, 270, 100, 12), (134, none, .lload_n 3, 1, 0, 0, 0), (135, none, .invokevirtual 973, 3, 1, 181, 0), (138, none, .aload_n 0, 1, 0, 0, 0), (139, none, .getfield 457, 3, 270, 100, 12), (142, none, .bipush 47, 2, 0, 47, 0), (144, none, .invokevirtual 477, 3, 1, 139, 0), (147, none, .aload_n 0, 1, 0, 0, 0), (148, none, .getfield 457, 3, 270, 100, 12), (151, none, .lload 5, 2, 0, 0, 0), (153, none, .iconst 1, 1, 0, 1, 0), (154, none, .invokevirtual 491, 3, 2, 141, 0), (157, none, .goto 63, 3, 220, 0, 0)] := fq_of2 cd_438 ow_438 cl_438 rfl (pc := 130) (by decide +kernel)
              j_aldn (pc := 130) D rfl rfl rfl fun D =>
              j_gf (pc := 131) (a := 303) D rfl rfl (by decide) rfl (s0_303 H) rfl fun D =>
              j_lldn (pc := 134) D rfl rfl rfl fun D =>
              j_ivuv (pc := 135) (dd := 181) (a := [(1, h 11 373 x1.toNat)]) (rest := []) H.2.1 D rfl rfl rfl rfl rfl (fun m17 h14 e1 D =>
                have T := fj_run_ok _ _ _ _ _ _ H.1 e1
                have H := shp_st H T
                j_aldn (pc := 138) D rfl rfl rfl fun D =>
                j_gf (pc := 139) (a := 303) D rfl rfl (by decide) rfl (s0_303 H) rfl fun D =>
                j_bp (pc := 142) D rfl fun D =>
                j_ivuv (pc := 144) (dd := 139) (a := [(0, 47)]) (rest := []) H.2.1 D rfl rfl rfl rfl rfl (fun m21 h18 e1 D =>
                  have T := fj_run_ok _ _ _ _ _ _ H.1 e1
                  have H := shp_st H T
                  j_aldn (pc := 147) D rfl rfl rfl fun D =>
                  j_gf (pc := 148) (a := 303) D rfl rfl (by decide) rfl (s0_303 H) rfl fun D =>
                  j_lld (pc := 151) D rfl rfl rfl fun D =>
                  j_ic (pc := 153) D rfl fun D =>
                  j_ivuv (pc := 154) (dd := 141) (a := [(1, h 11 374 x1.toNat), (0, 1)]) (rest := []) H.2.1 D rfl rfl rfl rfl rfl (fun m25 h22 e1 D =>
                    have T := fj_run_ok _ _ _ _ _ _ H.1 e1
                    have H := shp_st H T
                    j_goto (pc := 157) D rfl <|
                    have D : fk_D 438 [(220, none, .return_, 1, 0, 0, 0)] := fq_of2 cd_438 ow_438 cl_438 rfl (pc := 220) (by decide +kernel)
                    j_vret D rt_438) (fun m25 q24 h22 e1 =>
                    j_tx (hx_438 _))) (fun m21 q20 h18 e1 =>
                  j_tx (hx_438 _))) (fun m17 q16 h14 e1 =>
                j_tx (hx_438 _))) (fun N =>
              j_tc 4 (t := 160) D N rfl (by decide +kernel) (fun q =>
                have D : fk_D 438 [(160, none, .aload_n 0, 1, 0, 0, 0), (161, none, .getfield 457, 3, 270, 100, 12), (164, none, .lload_n 3, 1, 0, 0, 0), (165, none, .l2i, 1, 0, 0, 0), (166, none, .invokevirtual 976, 3, 1, 182, 0), (169, none, .goto 51, 3, 220, 0, 0)] := fq_of2 cd_438 ow_438 cl_438 rfl (pc := 160) (by decide +kernel)
                j_aldn (pc := 160) D rfl rfl rfl fun D =>
                j_gf (pc := 161) (a := 303) D rfl rfl (by decide) rfl (s0_303 H) rfl fun D =>
                j_lldn (pc := 164) D rfl rfl rfl fun D =>
                j_l2i (pc := 165) D rfl fun D =>
                j_ivuv (pc := 166) (dd := 182) (a := [(0, wI (h 11 373 x1.toNat))]) (rest := []) H.2.1 D rfl rfl rfl rfl rfl (fun m29 h26 e1 D =>
                  have T := fj_run_ok _ _ _ _ _ _ H.1 e1
                  have H := shp_st H T
                  j_goto (pc := 169) D rfl <|
                  have D : fk_D 438 [(220, none, .return_, 1, 0, 0, 0)] := fq_of2 cd_438 ow_438 cl_438 rfl (pc := 220) (by decide +kernel)
                  j_vret D rt_438) (fun m29 q28 h26 e1 =>
                  j_tx (hx_438 _))) (fun N =>
                j_tc 5 (t := 172) D N rfl (by decide +kernel) (fun q =>
                  have D : fk_D 438 [(172, none, .aload_n 0, 1, 0, 0, 0), (173, none, .getfield 457, 3, 270, 100, 12), (176, none, .lload_n 3, 1, 0, 0, 0), (177, none, .invokevirtual 973, 3, 1, 181, 0), (180, none, .aload_n 0, 1, 0, 0, 0), (181, none, .getfield 457, 3, 270, 100, 12), (184, none, .ldc_w 978, 3, 4, 273, 0), (187, none, .invokevirtual 463, 3, 1, 138, 0)] := fq_of2 cd_438 ow_438 cl_438 rfl (pc := 172) (by decide +kernel)
                  j_aldn (pc := 172) D rfl rfl rfl fun D =>
                  j_gf (pc := 173) (a := 303) D rfl rfl (by decide) rfl (s0_303 H) rfl fun D =>
                  j_lldn (pc := 176) D rfl rfl rfl fun D =>
                  j_ivuv (pc := 177) (dd := 181) (a := [(1, h 11 373 x1.toNat)]) (rest := []) H.2.1 D rfl rfl rfl rfl rfl (fun m33 h30 e1 D =>
                    have T := fj_run_ok _ _ _ _ _ _ H.1 e1
                    have H := shp_st H T
                    j_aldn (pc := 180) D rfl rfl rfl fun D =>
                    j_gf (pc := 181) (a := 303) D rfl rfl (by decide) rfl (s0_303 H) rfl fun D =>
                    j_ldcw (pc := 184) D rfl fun D =>
                    j_ivuv (pc := 187) (dd := 138) (a := [(4, 273)]) (rest := []) H.2.1 D rfl rfl rfl rfl rfl (fun m37 h34 e1 D =>
                      have T := fj_run_ok _ _ _ _ _ _ H.1 e1
                      have H := shp_st H T
                      fk_jump cut_438_190 rfl rfl) (fun m37 q36 h34 e1 =>
                      j_tx (hx_438 _))) (fun m33 q32 h30 e1 =>
                    j_tx (hx_438 _))) (fun N =>
                  j_td (t := 212) D N rfl (by decide +kernel) (by decide +kernel) <|
                  have D : fk_D 438 [(212, none, .aload_n 0, 1, 0, 0, 0), (213, none, .getfield 457, 3, 270, 100, 12), (216, none, .lload_n 3, 1, 0, 0, 0), (217, none, .invokevirtual 973, 3, 1, 181, 0), (220, none, .return_, 1, 0, 0, 0)] := fq_of2 cd_438 ow_438 cl_438 rfl (pc := 212) (by decide +kernel)
                  j_aldn (pc := 212) D rfl rfl rfl fun D =>
                  j_gf (pc := 213) (a := 303) D rfl rfl (by decide) rfl (s0_303 H) rfl fun D =>
                  j_lldn (pc := 216) D rfl rfl rfl fun D =>
                  j_ivuv (pc := 217) (dd := 181) (a := [(1, h 11 373 x1.toNat)]) (rest := []) H.2.1 D rfl rfl rfl rfl rfl (fun m41 h38 e1 D =>
                    have T := fj_run_ok _ _ _ _ _ _ H.1 e1
                    have H := shp_st H T
                    j_vret D rt_438) (fun m41 q40 h38 e1 =>
                    j_tx (hx_438 _)))))))) (fun m9 q8 h6 e1 =>
        j_tx (hx_438 _)))
/-! 439 StatuteHouse$Pen.signed(J)V -/
theorem cd_439 : fi_code 439 = prog_51_method_8_code := rfl
theorem hx_439 : ∀ pc, fi_hat 439 pc = none := fun pc => by unfold fi_hat; rw [show fi_hh 439 = [] from rfl]; rfl
theorem rt_439 : fi_ret 439 = none := rfl
theorem nl_439 : fi_nl 439 = 3 := rfl
theorem ow_439 : fi_ow 439 = 13 := rfl
theorem cl_439 : fj_cutT.getD 439 [] = [] := rfl
theorem m_439 (d : Nat) (x0 x1 : Int) {h : fi_H} (H : Shp h) (hk : h 0 x0.toNat 0 = 113) : fj_run (d + 1) 439 h [(4, x0), (1, x1)] =
  if lc_ x1 0 < 0 then
    cv_ (fj_run d 29 h [(4, x0), (0, 45)])
      (fun h1 =>
      if 0 < lc_ x1 (-9223372036854775808) then
        cv_ (fj_run d 31 h1 [(4, x0), (1, wJ (-x1)), (0, 1)])
          (fun h4 =>
          some (.inl none, h4))
          (fun q6 h4 => tx_ q6 h4)
      else
        cv_ (fj_run d 17 h1 [(4, x0), (4, 271)])
          (fun h7 =>
          some (.inl none, h7))
          (fun q9 h7 => tx_ q9 h7))
      (fun q3 h1 => tx_ q3 h1)
  else
    cv_ (fj_run d 31 h [(4, x0), (1, x1), (0, 1)])
      (fun h10 =>
      some (.inl none, h10))
      (fun q12 h10 => tx_ q12 h10) := by
  rw [fj_run_eq d (by decide) h [(4, x0), (1, x1)] (Nat.le_of_ble_eq_true (by rw [nl_439]; rfl))]
  show gG (fj_run d) 439 0 [(0, (4, x0)), (1, (1, x1))] [] h = _
  exact
    have D : fk_D 439 [(0, none, .lload_n 1, 1, 0, 0, 0), (1, none, .lconst 0, 1, 0, 0, 0), (2, none, .lcmp, 1, 0, 0, 0), (3, none, .ifCond .lt 10, 3, 13, 0, 0), (6, none, .aload_n 0, 1, 0, 0, 0), (7, none, .lload_n 1, 1, 0, 0, 0), (8, none, .iconst 1, 1, 0, 1, 0), (9, none, .invokevirtual 56, 3, 2, 141, 0), (12, none, .return_, 1, 0, 0, 0)] := fq_of2 cd_439 ow_439 cl_439 rfl (pc := 0) (by decide +kernel)
    j_lldn (pc := 0) D rfl rfl rfl fun D =>
    j_c0 (pc := 1) (v := (1, 0)) D rfl rfl (by decide +kernel) fun D =>
    j_lcmp (pc := 2) D rfl fun D =>
    j_iflt (pc := 3) D rfl (fun q =>
      have D : fk_D 439 [(13, none, .aload_n 0, 1, 0, 0, 0), (14, none, .bipush 45, 2, 0, 45, 0), (16, none, .invokevirtual 40, 3, 1, 139, 0), (19, none, .lload_n 1, 1, 0, 0, 0), (20, none, .ldc2_w 70, 3, 1, (-9223372036854775808), 0), (23, none, .lcmp, 1, 0, 0, 0), (24, none, .ifCond .le 13, 3, 37, 0, 0), (27, none, .aload_n 0, 1, 0, 0, 0), (28, none, .lload_n 1, 1, 0, 0, 0), (29, none, .lneg, 1, 0, 0, 0), (30, none, .iconst 1, 1, 0, 1, 0), (31, none, .invokevirtual 56, 3, 2, 141, 0), (34, none, .goto 9, 3, 43, 0, 0)] := fq_of2 cd_439 ow_439 cl_439 rfl (pc := 13) (by decide +kernel)
      j_aldn (pc := 13) D rfl rfl rfl fun D =>
      j_bp (pc := 14) D rfl fun D =>
      j_ivv (pc := 16) (m := 29) (dd := 139) (a := [(0, 45)]) (rest := []) D rfl rfl rfl rfl rfl (nz_cls H.2.1 hk (by decide)) hk (by decide +kernel) (fun h1 e1 D =>
        have T := fj_run_ok _ _ _ _ _ _ H.1 e1
        have hk := cls_st H.1 T.2 hk (by decide)
        have H := shp_st H T
        j_lldn (pc := 19) D rfl rfl rfl fun D =>
        j_ldc2 (pc := 20) D rfl fun D =>
        j_lcmp (pc := 23) D rfl fun D =>
        j_ifle (pc := 24) D rfl (fun q D =>
          j_aldn (pc := 27) D rfl rfl rfl fun D =>
          j_lldn (pc := 28) D rfl rfl rfl fun D =>
          j_lneg (pc := 29) D rfl fun D =>
          j_ic (pc := 30) D rfl fun D =>
          j_ivv (pc := 31) (m := 31) (dd := 141) (a := [(1, wJ (-x1)), (0, 1)]) (rest := []) D rfl rfl rfl rfl rfl (nz_cls H.2.1 hk (by decide)) hk (by decide +kernel) (fun h4 e1 D =>
            have T := fj_run_ok _ _ _ _ _ _ H.1 e1
            have hk := cls_st H.1 T.2 hk (by decide)
            have H := shp_st H T
            j_goto (pc := 34) D rfl <|
            have D : fk_D 439 [(43, none, .return_, 1, 0, 0, 0)] := fq_of2 cd_439 ow_439 cl_439 rfl (pc := 43) (by decide +kernel)
            j_vret D rt_439) (fun q6 h4 e1 =>
            j_tx (hx_439 _))) (fun q =>
          have D : fk_D 439 [(37, none, .aload_n 0, 1, 0, 0, 0), (38, none, .ldc 72, 2, 4, 271, 0), (40, none, .invokevirtual 74, 3, 1, 138, 0), (43, none, .return_, 1, 0, 0, 0)] := fq_of2 cd_439 ow_439 cl_439 rfl (pc := 37) (by decide +kernel)
          j_aldn (pc := 37) D rfl rfl rfl fun D =>
          j_ldc (pc := 38) D rfl fun D =>
          j_ivv (pc := 40) (m := 17) (dd := 138) (a := [(4, 271)]) (rest := []) D rfl rfl rfl rfl rfl (nz_cls H.2.1 hk (by decide)) hk (by decide +kernel) (fun h7 e1 D =>
            have T := fj_run_ok _ _ _ _ _ _ H.1 e1
            have hk := cls_st H.1 T.2 hk (by decide)
            have H := shp_st H T
            j_vret D rt_439) (fun q9 h7 e1 =>
            j_tx (hx_439 _)))) (fun q3 h1 e1 =>
        j_tx (hx_439 _))) (fun q D =>
      j_aldn (pc := 6) D rfl rfl rfl fun D =>
      j_lldn (pc := 7) D rfl rfl rfl fun D =>
      j_ic (pc := 8) D rfl fun D =>
      j_ivv (pc := 9) (m := 31) (dd := 141) (a := [(1, x1), (0, 1)]) (rest := []) D rfl rfl rfl rfl rfl (nz_cls H.2.1 hk (by decide)) hk (by decide +kernel) (fun h10 e1 D =>
        have T := fj_run_ok _ _ _ _ _ _ H.1 e1
        have hk := cls_st H.1 T.2 hk (by decide)
        have H := shp_st H T
        j_vret D rt_439) (fun q12 h10 e1 =>
        j_tx (hx_439 _)))
/-! 440 StatuteHouse.changes(IIIIII)I -/
theorem cd_440 : fi_code 440 = prog_1_method_89_code := rfl
theorem hx_440 : ∀ pc, fi_hat 440 pc = none := fun pc => by unfold fi_hat; rw [show fi_hh 440 = [] from rfl]; rfl
theorem rt_440 : fi_ret 440 = some .int := rfl
theorem nl_440 : fi_nl 440 = 15 := rfl
theorem ow_440 : fi_ow 440 = 0 := rfl
theorem cl_440 : fj_cutT.getD 440 [] = [(100, [0, 1, 2, 3, 5, 7, 8]), (137, [0, 1, 2, 3, 5, 7, 8, 9]), (158, [0, 1, 2, 3, 5, 7, 8, 9, 10]), (214, [0, 1, 2, 3, 5, 7, 8, 9, 10, 12]), (270, [0, 1, 2, 3, 5, 7, 8])] := rfl
theorem cut_440_100 : fj_cut 440 100 = some [0, 1, 2, 3, 5, 7, 8] := by decide +kernel
noncomputable def c_440_100 (d : Nat) (x1 x2 x3 x5 x7 x8 : Int) (h : fi_H) : fk_R := gG (fj_run d) 440 100 [(0, (4, 303)), (1, (0, x1)), (2, (0, x2)), (3, (0, x3)), (5, (0, x5)), (7, (4, x7)), (8, (0, x8))] [] h
theorem cut_440_137 : fj_cut 440 137 = some [0, 1, 2, 3, 5, 7, 8, 9] := by decide +kernel
noncomputable def c_440_137 (d : Nat) (x1 x2 x3 x5 x7 x8 x9 s0 : Int) (h : fi_H) : fk_R := gG (fj_run d) 440 137 [(0, (4, 303)), (1, (0, x1)), (2, (0, x2)), (3, (0, x3)), (5, (0, x5)), (7, (4, x7)), (8, (0, x8)), (9, (0, x9))] [(1, s0)] h
theorem cut_440_158 : fj_cut 440 158 = some [0, 1, 2, 3, 5, 7, 8, 9, 10] := by decide +kernel
noncomputable def c_440_158 (d : Nat) (x1 x2 x3 x5 x7 x8 x9 x10 s0 : Int) (h : fi_H) : fk_R := gG (fj_run d) 440 158 [(0, (4, 303)), (1, (0, x1)), (2, (0, x2)), (3, (0, x3)), (5, (0, x5)), (7, (4, x7)), (8, (0, x8)), (9, (0, x9)), (10, (1, x10))] [(1, s0)] h
theorem cut_440_214 : fj_cut 440 214 = some [0, 1, 2, 3, 5, 7, 8, 9, 10, 12] := by decide +kernel
noncomputable def c_440_214 (d : Nat) (x1 x2 x3 x5 x7 x8 x9 x10 x12 : Int) (h : fi_H) : fk_R := gG (fj_run d) 440 214 [(0, (4, 303)), (1, (0, x1)), (2, (0, x2)), (3, (0, x3)), (5, (0, x5)), (7, (4, x7)), (8, (0, x8)), (9, (0, x9)), (10, (1, x10)), (12, (1, x12))] [] h
theorem cut_440_270 : fj_cut 440 270 = some [0, 1, 2, 3, 5, 7, 8] := by decide +kernel
noncomputable def c_440_270 (d : Nat) (x1 x2 x3 x5 x7 x8 : Int) (h : fi_H) : fk_R := gG (fj_run d) 440 270 [(0, (4, 303)), (1, (0, x1)), (2, (0, x2)), (3, (0, x3)), (5, (0, x5)), (7, (4, x7)), (8, (0, x8))] [] h
theorem e_440_100 (d : Nat) (x1 x2 x3 x5 x7 x8 : Int) {h : fi_H} (H : Shp h) : c_440_100 d x1 x2 x3 x5 x7 x8 h =
  if x5 < x8 then
    some (.inl (some (0, h 286 303 0)), h)
  else
    ca_ (fj_run d 441 h [(4, 303), (0, x1), (0, x2), (0, x3), (0, x8)]) 0
      (fun v2 h1 =>
      if v2 = 0 then
        ca_ (fj_run d 322 h1 [(4, 309), (0, 0), (4, x7)]) 1
          (fun v5 h4 =>
          c_440_137 d x1 x2 x3 x5 x7 x8 v2 v5 h4)
          (fun q6 h4 => tx_ q6 h4)
      else
        c_440_137 d x1 x2 x3 x5 x7 x8 v2 0 h1)
      (fun q3 h1 => tx_ q3 h1) := by
  unfold c_440_100
  exact
    have D : fk_D 440 [(100, some [0, 1, 2, 3, 5, 7, 8], .iload 8, 2, 0, 0, 0), (102, none, .iload 5, 2, 0, 0, 0), (104, none, .if_icmp .gt 172, 3, 276, 0, 0), (107, none, .aload_n 0, 1, 0, 0, 0), (108, none, .iload_n 1, 1, 0, 0, 0), (109, none, .iload_n 2, 1, 0, 0, 0), (110, none, .iload_n 3, 1, 0, 0, 0), (111, none, .iload 8, 2, 0, 0, 0), (113, none, .invokevirtual 1002, 3, 4, 185, 1), (116, none, .istore 9, 2, 0, 0, 0), (118, none, .iload 9, 2, 0, 0, 0), (120, none, .ifCond .ne 16, 3, 136, 0, 0), (123, none, .aload_n 0, 1, 0, 0, 0), (124, none, .getfield 113, 3, 213, 100, 12), (127, none, .iconst 0, 1, 0, 0, 0), (128, none, .aload 7, 2, 0, 0, 0), (130, none, .invokevirtual 200, 3, 2, 124, 2), (133, none, .goto 4, 3, 137, 0, 0)] := fq_of2 cd_440 ow_440 cl_440 rfl (pc := 100) (by decide +kernel)
    j_ild (pc := 100) D rfl rfl rfl fun D =>
    j_ild (pc := 102) D rfl rfl rfl fun D =>
    j_igt (pc := 104) D rfl (fun q =>
      have D : fk_D 440 [(276, none, .aload_n 0, 1, 0, 0, 0), (277, none, .getfield 999, 3, 286, 100, 10), (280, none, .ireturn, 1, 0, 0, 0)] := fq_of2 cd_440 ow_440 cl_440 rfl (pc := 276) (by decide +kernel)
      j_aldn (pc := 276) D rfl rfl rfl fun D =>
      j_gf (pc := 277) (a := 303) D rfl rfl (by decide) rfl (s0_303 H) rfl fun D =>
      j_iret D rt_440) (fun q D =>
      j_aldn (pc := 107) D rfl rfl rfl fun D =>
      j_ildn (pc := 108) D rfl rfl rfl fun D =>
      j_ildn (pc := 109) D rfl rfl rfl fun D =>
      j_ildn (pc := 110) D rfl rfl rfl fun D =>
      j_ild (pc := 111) D rfl rfl rfl fun D =>
      j_iv (pc := 113) (m := 441) (dd := 185) (a := [(0, x1), (0, x2), (0, x3), (0, x8)]) (rest := []) D rfl rfl rfl rfl rfl (by decide) (s0_303 H) (by decide +kernel) (fun v2 h1 e1 D =>
        have T := fj_run_ok _ _ _ _ _ _ H.1 e1
        have H := shp_st H T
        j_ist (pc := 116) (L' := [(9, (0, v2)), (0, (4, 303)), (1, (0, x1)), (2, (0, x2)), (3, (0, x3)), (5, (0, x5)), (7, (4, x7)), (8, (0, x8))]) D rfl nl_440 rfl rfl fun D =>
        j_ild (pc := 118) D rfl rfl rfl fun D =>
        j_ifne (pc := 120) D rfl (fun q D =>
          j_aldn (pc := 123) D rfl rfl rfl fun D =>
          j_gfc (pc := 124) (a := 303) D rfl rfl (by decide) rfl (s0_303 H) rfl (sf_213_303 H) fun D =>
          j_ic (pc := 127) D rfl fun D =>
          j_ald (pc := 128) D rfl rfl rfl fun D =>
          j_iv (pc := 130) (m := 322) (dd := 124) (a := [(0, 0), (4, x7)]) (rest := []) D rfl rfl rfl rfl rfl (by decide) (s0_309 H) (by decide +kernel) (fun v5 h4 e1 D =>
            have T := fj_run_ok _ _ _ _ _ _ H.1 e1
            have H := shp_st H T
            j_goto (pc := 133) D rfl <|
            fk_jump cut_440_137 rfl rfl) (fun q6 h4 e1 =>
            j_tx (hx_440 _))) (fun q =>
          have D : fk_D 440 [(136, none, .lconst 0, 1, 0, 0, 0)] := fq_of2 cd_440 ow_440 cl_440 rfl (pc := 136) (by decide +kernel)
          j_c0 (pc := 136) (v := (1, 0)) D rfl rfl (by decide +kernel) fun D =>
          fk_jump cut_440_137 rfl rfl)) (fun q3 h1 e1 =>
        j_tx (hx_440 _)))
theorem e_440_137 (d : Nat) (x1 x2 x3 x5 x7 x8 x9 s0 : Int) {h : fi_H} (H : Shp h) : c_440_137 d x1 x2 x3 x5 x7 x8 x9 s0 h =
  if x9 = 0 then
    ca_ (fj_run d 325 h [(4, 309), (0, 0), (4, x7)]) 1
      (fun v2 h1 =>
      c_440_158 d x1 x2 x3 x5 x7 x8 x9 s0 v2 h1)
      (fun q3 h1 => tx_ q3 h1)
  else
    c_440_158 d x1 x2 x3 x5 x7 x8 x9 s0 0 h := by
  unfold c_440_137
  exact
    have D : fk_D 440 [(137, some [0, 1, 2, 3, 5, 7, 8, 9], .lstore 10, 2, 0, 0, 0), (139, none, .iload 9, 2, 0, 0, 0), (141, none, .ifCond .ne 16, 3, 157, 0, 0), (144, none, .aload_n 0, 1, 0, 0, 0), (145, none, .getfield 113, 3, 213, 100, 12), (148, none, .iconst 0, 1, 0, 0, 0), (149, none, .aload 7, 2, 0, 0, 0), (151, none, .invokevirtual 448, 3, 2, 137, 2), (154, none, .goto 4, 3, 158, 0, 0)] := fq_of2 cd_440 ow_440 cl_440 rfl (pc := 137) (by decide +kernel)
    j_lst (pc := 137) (L' := [(10, (1, s0)), (0, (4, 303)), (1, (0, x1)), (2, (0, x2)), (3, (0, x3)), (5, (0, x5)), (7, (4, x7)), (8, (0, x8)), (9, (0, x9))]) D rfl nl_440 rfl rfl fun D =>
    j_ild (pc := 139) D rfl rfl rfl fun D =>
    j_ifne (pc := 141) D rfl (fun q D =>
      j_aldn (pc := 144) D rfl rfl rfl fun D =>
      j_gfc (pc := 145) (a := 303) D rfl rfl (by decide) rfl (s0_303 H) rfl (sf_213_303 H) fun D =>
      j_ic (pc := 148) D rfl fun D =>
      j_ald (pc := 149) D rfl rfl rfl fun D =>
      j_iv (pc := 151) (m := 325) (dd := 137) (a := [(0, 0), (4, x7)]) (rest := []) D rfl rfl rfl rfl rfl (by decide) (s0_309 H) (by decide +kernel) (fun v2 h1 e1 D =>
        have T := fj_run_ok _ _ _ _ _ _ H.1 e1
        have H := shp_st H T
        j_goto (pc := 154) D rfl <|
        fk_jump cut_440_158 rfl rfl) (fun q3 h1 e1 =>
        j_tx (hx_440 _))) (fun q =>
      have D : fk_D 440 [(157, none, .lconst 0, 1, 0, 0, 0)] := fq_of2 cd_440 ow_440 cl_440 rfl (pc := 157) (by decide +kernel)
      j_c0 (pc := 157) (v := (1, 0)) D rfl rfl (by decide +kernel) fun D =>
      fk_jump cut_440_158 rfl rfl)
theorem e_440_158 (d : Nat) (x1 x2 x3 x5 x7 x8 x9 x10 s0 : Int) {h : fi_H} (H : Shp h) : c_440_158 d x1 x2 x3 x5 x7 x8 x9 x10 s0 h =
  if wI ((h 286 303 0) - 1) < 0 then
    c_440_214 d x1 x2 x3 x5 x7 x8 x9 x10 s0 h
  else
    if 0 ≤ wI ((h 286 303 0) - 1) ∧ wI ((h 286 303 0) - 1) < 400 then
    if h 8 450 (wI ((h 286 303 0) - 1)).toNat = x9 then
      if lc_ (h 11 451 (wI ((h 286 303 0) - 1)).toNat) x10 = 0 then
        if lc_ (h 11 452 (wI ((h 286 303 0) - 1)).toNat) s0 = 0 then
          c_440_270 d x1 x2 x3 x5 x7 x8 h
        else
          c_440_214 d x1 x2 x3 x5 x7 x8 x9 x10 s0 h
      else
        c_440_214 d x1 x2 x3 x5 x7 x8 x9 x10 s0 h
    else
      c_440_214 d x1 x2 x3 x5 x7 x8 x9 x10 s0 h
    else none := by
  unfold c_440_158
  exact
    have D : fk_D 440 [(158, some [0, 1, 2, 3, 5, 7, 8, 9, 10], .lstore 12, 2, 0, 0, 0), (160, none, .aload_n 0, 1, 0, 0, 0), (161, none, .getfield 999, 3, 286, 100, 10), (164, none, .iconst 1, 1, 0, 1, 0), (165, none, .isub, 1, 0, 0, 0), (166, none, .istore 14, 2, 0, 0, 0), (168, none, .iload 14, 2, 0, 0, 0), (170, none, .ifCond .lt 44, 3, 214, 0, 0), (173, none, .aload_n 0, 1, 0, 0, 0), (174, none, .getfield 692, 3, 283, 100, 12), (177, none, .iload 14, 2, 0, 0, 0), (179, none, .baload, 1, 0, 0, 0), (180, none, .iload 9, 2, 0, 0, 0), (182, none, .if_icmp .ne 32, 3, 214, 0, 0), (185, none, .aload_n 0, 1, 0, 0, 0), (186, none, .getfield 695, 3, 284, 100, 12), (189, none, .iload 14, 2, 0, 0, 0), (191, none, .laload, 1, 0, 0, 0), (192, none, .lload 10, 2, 0, 0, 0), (194, none, .lcmp, 1, 0, 0, 0)] := fq_of2 cd_440 ow_440 cl_440 rfl (pc := 158) (by decide +kernel)
    j_lst (pc := 158) (L' := [(12, (1, s0)), (0, (4, 303)), (1, (0, x1)), (2, (0, x2)), (3, (0, x3)), (5, (0, x5)), (7, (4, x7)), (8, (0, x8)), (9, (0, x9)), (10, (1, x10))]) D rfl nl_440 rfl rfl fun D =>
    j_aldn (pc := 160) D rfl rfl rfl fun D =>
    j_gf (pc := 161) (a := 303) D rfl rfl (by decide) rfl (s0_303 H) rfl fun D =>
    j_ic (pc := 164) D rfl fun D =>
    j_isub (pc := 165) D rfl fun D =>
    j_ist (pc := 166) (L' := [(14, (0, wI ((h 286 303 0) - 1))), (12, (1, s0)), (0, (4, 303)), (1, (0, x1)), (2, (0, x2)), (3, (0, x3)), (5, (0, x5)), (7, (4, x7)), (8, (0, x8)), (9, (0, x9)), (10, (1, x10))]) D rfl nl_440 rfl rfl fun D =>
    j_ild (pc := 168) D rfl rfl rfl fun D =>
    j_iflt (pc := 170) D rfl (fun q =>
      fk_jump cut_440_214 rfl rfl) (fun q D =>
      j_aldn (pc := 173) D rfl rfl rfl fun D =>
      j_gfc (pc := 174) (a := 303) D rfl rfl (by decide) rfl (s0_303 H) rfl (sf_283_303 H) fun D =>
      j_ild (pc := 177) D rfl rfl rfl fun D =>
      j_al (pc := 179) (a := 450) (e := 8) D rfl rfl rfl (by decide) (s0_450 H) (s1_450 H) ⟨rfl, rfl, rfl⟩ rfl gn fun qb1 D =>
      j_ild (pc := 180) D rfl rfl rfl fun D =>
      j_ine (pc := 182) D rfl (fun q D =>
        j_aldn (pc := 185) D rfl rfl rfl fun D =>
        j_gfc (pc := 186) (a := 303) D rfl rfl (by decide) rfl (s0_303 H) rfl (sf_284_303 H) fun D =>
        j_ild (pc := 189) D rfl rfl rfl fun D =>
        j_al (pc := 191) (a := 451) (e := 11) D rfl rfl rfl (by decide) (s0_451 H) (s1_451 H) ⟨rfl, rfl, rfl⟩ rfl (gy qb1) fun q D =>
        j_lld (pc := 192) D rfl rfl rfl fun D =>
        j_lcmp (pc := 194) D rfl fun D =>
        have D : fk_D 440 [(195, none, .ifCond .ne 19, 3, 214, 0, 0), (198, none, .aload_n 0, 1, 0, 0, 0), (199, none, .getfield 698, 3, 285, 100, 12), (202, none, .iload 14, 2, 0, 0, 0), (204, none, .laload, 1, 0, 0, 0), (205, none, .lload 12, 2, 0, 0, 0), (207, none, .lcmp, 1, 0, 0, 0), (208, none, .ifCond .ne 6, 3, 214, 0, 0), (211, none, .goto 59, 3, 270, 0, 0)] := fq_of2 cd_440 ow_440 cl_440 rfl (pc := 195) (by decide +kernel)
        j_ifne (pc := 195) D rfl (fun q D =>
          j_aldn (pc := 198) D rfl rfl rfl fun D =>
          j_gfc (pc := 199) (a := 303) D rfl rfl (by decide) rfl (s0_303 H) rfl (sf_285_303 H) fun D =>
          j_ild (pc := 202) D rfl rfl rfl fun D =>
          j_al (pc := 204) (a := 452) (e := 11) D rfl rfl rfl (by decide) (s0_452 H) (s1_452 H) ⟨rfl, rfl, rfl⟩ rfl (gy qb1) fun q D =>
          j_lld (pc := 205) D rfl rfl rfl fun D =>
          j_lcmp (pc := 207) D rfl fun D =>
          j_ifne (pc := 208) D rfl (fun q D =>
            j_goto (pc := 211) D rfl <|
            fk_jump cut_440_270 rfl rfl) (fun q =>
            fk_jump cut_440_214 rfl rfl)) (fun q =>
          fk_jump cut_440_214 rfl rfl)) (fun q =>
        fk_jump cut_440_214 rfl rfl))
theorem e_440_214 (d : Nat) (x1 x2 x3 x5 x7 x8 x9 x10 x12 : Int) {h : fi_H} (H : Shp h) : c_440_214 d x1 x2 x3 x5 x7 x8 x9 x10 x12 h =
  if 0 ≤ h 286 303 0 ∧ h 286 303 0 < 400 then
  lt_ (fi_upd h 5 449 (h 286 303 0).toNat (wC x8)) fun h1 =>
  if 0 ≤ h1 286 303 0 ∧ h1 286 303 0 < 400 then
  lt_ (fi_upd h1 8 450 (h1 286 303 0).toNat (wB x9)) fun h3 =>
  if 0 ≤ h3 286 303 0 ∧ h3 286 303 0 < 400 then
  lt_ (fi_upd h3 11 451 (h3 286 303 0).toNat x10) fun h5 =>
  if 0 ≤ h5 286 303 0 ∧ h5 286 303 0 < 400 then
  lt_ (fi_upd h5 11 452 (h5 286 303 0).toNat x12) fun h7 =>
  lt_ (fi_upd h7 286 303 0 (wI ((h7 286 303 0) + 1))) fun h9 =>
  c_440_270 d x1 x2 x3 x5 x7 x8 h9
  else none
  else none
  else none
  else none := by
  unfold c_440_214
  exact
    have D : fk_D 440 [(214, some [0, 1, 2, 3, 5, 7, 8, 9, 10, 12], .aload_n 0, 1, 0, 0, 0), (215, none, .getfield 689, 3, 282, 100, 12), (218, none, .aload_n 0, 1, 0, 0, 0), (219, none, .getfield 999, 3, 286, 100, 10), (222, none, .iload 8, 2, 0, 0, 0), (224, none, .i2c, 1, 0, 0, 0), (225, none, .castore, 1, 0, 0, 0), (226, none, .aload_n 0, 1, 0, 0, 0), (227, none, .getfield 692, 3, 283, 100, 12), (230, none, .aload_n 0, 1, 0, 0, 0), (231, none, .getfield 999, 3, 286, 100, 10), (234, none, .iload 9, 2, 0, 0, 0), (236, none, .i2b, 1, 0, 0, 0), (237, none, .bastore, 1, 0, 0, 0), (238, none, .aload_n 0, 1, 0, 0, 0), (239, none, .getfield 695, 3, 284, 100, 12), (242, none, .aload_n 0, 1, 0, 0, 0), (243, none, .getfield 999, 3, 286, 100, 10), (246, none, .lload 10, 2, 0, 0, 0), (248, none, .lastore, 1, 0, 0, 0)] := fq_of2 cd_440 ow_440 cl_440 rfl (pc := 214) (by decide +kernel)
    j_aldn (pc := 214) D rfl rfl rfl fun D =>
    j_gfc (pc := 215) (a := 303) D rfl rfl (by decide) rfl (s0_303 H) rfl (sf_282_303 H) fun D =>
    j_aldn (pc := 218) D rfl rfl rfl fun D =>
    j_gf (pc := 219) (a := 303) D rfl rfl (by decide) rfl (s0_303 H) rfl fun D =>
    j_ild (pc := 222) D rfl rfl rfl fun D =>
    j_i2c (pc := 224) D rfl fun D =>
    j_as (pc := 225) (a := 449) (e := 5) D rfl ⟨rfl, rfl⟩ rfl (by decide) (s0_449 H) (s1_449 H) ⟨rfl, rfl, rfl⟩ rfl gn (gy (fk_rgC _)) fun h1 eh1 S qb2 D =>
    have T := fj_hs_ok H.1 S
    have H := shp_st H T
    j_aldn (pc := 226) D rfl rfl rfl fun D =>
    j_gfc (pc := 227) (a := 303) D rfl rfl (by decide) rfl (s0_303 H) rfl (sf_283_303 H) fun D =>
    j_aldn (pc := 230) D rfl rfl rfl fun D =>
    j_gf (pc := 231) (a := 303) D rfl rfl (by decide) rfl (s0_303 H) rfl fun D =>
    j_ild (pc := 234) D rfl rfl rfl fun D =>
    j_i2b (pc := 236) D rfl fun D =>
    j_as (pc := 237) (a := 450) (e := 8) D rfl ⟨rfl, rfl⟩ rfl (by decide) (s0_450 H) (s1_450 H) ⟨rfl, rfl, rfl⟩ rfl gn (gy (fk_rgB _)) fun h3 eh3 S qb4 D =>
    have T := fj_hs_ok H.1 S
    have H := shp_st H T
    j_aldn (pc := 238) D rfl rfl rfl fun D =>
    j_gfc (pc := 239) (a := 303) D rfl rfl (by decide) rfl (s0_303 H) rfl (sf_284_303 H) fun D =>
    j_aldn (pc := 242) D rfl rfl rfl fun D =>
    j_gf (pc := 243) (a := 303) D rfl rfl (by decide) rfl (s0_303 H) rfl fun D =>
    j_lld (pc := 246) D rfl rfl rfl fun D =>
    j_as (pc := 248) (a := 451) (e := 11) D rfl ⟨rfl, rfl⟩ rfl (by decide) (s0_451 H) (s1_451 H) ⟨rfl, rfl, rfl⟩ rfl gn (gy rfl) fun h5 eh5 S qb6 D =>
    have T := fj_hs_ok H.1 S
    have H := shp_st H T
    have D : fk_D 440 [(249, none, .aload_n 0, 1, 0, 0, 0), (250, none, .getfield 698, 3, 285, 100, 12), (253, none, .aload_n 0, 1, 0, 0, 0), (254, none, .getfield 999, 3, 286, 100, 10), (257, none, .lload 12, 2, 0, 0, 0), (259, none, .lastore, 1, 0, 0, 0), (260, none, .aload_n 0, 1, 0, 0, 0), (261, none, .dup, 1, 0, 0, 0), (262, none, .getfield 999, 3, 286, 100, 10), (265, none, .iconst 1, 1, 0, 1, 0), (266, none, .iadd, 1, 0, 0, 0), (267, none, .putfield 999, 3, 286, 100, 10)] := fq_of2 cd_440 ow_440 cl_440 rfl (pc := 249) (by decide +kernel)
    j_aldn (pc := 249) D rfl rfl rfl fun D =>
    j_gfc (pc := 250) (a := 303) D rfl rfl (by decide) rfl (s0_303 H) rfl (sf_285_303 H) fun D =>
    j_aldn (pc := 253) D rfl rfl rfl fun D =>
    j_gf (pc := 254) (a := 303) D rfl rfl (by decide) rfl (s0_303 H) rfl fun D =>
    j_lld (pc := 257) D rfl rfl rfl fun D =>
    j_as (pc := 259) (a := 452) (e := 11) D rfl ⟨rfl, rfl⟩ rfl (by decide) (s0_452 H) (s1_452 H) ⟨rfl, rfl, rfl⟩ rfl gn (gy rfl) fun h7 eh7 S qb8 D =>
    have T := fj_hs_ok H.1 S
    have H := shp_st H T
    j_aldn (pc := 260) D rfl rfl rfl fun D =>
    j_sh (pc := 261) D rfl rfl rfl fun D =>
    j_gf (pc := 262) (a := 303) D rfl rfl (by decide) rfl (s0_303 H) rfl fun D =>
    j_ic (pc := 265) D rfl fun D =>
    j_iadd (pc := 266) D rfl fun D =>
    j_pf (pc := 267) (a := 303) D rfl rfl rfl (s0_303 H) rfl rfl (gy (by decide)) (gy rfl) fun h9 eh9 S D =>
    have T := fj_hs_ok H.1 S
    have H := shp_st H T
    fk_jump cut_440_270 rfl rfl
theorem e_440_270 (d : Nat) (x1 x2 x3 x5 x7 x8 : Int) {h : fi_H} (H : Shp h) : c_440_270 d x1 x2 x3 x5 x7 x8 h =
  c_440_100 d x1 x2 x3 x5 x7 (wI (x8 + 1)) h := by
  unfold c_440_270
  exact
    have D : fk_D 440 [(270, some [0, 1, 2, 3, 5, 7, 8], .iinc 8 1, 3, 0, 1, 0), (273, none, .goto (-173), 3, 100, 0, 0)] := fq_of2 cd_440 ow_440 cl_440 rfl (pc := 270) (by decide +kernel)
    j_inc (pc := 270) (L' := [(8, (0, wI (x8 + 1))), (0, (4, 303)), (1, (0, x1)), (2, (0, x2)), (3, (0, x3)), (5, (0, x5)), (7, (4, x7))]) D rfl rfl rfl (by decide +kernel) rfl fun D =>
    j_goto (pc := 273) D rfl <|
    fk_jump cut_440_100 rfl rfl
theorem m_440 (d : Nat) (x1 x2 x3 x4 x5 x6 : Int) {h : fi_H} (H : Shp h) : fj_run (d + 1) 440 h [(4, 303), (0, x1), (0, x2), (0, x3), (0, x4), (0, x5), (0, x6)] =
  ca_ (fj_run d 71 h [(4, 303), (0, x2)]) 0
    (fun v2 h1 =>
    if v2 = 0 then
      some (.inl (some (0, (-1))), h1)
    else
      ca_ (fj_run d 1 h1 [(0, x1)]) 0
        (fun v5 h4 =>
        if v5 = 0 then
          some (.inl (some (0, (-2))), h4)
        else
          ca_ (fj_run d 303 h4 [(4, 303), (0, x3)]) 0
            (fun v8 h7 =>
            if v8 = 0 then
              some (.inl (some (0, (-2))), h7)
            else
              ca_ (fj_run d 2 h7 [(4, 303), (0, x4)]) 0
                (fun v11 h10 =>
                if v11 = 0 then
                  some (.inl (some (0, (-2))), h10)
                else
                  ca_ (fj_run d 2 h10 [(4, 303), (0, x5)]) 0
                    (fun v14 h13 =>
                    if v14 = 0 then
                      some (.inl (some (0, (-2))), h13)
                    else
                      if x5 < x4 then
                        some (.inl (some (0, (-2))), h13)
                      else
                        if wI (x5 - x4) < 400 then
                          ca_ (fj_run d 2 h13 [(4, 303), (0, x6)]) 0
                            (fun v17 h16 =>
                            if v17 = 0 then
                              some (.inl (some (0, (-2))), h16)
                            else
                              cv_ (fj_run d 307 h16 [(4, 303), (0, x6), (0, 1)])
                                (fun h19 =>
                                if 0 ≤ x2 ∧ x2 < 40 then
                                if h19 0 (h19 12 320 x2.toNat).toNat 0 = 124 then
                                lt_ (fi_upd h19 286 303 0 0) fun h24 =>
                                c_440_100 d x1 x2 x3 x5 (h19 324 (h19 12 320 x2.toNat).toNat 0) x4 h24
                                else none
                                else none)
                                (fun q21 h19 => tx_ q21 h19))
                            (fun q18 h16 => tx_ q18 h16)
                        else
                          some (.inl (some (0, (-2))), h13))
                    (fun q15 h13 => tx_ q15 h13))
                (fun q12 h10 => tx_ q12 h10))
            (fun q9 h7 => tx_ q9 h7))
        (fun q6 h4 => tx_ q6 h4))
    (fun q3 h1 => tx_ q3 h1) := by
  rw [fj_run_eq d (by decide) h [(4, 303), (0, x1), (0, x2), (0, x3), (0, x4), (0, x5), (0, x6)] (Nat.le_of_ble_eq_true (by rw [nl_440]; rfl))]
  show gG (fj_run d) 440 0 [(0, (4, 303)), (1, (0, x1)), (2, (0, x2)), (3, (0, x3)), (4, (0, x4)), (5, (0, x5)), (6, (0, x6))] [] h = _
  exact
    have D : fk_D 440 [(0, none, .aload_n 0, 1, 0, 0, 0), (1, none, .iload_n 2, 1, 0, 0, 0), (2, none, .invokevirtual 613, 3, 1, 155, 1), (5, none, .ifCond .ne 5, 3, 10, 0, 0), (8, none, .iconst (-1), 1, 0, (-1), 0), (9, none, .ireturn, 1, 0, 0, 0)] := fq_of2 cd_440 ow_440 cl_440 rfl (pc := 0) (by decide +kernel)
    j_aldn (pc := 0) D rfl rfl rfl fun D =>
    j_ildn (pc := 1) D rfl rfl rfl fun D =>
    j_iv (pc := 2) (m := 71) (dd := 155) (a := [(0, x2)]) (rest := []) D rfl rfl rfl rfl rfl (by decide) (s0_303 H) (by decide +kernel) (fun v2 h1 e1 D =>
      have T := fj_run_ok _ _ _ _ _ _ H.1 e1
      have H := shp_st H T
      j_ifne (pc := 5) D rfl (fun q D =>
        j_ic (pc := 8) D rfl fun D =>
        j_iret D rt_440) (fun q =>
        have D : fk_D 440 [(10, none, .iload_n 1, 1, 0, 0, 0), (11, none, .invokestatic 526, 3, 1, 1, 1), (14, none, .ifCond .eq 56, 3, 70, 0, 0), (17, none, .aload_n 0, 1, 0, 0, 0), (18, none, .iload_n 3, 1, 0, 0, 0), (19, none, .invokevirtual 870, 3, 1, 167, 1), (22, none, .ifCond .eq 48, 3, 70, 0, 0), (25, none, .aload_n 0, 1, 0, 0, 0), (26, none, .iload 4, 2, 0, 0, 0), (28, none, .invokevirtual 121, 3, 1, 113, 1), (31, none, .ifCond .eq 39, 3, 70, 0, 0), (34, none, .aload_n 0, 1, 0, 0, 0), (35, none, .iload 5, 2, 0, 0, 0), (37, none, .invokevirtual 121, 3, 1, 113, 1), (40, none, .ifCond .eq 30, 3, 70, 0, 0), (43, none, .iload 5, 2, 0, 0, 0), (45, none, .iload 4, 2, 0, 0, 0), (47, none, .if_icmp .lt 23, 3, 70, 0, 0), (50, none, .iload 5, 2, 0, 0, 0), (52, none, .iload 4, 2, 0, 0, 0)] := fq_of2 cd_440 ow_440 cl_440 rfl (pc := 10) (by decide +kernel)
        j_ildn (pc := 10) D rfl rfl rfl fun D =>
        j_is (pc := 11) (m := 1) (a := [(0, x1)]) (rest := []) D rfl rfl rfl rfl (fun v5 h4 e1 D =>
          have T := fj_run_ok _ _ _ _ _ _ H.1 e1
          have H := shp_st H T
          j_ifeq (pc := 14) D rfl (fun q =>
            have D : fk_D 440 [(70, none, .bipush (-2), 2, 0, (-2), 0), (72, none, .ireturn, 1, 0, 0, 0)] := fq_of2 cd_440 ow_440 cl_440 rfl (pc := 70) (by decide +kernel)
            j_bp (pc := 70) D rfl fun D =>
            j_iret D rt_440) (fun q D =>
            j_aldn (pc := 17) D rfl rfl rfl fun D =>
            j_ildn (pc := 18) D rfl rfl rfl fun D =>
            j_iv (pc := 19) (m := 303) (dd := 167) (a := [(0, x3)]) (rest := []) D rfl rfl rfl rfl rfl (by decide) (s0_303 H) (by decide +kernel) (fun v8 h7 e1 D =>
              have T := fj_run_ok _ _ _ _ _ _ H.1 e1
              have H := shp_st H T
              j_ifeq (pc := 22) D rfl (fun q =>
                have D : fk_D 440 [(70, none, .bipush (-2), 2, 0, (-2), 0), (72, none, .ireturn, 1, 0, 0, 0)] := fq_of2 cd_440 ow_440 cl_440 rfl (pc := 70) (by decide +kernel)
                j_bp (pc := 70) D rfl fun D =>
                j_iret D rt_440) (fun q D =>
                j_aldn (pc := 25) D rfl rfl rfl fun D =>
                j_ild (pc := 26) D rfl rfl rfl fun D =>
                j_iv (pc := 28) (m := 2) (dd := 113) (a := [(0, x4)]) (rest := []) D rfl rfl rfl rfl rfl (by decide) (s0_303 H) (by decide +kernel) (fun v11 h10 e1 D =>
                  have T := fj_run_ok _ _ _ _ _ _ H.1 e1
                  have H := shp_st H T
                  j_ifeq (pc := 31) D rfl (fun q =>
                    have D : fk_D 440 [(70, none, .bipush (-2), 2, 0, (-2), 0), (72, none, .ireturn, 1, 0, 0, 0)] := fq_of2 cd_440 ow_440 cl_440 rfl (pc := 70) (by decide +kernel)
                    j_bp (pc := 70) D rfl fun D =>
                    j_iret D rt_440) (fun q D =>
                    j_aldn (pc := 34) D rfl rfl rfl fun D =>
                    j_ild (pc := 35) D rfl rfl rfl fun D =>
                    j_iv (pc := 37) (m := 2) (dd := 113) (a := [(0, x5)]) (rest := []) D rfl rfl rfl rfl rfl (by decide) (s0_303 H) (by decide +kernel) (fun v14 h13 e1 D =>
                      have T := fj_run_ok _ _ _ _ _ _ H.1 e1
                      have H := shp_st H T
                      j_ifeq (pc := 40) D rfl (fun q =>
                        have D : fk_D 440 [(70, none, .bipush (-2), 2, 0, (-2), 0), (72, none, .ireturn, 1, 0, 0, 0)] := fq_of2 cd_440 ow_440 cl_440 rfl (pc := 70) (by decide +kernel)
                        j_bp (pc := 70) D rfl fun D =>
                        j_iret D rt_440) (fun q D =>
                        j_ild (pc := 43) D rfl rfl rfl fun D =>
                        j_ild (pc := 45) D rfl rfl rfl fun D =>
                        j_ilt (pc := 47) D rfl (fun q =>
                          have D : fk_D 440 [(70, none, .bipush (-2), 2, 0, (-2), 0), (72, none, .ireturn, 1, 0, 0, 0)] := fq_of2 cd_440 ow_440 cl_440 rfl (pc := 70) (by decide +kernel)
                          j_bp (pc := 70) D rfl fun D =>
                          j_iret D rt_440) (fun q D =>
                          j_ild (pc := 50) D rfl rfl rfl fun D =>
                          j_ild (pc := 52) D rfl rfl rfl fun D =>
                          have D : fk_D 440 [(54, none, .isub, 1, 0, 0, 0), (55, none, .sipush 400, 3, 0, 400, 0), (58, none, .if_icmp .ge 12, 3, 70, 0, 0), (61, none, .aload_n 0, 1, 0, 0, 0), (62, none, .iload 6, 2, 0, 0, 0), (64, none, .invokevirtual 121, 3, 1, 113, 1), (67, none, .ifCond .ne 6, 3, 73, 0, 0), (70, none, .bipush (-2), 2, 0, (-2), 0), (72, none, .ireturn, 1, 0, 0, 0)] := fq_of2 cd_440 ow_440 cl_440 rfl (pc := 54) (by decide +kernel)
                          j_isub (pc := 54) D rfl fun D =>
                          j_sp (pc := 55) D rfl fun D =>
                          j_ige (pc := 58) D rfl (fun q D =>
                            j_aldn (pc := 61) D rfl rfl rfl fun D =>
                            j_ild (pc := 62) D rfl rfl rfl fun D =>
                            j_iv (pc := 64) (m := 2) (dd := 113) (a := [(0, x6)]) (rest := []) D rfl rfl rfl rfl rfl (by decide) (s0_303 H) (by decide +kernel) (fun v17 h16 e1 D =>
                              have T := fj_run_ok _ _ _ _ _ _ H.1 e1
                              have H := shp_st H T
                              j_ifne (pc := 67) D rfl (fun q D =>
                                j_bp (pc := 70) D rfl fun D =>
                                j_iret D rt_440) (fun q =>
                                have D : fk_D 440 [(73, none, .aload_n 0, 1, 0, 0, 0), (74, none, .iload 6, 2, 0, 0, 0), (76, none, .iconst 1, 1, 0, 1, 0), (77, none, .invokevirtual 881, 3, 2, 170, 0), (80, none, .aload_n 0, 1, 0, 0, 0), (81, none, .getfield 255, 3, 214, 100, 12), (84, none, .iload_n 2, 1, 0, 0, 0), (85, none, .aaload, 1, 0, 0, 0), (86, none, .getfield 283, 3, 324, (-124), 12), (89, none, .astore 7, 2, 0, 0, 0), (91, none, .aload_n 0, 1, 0, 0, 0), (92, none, .iconst 0, 1, 0, 0, 0), (93, none, .putfield 999, 3, 286, 100, 10), (96, none, .iload 4, 2, 0, 0, 0), (98, none, .istore 8, 2, 0, 0, 0)] := fq_of2 cd_440 ow_440 cl_440 rfl (pc := 73) (by decide +kernel)
                                j_aldn (pc := 73) D rfl rfl rfl fun D =>
                                j_ild (pc := 74) D rfl rfl rfl fun D =>
                                j_ic (pc := 76) D rfl fun D =>
                                j_ivv (pc := 77) (m := 307) (dd := 170) (a := [(0, x6), (0, 1)]) (rest := []) D rfl rfl rfl rfl rfl (by decide) (s0_303 H) (by decide +kernel) (fun h19 e1 D =>
                                  have T := fj_run_ok _ _ _ _ _ _ H.1 e1
                                  have H := shp_st H T
                                  j_aldn (pc := 80) D rfl rfl rfl fun D =>
                                  j_gfc (pc := 81) (a := 303) D rfl rfl (by decide) rfl (s0_303 H) rfl (sf_214_303 H) fun D =>
                                  j_ildn (pc := 84) D rfl rfl rfl fun D =>
                                  j_al (pc := 85) (a := 320) (e := 12) D rfl rfl rfl (by decide) (s0_320 H) (s1_320 H) ⟨rfl, rfl, rfl⟩ rfl gn fun qb22 D =>
                                  j_gfo (pc := 86) H.2.1 D rfl rfl rfl rfl fun kc23 D =>
                                  j_ast (pc := 89) (L' := [(7, (4, h19 324 (h19 12 320 x2.toNat).toNat 0)), (0, (4, 303)), (1, (0, x1)), (2, (0, x2)), (3, (0, x3)), (4, (0, x4)), (5, (0, x5)), (6, (0, x6))]) D rfl nl_440 rfl rfl fun D =>
                                  j_aldn (pc := 91) D rfl rfl rfl fun D =>
                                  j_ic (pc := 92) D rfl fun D =>
                                  j_pf (pc := 93) (a := 303) D rfl rfl rfl (s0_303 H) rfl rfl (gy (by decide)) (gy rfl) fun h24 eh24 S D =>
                                  have T := fj_hs_ok H.1 S
                                  have kc23 := cls_st H.1 T.2 kc23 (by decide)
                                  have H := shp_st H T
                                  j_ild (pc := 96) D rfl rfl rfl fun D =>
                                  j_ist (pc := 98) (L' := [(8, (0, x4)), (7, (4, h19 324 (h19 12 320 x2.toNat).toNat 0)), (0, (4, 303)), (1, (0, x1)), (2, (0, x2)), (3, (0, x3)), (4, (0, x4)), (5, (0, x5)), (6, (0, x6))]) D rfl nl_440 rfl rfl fun D =>
                                  fk_jump cut_440_100 rfl rfl) (fun q21 h19 e1 =>
                                  j_tx (hx_440 _)))) (fun q18 h16 e1 =>
                              j_tx (hx_440 _))) (fun q =>
                            have D : fk_D 440 [(70, none, .bipush (-2), 2, 0, (-2), 0), (72, none, .ireturn, 1, 0, 0, 0)] := fq_of2 cd_440 ow_440 cl_440 rfl (pc := 70) (by decide +kernel)
                            j_bp (pc := 70) D rfl fun D =>
                            j_iret D rt_440)))) (fun q15 h13 e1 =>
                      j_tx (hx_440 _)))) (fun q12 h10 e1 =>
                  j_tx (hx_440 _)))) (fun q9 h7 e1 =>
              j_tx (hx_440 _)))) (fun q6 h4 e1 =>
          j_tx (hx_440 _)))) (fun q3 h1 e1 =>
      j_tx (hx_440 _))
/-! 441 StatuteHouse.outcome(IIII)I -/
theorem cd_441 : fi_code 441 = prog_1_method_88_code := rfl
theorem rt_441 : fi_ret 441 = some .int := rfl
theorem nl_441 : fi_nl 441 = 6 := rfl
theorem ow_441 : fi_ow 441 = 0 := rfl
theorem cl_441 : fj_cutT.getD 441 [] = [(22, [])] := rfl
theorem cut_441_22 : fj_cut 441 22 = some [] := by decide +kernel
noncomputable def c_441_22 (d : Nat) (s0 : Int) (h : fi_H) : fk_R := gG (fj_run d) 441 22 [] [(4, s0)] h
theorem e_441_22 (d : Nat) (s0 : Int) {h : fi_H} (H : Shp h) : c_441_22 d s0 h =
  if h 0 s0.toNat 0 = 107 then
  some (.inl (some (0, h 110 s0.toNat 0)), h)
  else none := by
  unfold c_441_22
  exact
    have D : fk_D 441 [(22, some [], .astore 5, 2, 0, 0, 0), (24, none, .aload 5, 2, 0, 0, 0), (26, none, .getfield 311, 3, 110, (-107), 10), (29, none, .ireturn, 1, 0, 0, 0)] := fq_of2 cd_441 ow_441 cl_441 rfl (pc := 22) (by decide +kernel)
    j_ast (pc := 22) (L' := [(5, (4, s0))]) D rfl nl_441 rfl rfl fun D =>
    j_ald (pc := 24) D rfl rfl rfl fun D =>
    j_gfo (pc := 26) H.2.1 D rfl rfl rfl rfl fun kc1 D =>
    j_iret D rt_441
theorem m_441 (d : Nat) (x1 x2 x3 x4 : Int) {h : fi_H} (H : Shp h) : fj_run (d + 1) 441 h [(4, 303), (0, x1), (0, x2), (0, x3), (0, x4)] =
  if 0 ≤ x1 ∧ x1 < 4 then
  cv_ (fj_run d 308 h [(4, 303), (4, h 12 354 x1.toNat), (0, x3), (0, x4)])
    (fun h2 =>
    cv_ (fj_run d 309 h2 [(4, 303), (0, x2), (0, 0)])
      (fun h5 =>
      some (.inl (some (0, 0)), h5))
      (fun q7 h5 => tc_ 107 q7 h5 (c_441_22 d (q7 : Int) h5)))
    (fun q4 h2 => tx_ q4 h2)
  else none := by
  rw [fj_run_eq d (by decide) h [(4, 303), (0, x1), (0, x2), (0, x3), (0, x4)] (Nat.le_of_ble_eq_true (by rw [nl_441]; rfl))]
  show gG (fj_run d) 441 0 [(0, (4, 303)), (1, (0, x1)), (2, (0, x2)), (3, (0, x3)), (4, (0, x4))] [] h = _
  exact
    have D : fk_D 441 [(0, none, .aload_n 0, 1, 0, 0, 0), (1, none, .aload_n 0, 1, 0, 0, 0), (2, none, .getfield 529, 3, 227, 100, 12), (5, none, .iload_n 1, 1, 0, 0, 0), (6, none, .aaload, 1, 0, 0, 0), (7, none, .iload_n 3, 1, 0, 0, 0), (8, none, .iload 4, 2, 0, 0, 0), (10, none, .invokevirtual 884, 3, 3, 171, 0), (13, none, .aload_n 0, 1, 0, 0, 0), (14, none, .iload_n 2, 1, 0, 0, 0), (15, none, .iconst 0, 1, 0, 0, 0), (16, none, .invokevirtual 888, 3, 2, 172, 0), (19, none, .goto 11, 3, 30, 0, 0)] := fq_of2 cd_441 ow_441 cl_441 rfl (pc := 0) (by decide +kernel)
    j_aldn (pc := 0) D rfl rfl rfl fun D =>
    j_aldn (pc := 1) D rfl rfl rfl fun D =>
    j_gfc (pc := 2) (a := 303) D rfl rfl (by decide) rfl (s0_303 H) rfl (sf_227_303 H) fun D =>
    j_ildn (pc := 5) D rfl rfl rfl fun D =>
    j_al (pc := 6) (a := 354) (e := 12) D rfl rfl rfl (by decide) (s0_354 H) (s1_354 H) ⟨rfl, rfl, rfl⟩ rfl gn fun qb1 D =>
    j_ildn (pc := 7) D rfl rfl rfl fun D =>
    j_ild (pc := 8) D rfl rfl rfl fun D =>
    j_ivv (pc := 10) (m := 308) (dd := 171) (a := [(4, h 12 354 x1.toNat), (0, x3), (0, x4)]) (rest := []) D rfl rfl rfl rfl rfl (by decide) (s0_303 H) (by decide +kernel) (fun h2 e1 D =>
      have T := fj_run_ok _ _ _ _ _ _ H.1 e1
      have H := shp_st H T
      j_aldn (pc := 13) D rfl rfl rfl fun D =>
      j_ildn (pc := 14) D rfl rfl rfl fun D =>
      j_ic (pc := 15) D rfl fun D =>
      j_ivv (pc := 16) (m := 309) (dd := 172) (a := [(0, x2), (0, 0)]) (rest := []) D rfl rfl rfl rfl rfl (by decide) (s0_303 H) (by decide +kernel) (fun h5 e1 D =>
        have T := fj_run_ok _ _ _ _ _ _ H.1 e1
        have H := shp_st H T
        j_goto (pc := 19) D rfl <|
        have D : fk_D 441 [(30, none, .iconst 0, 1, 0, 0, 0), (31, none, .ireturn, 1, 0, 0, 0)] := fq_of2 cd_441 ow_441 cl_441 rfl (pc := 30) (by decide +kernel)
        j_ic (pc := 30) D rfl fun D =>
        j_iret D rt_441) (fun q7 h5 e1 =>
        j_tc_ (n := 107) (fk_at (cu := none) (by decide +kernel) rfl) (s := 13) (e := 19) (hp := 22) (ct := 312) (by decide +kernel) rfl (by decide +kernel) <|
        fk_jump cut_441_22 rfl rfl)) (fun q4 h2 e1 =>
      j_tx (by decide +kernel))
/-! 442 StatuteHouse.changed(II)J -/
theorem cd_442 : fi_code 442 = prog_1_method_90_code := rfl
theorem hx_442 : ∀ pc, fi_hat 442 pc = none := fun pc => by unfold fi_hat; rw [show fi_hh 442 = [] from rfl]; rfl
theorem rt_442 : fi_ret 442 = some .long := rfl
theorem nl_442 : fi_nl 442 = 3 := rfl
theorem ow_442 : fi_ow 442 = 0 := rfl
theorem cl_442 : fj_cutT.getD 442 [] = [] := rfl
theorem m_442 (d : Nat) (x1 x2 : Int) {h : fi_H} (H : Shp h) : fj_run (d + 1) 442 h [(4, 303), (0, x1), (0, x2)] =
  ca_ (fj_run d 3 h [(1, wI x1), (1, 0), (1, wJ ((wI (h 286 303 0)) - 1))]) 0
    (fun v2 h1 =>
    if v2 = 0 then
      some (.inl (some (1, (-1))), h1)
    else
      if x2 = 0 then
        if 0 ≤ x1 ∧ x1 < 400 then
        some (.inl (some (1, wI (h1 5 449 x1.toNat))), h1)
        else none
      else if x2 = 1 then
        if 0 ≤ x1 ∧ x1 < 400 then
        some (.inl (some (1, wI (h1 8 450 x1.toNat))), h1)
        else none
      else if x2 = 2 then
        if 0 ≤ x1 ∧ x1 < 400 then
        some (.inl (some (1, h1 11 451 x1.toNat)), h1)
        else none
      else if x2 = 3 then
        if 0 ≤ x1 ∧ x1 < 400 then
        some (.inl (some (1, h1 11 452 x1.toNat)), h1)
        else none
      else 
        some (.inl (some (1, (-1))), h1))
    (fun q3 h1 => tx_ q3 h1) := by
  rw [fj_run_eq d (by decide) h [(4, 303), (0, x1), (0, x2)] (Nat.le_of_ble_eq_true (by rw [nl_442]; rfl))]
  show gG (fj_run d) 442 0 [(0, (4, 303)), (1, (0, x1)), (2, (0, x2))] [] h = _
  exact
    have D : fk_D 442 [(0, none, .iload_n 1, 1, 0, 0, 0), (1, none, .i2l, 1, 0, 0, 0), (2, none, .lconst 0, 1, 0, 0, 0), (3, none, .aload_n 0, 1, 0, 0, 0), (4, none, .getfield 999, 3, 286, 100, 10), (7, none, .i2l, 1, 0, 0, 0), (8, none, .lconst 1, 1, 0, 0, 0), (9, none, .lsub, 1, 0, 0, 0), (10, none, .invokestatic 46, 3, 3, 3, 1), (13, none, .ifCond .ne 7, 3, 20, 0, 0), (16, none, .ldc2_w 965, 3, 1, (-1), 0), (19, none, .lreturn, 1, 0, 0, 0)] := fq_of2 cd_442 ow_442 cl_442 rfl (pc := 0) (by decide +kernel)
    j_ildn (pc := 0) D rfl rfl rfl fun D =>
    j_i2l (pc := 1) D rfl fun D =>
    j_c0 (pc := 2) (v := (1, 0)) D rfl rfl (by decide +kernel) fun D =>
    j_aldn (pc := 3) D rfl rfl rfl fun D =>
    j_gf (pc := 4) (a := 303) D rfl rfl (by decide) rfl (s0_303 H) rfl fun D =>
    j_i2l (pc := 7) D rfl fun D =>
    j_c0 (pc := 8) (v := (1, 1)) D rfl rfl (by decide +kernel) fun D =>
    j_lsub (pc := 9) D rfl fun D =>
    j_is (pc := 10) (m := 3) (a := [(1, wI x1), (1, 0), (1, wJ ((wI (h 286 303 0)) - 1))]) (rest := []) D rfl rfl rfl rfl (fun v2 h1 e1 D =>
      have T := fj_run_ok _ _ _ _ _ _ H.1 e1
      have H := shp_st H T
      j_ifne (pc := 13) D rfl (fun q D =>
        j_ldc2 (pc := 16) D rfl fun D =>
        j_lret D rt_442) (fun q =>
        have D : fk_D 442 [(20, none, .iload_n 2, 1, 0, 0, 0), (21, none, .tableswitch 61 0 3 #[31, 39, 47, 54], 31, 0, 0, 0)] := fq_of3 cd_442 ow_442 cl_442 rfl (pc := 20) (by decide +kernel)
        j_ildn (pc := 20) D rfl rfl rfl fun D =>
        have N : fk_ni (x2) [] := trivial
        j_tc (pc := 21) 0 (t := 52) D N rfl (by decide +kernel) (fun q =>
          have D : fk_D 442 [(52, none, .aload_n 0, 1, 0, 0, 0), (53, none, .getfield 689, 3, 282, 100, 12), (56, none, .iload_n 1, 1, 0, 0, 0), (57, none, .caload, 1, 0, 0, 0), (58, none, .i2l, 1, 0, 0, 0), (59, none, .lreturn, 1, 0, 0, 0)] := fq_of2 cd_442 ow_442 cl_442 rfl (pc := 52) (by decide +kernel)
          j_aldn (pc := 52) D rfl rfl rfl fun D =>
          j_gfc (pc := 53) (a := 303) D rfl rfl (by decide) rfl (s0_303 H) rfl (sf_282_303 H) fun D =>
          j_ildn (pc := 56) D rfl rfl rfl fun D =>
          j_al (pc := 57) (a := 449) (e := 5) D rfl rfl rfl (by decide) (s0_449 H) (s1_449 H) ⟨rfl, rfl, rfl⟩ rfl gn fun qb4 D =>
          j_i2l (pc := 58) D rfl fun D =>
          j_lret D rt_442) (fun N =>
          j_tc 1 (t := 60) D N rfl (by decide +kernel) (fun q =>
            have D : fk_D 442 [(60, none, .aload_n 0, 1, 0, 0, 0), (61, none, .getfield 692, 3, 283, 100, 12), (64, none, .iload_n 1, 1, 0, 0, 0), (65, none, .baload, 1, 0, 0, 0), (66, none, .i2l, 1, 0, 0, 0), (67, none, .lreturn, 1, 0, 0, 0)] := fq_of2 cd_442 ow_442 cl_442 rfl (pc := 60) (by decide +kernel)
            j_aldn (pc := 60) D rfl rfl rfl fun D =>
            j_gfc (pc := 61) (a := 303) D rfl rfl (by decide) rfl (s0_303 H) rfl (sf_283_303 H) fun D =>
            j_ildn (pc := 64) D rfl rfl rfl fun D =>
            j_al (pc := 65) (a := 450) (e := 8) D rfl rfl rfl (by decide) (s0_450 H) (s1_450 H) ⟨rfl, rfl, rfl⟩ rfl gn fun qb5 D =>
            j_i2l (pc := 66) D rfl fun D =>
            j_lret D rt_442) (fun N =>
            j_tc 2 (t := 68) D N rfl (by decide +kernel) (fun q =>
              have D : fk_D 442 [(68, none, .aload_n 0, 1, 0, 0, 0), (69, none, .getfield 695, 3, 284, 100, 12), (72, none, .iload_n 1, 1, 0, 0, 0), (73, none, .laload, 1, 0, 0, 0), (74, none, .lreturn, 1, 0, 0, 0)] := fq_of2 cd_442 ow_442 cl_442 rfl (pc := 68) (by decide +kernel)
              j_aldn (pc := 68) D rfl rfl rfl fun D =>
              j_gfc (pc := 69) (a := 303) D rfl rfl (by decide) rfl (s0_303 H) rfl (sf_284_303 H) fun D =>
              j_ildn (pc := 72) D rfl rfl rfl fun D =>
              j_al (pc := 73) (a := 451) (e := 11) D rfl rfl rfl (by decide) (s0_451 H) (s1_451 H) ⟨rfl, rfl, rfl⟩ rfl gn fun qb6 D =>
              j_lret D rt_442) (fun N =>
              j_tc 3 (t := 75) D N rfl (by decide +kernel) (fun q =>
                have D : fk_D 442 [(75, none, .aload_n 0, 1, 0, 0, 0), (76, none, .getfield 698, 3, 285, 100, 12), (79, none, .iload_n 1, 1, 0, 0, 0), (80, none, .laload, 1, 0, 0, 0), (81, none, .lreturn, 1, 0, 0, 0)] := fq_of2 cd_442 ow_442 cl_442 rfl (pc := 75) (by decide +kernel)
                j_aldn (pc := 75) D rfl rfl rfl fun D =>
                j_gfc (pc := 76) (a := 303) D rfl rfl (by decide) rfl (s0_303 H) rfl (sf_285_303 H) fun D =>
                j_ildn (pc := 79) D rfl rfl rfl fun D =>
                j_al (pc := 80) (a := 452) (e := 11) D rfl rfl rfl (by decide) (s0_452 H) (s1_452 H) ⟨rfl, rfl, rfl⟩ rfl gn fun qb7 D =>
                j_lret D rt_442) (fun N =>
                j_td (t := 82) D N rfl (by decide +kernel) (by decide +kernel) <|
                have D : fk_D 442 [(82, none, .ldc2_w 965, 3, 1, (-1), 0), (85, none, .lreturn, 1, 0, 0, 0)] := fq_of2 cd_442 ow_442 cl_442 rfl (pc := 82) (by decide +kernel)
                j_ldc2 (pc := 82) D rfl fun D =>
                j_lret D rt_442)))))) (fun q3 h1 e1 =>
      j_tx (hx_442 _))
