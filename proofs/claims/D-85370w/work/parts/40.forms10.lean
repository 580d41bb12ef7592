/-! forms of methods 298..321, printed by gen/forms.py -/
set_option maxRecDepth 100000
/-! 298 StatuteHouse$Reader.comparison()LStatuteHouse$Sign; -/
theorem cd_298 : fi_code 298 = prog_53_method_68_code := rfl
theorem hx_298 : ∀ pc, fi_hat 298 pc = none := fun pc => by unfold fi_hat; rw [show fi_hh 298 = [] from rfl]; rfl
theorem rt_298 : fj_ft (fi_ret 298) = 5 := rfl
theorem nl_298 : fi_nl 298 = 1 := rfl
theorem ow_298 : fi_ow 298 = 15 := rfl
theorem cl_298 : fj_cutT.getD 298 [] = [] := rfl
theorem m_298 (d : Nat) {h : fi_H} (H : Shp h) : fj_run (d + 1) 298 h [(4, 377)] =
  if 0 ≤ h 158 377 0 ∧ h 158 377 0 < 1202 then
  if h 8 378 (h 158 377 0).toNat = 6 then
    if h 5 382 (h 158 377 0).toNat = 35 then
      some (.inl (some (4, 18)), h)
    else if h 5 382 (h 158 377 0).toNat = 60 then
      some (.inl (some (4, 19)), h)
    else if h 5 382 (h 158 377 0).toNat = 61 then
      some (.inl (some (4, 17)), h)
    else if h 5 382 (h 158 377 0).toNat = 62 then
      some (.inl (some (4, 21)), h)
    else if h 5 382 (h 158 377 0).toNat = 103 then
      some (.inl (some (4, 22)), h)
    else if h 5 382 (h 158 377 0).toNat = 108 then
      some (.inl (some (4, 20)), h)
    else 
      some (.inl (some (4, 0)), h)
  else
    some (.inl (some (4, 0)), h)
  else none := by
  rw [fj_run_eq d (by decide) h [(4, 377)] (Nat.le_of_ble_eq_true (by rw [nl_298]; rfl))]
  show gG (fj_run d) 298 0 [(0, (4, 377))] [] h = _
  exact
    have D : fk_D 298 [(0, none, .aload_n 0, 1, 0, 0, 0), (1, none, .getfield 15, 3, 149, 115, 12), (4, none, .aload_n 0, 1, 0, 0, 0), (5, none, .getfield 104, 3, 158, 115, 10), (8, none, .baload, 1, 0, 0, 0), (9, none, .bipush 6, 2, 0, 6, 0), (11, none, .if_icmp .eq 5, 3, 16, 0, 0), (14, none, .aconst_null, 1, 0, 0, 0), (15, none, .areturn, 1, 0, 0, 0)] := fq_of2 cd_298 ow_298 cl_298 rfl (pc := 0) (by decide +kernel)
    j_aldn (pc := 0) D rfl rfl rfl fun D =>
    j_gfc (pc := 1) (a := 377) D rfl rfl (by decide) rfl (s0_377 H) rfl (sf_149_377 H) fun D =>
    j_aldn (pc := 4) D rfl rfl rfl fun D =>
    j_gf (pc := 5) (a := 377) D rfl rfl (by decide) rfl (s0_377 H) rfl fun D =>
    j_al (pc := 8) (a := 378) (e := 8) D rfl rfl rfl (by decide) (s0_378 H) (s1_378 H) ⟨rfl, rfl, rfl⟩ rfl gn fun qb1 D =>
    j_bp (pc := 9) D rfl fun D =>
    j_ieq (pc := 11) D rfl (fun q =>
      have D : fk_D 298 [(16, none, .aload_n 0, 1, 0, 0, 0), (17, none, .getfield 31, 3, 153, 115, 12), (20, none, .aload_n 0, 1, 0, 0, 0), (21, none, .getfield 104, 3, 158, 115, 10), (24, none, .caload, 1, 0, 0, 0), (25, none, .lookupswitch 83 #[(35, 63), (60, 67), (61, 59), (62, 75), (103, 79), (108, 71)], 59, 0, 0, 0)] := fq_of3 cd_298 ow_298 cl_298 rfl (pc := 16) (by decide +kernel)
      j_aldn (pc := 16) D rfl rfl rfl fun D =>
      j_gfc (pc := 17) (a := 377) D rfl rfl (by decide) rfl (s0_377 H) rfl (sf_153_377 H) fun D =>
      j_aldn (pc := 20) D rfl rfl rfl fun D =>
      j_gf (pc := 21) (a := 377) D rfl rfl (by decide) rfl (s0_377 H) rfl fun D =>
      j_al (pc := 24) (a := 382) (e := 5) D rfl rfl rfl (by decide) (s0_382 H) (s1_382 H) ⟨rfl, rfl, rfl⟩ rfl (gy qb1) fun q D =>
      have N : fk_ni (h 5 382 (h 158 377 0).toNat) [] := trivial
      j_lc (pc := 25) 35 (t := 88) D N rfl (by decide +kernel) (by decide +kernel) (fun q =>
        have D : fk_D 298 [(88, none, .getstatic 769, 3, 4, 18, 0), (91, none, .areturn, 1, 0, 0, 0)] := fq_of2 cd_298 ow_298 cl_298 rfl (pc := 88) (by decide +kernel)
        j_gs (pc := 88) D rfl fun D =>
        j_aret D rt_298) (fun N =>
        j_lc 60 (t := 92) D N rfl (by decide +kernel) (by decide +kernel) (fun q =>
          have D : fk_D 298 [(92, none, .getstatic 772, 3, 4, 19, 0), (95, none, .areturn, 1, 0, 0, 0)] := fq_of2 cd_298 ow_298 cl_298 rfl (pc := 92) (by decide +kernel)
          j_gs (pc := 92) D rfl fun D =>
          j_aret D rt_298) (fun N =>
          j_lc 61 (t := 84) D N rfl (by decide +kernel) (by decide +kernel) (fun q =>
            have D : fk_D 298 [(84, none, .getstatic 766, 3, 4, 17, 0), (87, none, .areturn, 1, 0, 0, 0)] := fq_of2 cd_298 ow_298 cl_298 rfl (pc := 84) (by decide +kernel)
            j_gs (pc := 84) D rfl fun D =>
            j_aret D rt_298) (fun N =>
            j_lc 62 (t := 100) D N rfl (by decide +kernel) (by decide +kernel) (fun q =>
              have D : fk_D 298 [(100, none, .getstatic 778, 3, 4, 21, 0), (103, none, .areturn, 1, 0, 0, 0)] := fq_of2 cd_298 ow_298 cl_298 rfl (pc := 100) (by decide +kernel)
              j_gs (pc := 100) D rfl fun D =>
              j_aret D rt_298) (fun N =>
              j_lc 103 (t := 104) D N rfl (by decide +kernel) (by decide +kernel) (fun q =>
                have D : fk_D 298 [(104, none, .getstatic 781, 3, 4, 22, 0), (107, none, .areturn, 1, 0, 0, 0)] := fq_of2 cd_298 ow_298 cl_298 rfl (pc := 104) (by decide +kernel)
                j_gs (pc := 104) D rfl fun D =>
                j_aret D rt_298) (fun N =>
                j_lc 108 (t := 96) D N rfl (by decide +kernel) (by decide +kernel) (fun q =>
                  have D : fk_D 298 [(96, none, .getstatic 775, 3, 4, 20, 0), (99, none, .areturn, 1, 0, 0, 0)] := fq_of2 cd_298 ow_298 cl_298 rfl (pc := 96) (by decide +kernel)
                  j_gs (pc := 96) D rfl fun D =>
                  j_aret D rt_298) (fun N =>
                  j_ldf (t := 108) D N rfl (by decide +kernel) (by decide +kernel) (by decide +kernel) <|
                  have D : fk_D 298 [(108, none, .aconst_null, 1, 0, 0, 0), (109, none, .areturn, 1, 0, 0, 0)] := fq_of2 cd_298 ow_298 cl_298 rfl (pc := 108) (by decide +kernel)
                  j_c0 (pc := 108) (v := (4, 0)) D rfl rfl (by decide +kernel) fun D =>
                  j_aret D rt_298))))))) (fun q D =>
      j_c0 (pc := 14) (v := (4, 0)) D rfl rfl (by decide +kernel) fun D =>
      j_aret D rt_298)
/-! 299 StatuteHouse$Version.<init>(II[LStatuteHouse$Rule;)V -/
theorem cd_299 : fi_code 299 = prog_65_method_1_code := rfl
theorem hx_299 : ∀ pc, fi_hat 299 pc = none := fun pc => by unfold fi_hat; rw [show fi_hh 299 = [] from rfl]; rfl
theorem rt_299 : fi_ret 299 = none := rfl
theorem nl_299 : fi_nl 299 = 4 := rfl
theorem ow_299 : fi_ow 299 = 26 := rfl
theorem cl_299 : fj_cutT.getD 299 [] = [] := rfl
theorem m_299 (d : Nat) (x0 x1 x2 x3 : Int) {h : fi_H} (H : Shp h) (hk : h 0 x0.toNat 0 = 126) : fj_run (d + 1) 299 h [(4, x0), (0, x1), (0, x2), (4, x3)] =
  cv_ (fj_run d 1009 h [(4, x0)])
    (fun h1 =>
    if 302 < x0 then
    if h1 372 x0.toNat 0 = 0 then
    lt_ (fi_upd h1 372 x0.toNat 0 x1) fun h4 =>
    if 302 < x0 then
    if h4 373 x0.toNat 0 = 0 then
    lt_ (fi_upd h4 373 x0.toNat 0 x2) fun h5 =>
    if 302 < x0 then
    if h5 374 x0.toNat 0 = 0 then
    lt_ (fi_upd h5 374 x0.toNat 0 x3) fun h6 =>
    some (.inl none, h6)
    else none
    else none
    else none
    else none
    else none
    else none)
    (fun q3 h1 => tx_ q3 h1) := by
  rw [fj_run_eq d (by decide) h [(4, x0), (0, x1), (0, x2), (4, x3)] (Nat.le_of_ble_eq_true (by rw [nl_299]; rfl))]
  show gG (fj_run d) 299 0 [(0, (4, x0)), (1, (0, x1)), (2, (0, x2)), (3, (4, x3))] [] h = _
  exact
    have D : fk_D 299 [(0, none, .aload_n 0, 1, 0, 0, 0), (1, none, .invokespecial 1, 3, 0, 1009, 0), (4, none, .aload_n 0, 1, 0, 0, 0), (5, none, .iload_n 1, 1, 0, 0, 0), (6, none, .putfield 7, 3, 372, 126, 110), (9, none, .aload_n 0, 1, 0, 0, 0), (10, none, .iload_n 2, 1, 0, 0, 0), (11, none, .putfield 13, 3, 373, 126, 110), (14, none, .aload_n 0, 1, 0, 0, 0), (15, none, .aload_n 3, 1, 0, 0, 0), (16, none, .putfield 16, 3, 374, 126, 112), (19, none, .return_, 1, 0, 0, 0)] := fq_of2 cd_299 ow_299 cl_299 rfl (pc := 0) (by decide +kernel)
    j_aldn (pc := 0) D rfl rfl rfl fun D =>
    j_spv (pc := 1) (m := 1009) (a := []) (rest := []) D rfl rfl rfl rfl (by rw [show h 0 x0.toNat 0 = 126 from hk]; decide) (nz_cls H.2.1 hk (by decide)) (fun h1 e1 D =>
      have T := fj_run_ok _ _ _ _ _ _ H.1 e1
      have hk := cls_st H.1 T.2 hk (by decide)
      have H := shp_st H T
      j_aldn (pc := 4) D rfl rfl rfl fun D =>
      j_ildn (pc := 5) D rfl rfl rfl fun D =>
      j_pfF (pc := 6) (a := x0.toNat) (ty := 10) D rfl rfl rfl hk ⟨rfl, rfl⟩ rfl gn (gy rfl) gn fun h4 eh4 S D =>
      have T := fj_hs_ok H.1 S
      have hk := cls_st H.1 T.2 hk (by decide)
      have H := shp_st H T
      j_aldn (pc := 9) D rfl rfl rfl fun D =>
      j_ildn (pc := 10) D rfl rfl rfl fun D =>
      j_pfF (pc := 11) (a := x0.toNat) (ty := 10) D rfl rfl rfl hk ⟨rfl, rfl⟩ rfl gn (gy rfl) gn fun h5 eh5 S D =>
      have T := fj_hs_ok H.1 S
      have hk := cls_st H.1 T.2 hk (by decide)
      have H := shp_st H T
      j_aldn (pc := 14) D rfl rfl rfl fun D =>
      j_aldn (pc := 15) D rfl rfl rfl fun D =>
      j_pfF (pc := 16) (a := x0.toNat) (ty := 12) D rfl rfl rfl hk ⟨rfl, rfl⟩ rfl gn (gy rfl) gn fun h6 eh6 S D =>
      have T := fj_hs_ok H.1 S
      have hk := cls_st H.1 T.2 hk (by decide)
      have H := shp_st H T
      j_vret D rt_299) (fun q3 h1 e1 =>
      j_tx (hx_299 _))
/-! 300 StatuteHouse$Law.add(LStatuteHouse$Version;I)V -/
theorem cd_300 : fi_code 300 = prog_40_method_2_code := rfl
theorem hx_300 : ∀ pc, fi_hat 300 pc = none := fun pc => by unfold fi_hat; rw [show fi_hh 300 = [] from rfl]; rfl
theorem rt_300 : fi_ret 300 = none := rfl
theorem nl_300 : fi_nl 300 = 4 := rfl
theorem ow_300 : fi_ow 300 = 10 := rfl
theorem cl_300 : fj_cutT.getD 300 [] = [(26, [0, 1, 3]), (70, [0, 3])] := rfl
theorem cut_300_26 : fj_cut 300 26 = some [0, 1, 3] := by decide +kernel
noncomputable def c_300_26 (d : Nat) (x0 x1 x3 : Int) (h : fi_H) : fk_R := gG (fj_run d) 300 26 [(0, (4, x0)), (1, (4, x1)), (3, (0, x3))] [] h
theorem cut_300_70 : fj_cut 300 70 = some [0, 3] := by decide +kernel
noncomputable def c_300_70 (d : Nat) (x0 x3 : Int) (h : fi_H) : fk_R := gG (fj_run d) 300 70 [(0, (4, x0)), (3, (0, x3))] [] h
theorem e_300_26 (d : Nat) (x0 x1 x3 : Int) {h : fi_H} (H : Shp h) (hk : h 0 x0.toNat 0 = 110) : c_300_26 d x0 x1 x3 h =
  if 0 < x3 then
    if h 0 (h 189 x0.toNat 0).toNat 0 = 9 ∧ 0 ≤ wI (x3 - 1) ∧ wI (x3 - 1) < h 1 (h 189 x0.toNat 0).toNat 0 then
    if (20 ≤ h 0 (h 187 x0.toNat 0).toNat 0 ∧ h 0 (h 187 x0.toNat 0).toNat 0 < 30) ∧ 0 ≤ h 9 (h 189 x0.toNat 0).toNat (wI (x3 - 1)).toNat ∧ h 9 (h 189 x0.toNat 0).toNat (wI (x3 - 1)).toNat < h 1 (h 187 x0.toNat 0).toNat 0 then
    ca_ (fj_run d 301 h [(4, h 12 (h 187 x0.toNat 0).toNat (h 9 (h 189 x0.toNat 0).toNat (wI (x3 - 1)).toNat).toNat), (4, x1)]) 0
      (fun v2 h1 =>
      if v2 = 0 then
        c_300_70 d x0 x3 h1
      else
        if h1 0 (h1 189 x0.toNat 0).toNat 0 = 9 ∧ 0 ≤ wI (x3 - 1) ∧ wI (x3 - 1) < h1 1 (h1 189 x0.toNat 0).toNat 0 then
        if 302 < h1 189 x0.toNat 0 ∧ h1 0 (h1 189 x0.toNat 0).toNat 0 = 9 then
        if 0 ≤ x3 ∧ x3 < h1 1 (h1 189 x0.toNat 0).toNat 0 then
        if fi_rg 9 (h1 9 (h1 189 x0.toNat 0).toNat (wI (x3 - 1)).toNat) = true then
        lt_ (fi_upd h1 9 (h1 189 x0.toNat 0).toNat x3.toNat (h1 9 (h1 189 x0.toNat 0).toNat (wI (x3 - 1)).toNat)) fun h4 =>
        c_300_26 d x0 x1 (wI (x3 + (-1))) h4
        else none
        else none
        else none
        else none)
      (fun q3 h1 => tx_ q3 h1)
    else none
    else none
  else
    c_300_70 d x0 x3 h := by
  unfold c_300_26
  exact
    have D : fk_D 300 [(26, some [0, 1, 3], .iload_n 3, 1, 0, 0, 0), (27, none, .ifCond .le 43, 3, 70, 0, 0), (30, none, .aload_n 0, 1, 0, 0, 0), (31, none, .getfield 11, 3, 187, 110, 12), (34, none, .aload_n 0, 1, 0, 0, 0), (35, none, .getfield 21, 3, 189, 110, 12), (38, none, .iload_n 3, 1, 0, 0, 0), (39, none, .iconst 1, 1, 0, 1, 0), (40, none, .isub, 1, 0, 0, 0), (41, none, .saload, 1, 0, 0, 0), (42, none, .aaload, 1, 0, 0, 0), (43, none, .aload_n 1, 1, 0, 0, 0), (44, none, .invokestatic 29, 3, 2, 301, 1), (47, none, .ifCond .eq 23, 3, 70, 0, 0), (50, none, .aload_n 0, 1, 0, 0, 0), (51, none, .getfield 21, 3, 189, 110, 12), (54, none, .iload_n 3, 1, 0, 0, 0), (55, none, .aload_n 0, 1, 0, 0, 0), (56, none, .getfield 21, 3, 189, 110, 12), (59, none, .iload_n 3, 1, 0, 0, 0)] := fq_of2 cd_300 ow_300 cl_300 rfl (pc := 26) (by decide +kernel)
    j_ildn (pc := 26) D rfl rfl rfl fun D =>
    j_ifle (pc := 27) D rfl (fun q D =>
      j_aldn (pc := 30) D rfl rfl rfl fun D =>
      j_gf (pc := 31) (a := x0.toNat) D rfl rfl (nz_cls H.2.1 hk (by decide)) rfl hk rfl fun D =>
      j_aldn (pc := 34) D rfl rfl rfl fun D =>
      j_gf (pc := 35) (a := x0.toNat) D rfl rfl (nz_cls H.2.1 hk (by decide)) rfl hk rfl fun D =>
      j_ildn (pc := 38) D rfl rfl rfl fun D =>
      j_ic (pc := 39) D rfl fun D =>
      j_isub (pc := 40) D rfl fun D =>
      j_alp (pc := 41) (e := 9) H.2.1 D rfl rfl ⟨rfl, rfl, rfl⟩ rfl fun q q2 D =>
      j_alr (pc := 42) H.2.1 D rfl rfl fun q q2 D =>
      j_aldn (pc := 43) D rfl rfl rfl fun D =>
      j_is (pc := 44) (m := 301) (a := [(4, h 12 (h 187 x0.toNat 0).toNat (h 9 (h 189 x0.toNat 0).toNat (wI (x3 - 1)).toNat).toNat), (4, x1)]) (rest := []) D rfl rfl rfl rfl (fun v2 h1 e1 D =>
        have T := fj_run_ok _ _ _ _ _ _ H.1 e1
        have hk := cls_st H.1 T.2 hk (by decide)
        have H := shp_st H T
        j_ifeq (pc := 47) D rfl (fun q =>
          fk_jump cut_300_70 rfl rfl) (fun q D =>
          j_aldn (pc := 50) D rfl rfl rfl fun D =>
          j_gf (pc := 51) (a := x0.toNat) D rfl rfl (nz_cls H.2.1 hk (by decide)) rfl hk rfl fun D =>
          j_ildn (pc := 54) D rfl rfl rfl fun D =>
          j_aldn (pc := 55) D rfl rfl rfl fun D =>
          j_gf (pc := 56) (a := x0.toNat) D rfl rfl (nz_cls H.2.1 hk (by decide)) rfl hk rfl fun D =>
          j_ildn (pc := 59) D rfl rfl rfl fun D =>
          have D : fk_D 300 [(60, none, .iconst 1, 1, 0, 1, 0), (61, none, .isub, 1, 0, 0, 0), (62, none, .saload, 1, 0, 0, 0), (63, none, .sastore, 1, 0, 0, 0), (64, none, .iinc 3 (-1), 3, 0, (-1), 0), (67, none, .goto (-41), 3, 26, 0, 0)] := fq_of2 cd_300 ow_300 cl_300 rfl (pc := 60) (by decide +kernel)
          j_ic (pc := 60) D rfl fun D =>
          j_isub (pc := 61) D rfl fun D =>
          j_alp (pc := 62) (e := 9) H.2.1 D rfl rfl ⟨rfl, rfl, rfl⟩ rfl fun q q2 D =>
          j_asu (pc := 63) (e := 9) D rfl rfl ⟨rfl, rfl, rfl⟩ rfl gn gn gn fun h4 eh4 S q q2 D =>
          have T := fj_hs_ok H.1 S
          have hk := cls_st H.1 T.2 hk (by decide)
          have H := shp_st H T
          j_inc (pc := 64) (L' := [(3, (0, wI (x3 + (-1)))), (0, (4, x0)), (1, (4, x1))]) D rfl rfl rfl (by decide +kernel) rfl fun D =>
          j_goto (pc := 67) D rfl <|
          fk_jump cut_300_26 rfl rfl)) (fun q3 h1 e1 =>
        j_tx (hx_300 _))) (fun q =>
      fk_jump cut_300_70 rfl rfl)
theorem e_300_70 (d : Nat) (x0 x3 : Int) {h : fi_H} (H : Shp h) (hk : h 0 x0.toNat 0 = 110) : c_300_70 d x0 x3 h =
  if 302 < h 189 x0.toNat 0 ∧ h 0 (h 189 x0.toNat 0).toNat 0 = 9 then
  if 0 ≤ x3 ∧ x3 < h 1 (h 189 x0.toNat 0).toNat 0 then
  lt_ (fi_upd h 9 (h 189 x0.toNat 0).toNat x3.toNat (wS (h 190 x0.toNat 0))) fun h1 =>
  if 302 < x0 then
  lt_ (fi_upd h1 190 x0.toNat 0 (wI ((h1 190 x0.toNat 0) + 1))) fun h2 =>
  some (.inl none, h2)
  else none
  else none
  else none := by
  unfold c_300_70
  exact
    have D : fk_D 300 [(70, some [0, 3], .aload_n 0, 1, 0, 0, 0), (71, none, .getfield 21, 3, 189, 110, 12), (74, none, .iload_n 3, 1, 0, 0, 0), (75, none, .aload_n 0, 1, 0, 0, 0), (76, none, .getfield 25, 3, 190, 110, 10), (79, none, .i2s, 1, 0, 0, 0), (80, none, .sastore, 1, 0, 0, 0), (81, none, .aload_n 0, 1, 0, 0, 0), (82, none, .dup, 1, 0, 0, 0), (83, none, .getfield 25, 3, 190, 110, 10), (86, none, .iconst 1, 1, 0, 1, 0), (87, none, .iadd, 1, 0, 0, 0), (88, none, .putfield 25, 3, 190, 110, 10), (91, none, .return_, 1, 0, 0, 0)] := fq_of2 cd_300 ow_300 cl_300 rfl (pc := 70) (by decide +kernel)
    j_aldn (pc := 70) D rfl rfl rfl fun D =>
    j_gf (pc := 71) (a := x0.toNat) D rfl rfl (nz_cls H.2.1 hk (by decide)) rfl hk rfl fun D =>
    j_ildn (pc := 74) D rfl rfl rfl fun D =>
    j_aldn (pc := 75) D rfl rfl rfl fun D =>
    j_gf (pc := 76) (a := x0.toNat) D rfl rfl (nz_cls H.2.1 hk (by decide)) rfl hk rfl fun D =>
    j_i2s (pc := 79) D rfl fun D =>
    j_asu (pc := 80) (e := 9) D rfl rfl ⟨rfl, rfl, rfl⟩ rfl gn gn (gy (fk_rgS _)) fun h1 eh1 S q q2 D =>
    have T := fj_hs_ok H.1 S
    have hk := cls_st H.1 T.2 hk (by decide)
    have H := shp_st H T
    j_aldn (pc := 81) D rfl rfl rfl fun D =>
    j_sh (pc := 82) D rfl rfl rfl fun D =>
    j_gf (pc := 83) (a := x0.toNat) D rfl rfl (nz_cls H.2.1 hk (by decide)) rfl hk rfl fun D =>
    j_ic (pc := 86) D rfl fun D =>
    j_iadd (pc := 87) D rfl fun D =>
    j_pf (pc := 88) (a := x0.toNat) D rfl rfl rfl hk rfl rfl gn (gy rfl) fun h2 eh2 S D =>
    have T := fj_hs_ok H.1 S
    have hk := cls_st H.1 T.2 hk (by decide)
    have H := shp_st H T
    j_vret D rt_300
theorem m_300 (d : Nat) (x0 x1 x2 : Int) {h : fi_H} (H : Shp h) (hk : h 0 x0.toNat 0 = 110) : fj_run (d + 1) 300 h [(4, x0), (4, x1), (0, x2)] =
  if 302 < h 187 x0.toNat 0 ∧ (20 ≤ h 0 (h 187 x0.toNat 0).toNat 0 ∧ h 0 (h 187 x0.toNat 0).toNat 0 < 30) then
  if 0 ≤ h 190 x0.toNat 0 ∧ h 190 x0.toNat 0 < h 1 (h 187 x0.toNat 0).toNat 0 then
  if h 0 (h 187 x0.toNat 0).toNat 0 ≠ 28 ∧ (x1 = 0 ∨ (fi_sup (h 0 x1.toNat 0)).contains (fi_comp (h 0 (h 187 x0.toNat 0).toNat 0)) = true) then
  lt_ (fi_upd h 12 (h 187 x0.toNat 0).toNat (h 190 x0.toNat 0).toNat x1) fun h1 =>
  if 302 < h1 188 x0.toNat 0 ∧ h1 0 (h1 188 x0.toNat 0).toNat 0 = 5 then
  if 0 ≤ h1 190 x0.toNat 0 ∧ h1 190 x0.toNat 0 < h1 1 (h1 188 x0.toNat 0).toNat 0 then
  lt_ (fi_upd h1 5 (h1 188 x0.toNat 0).toNat (h1 190 x0.toNat 0).toNat (wC x2)) fun h2 =>
  c_300_26 d x0 x1 (h2 190 x0.toNat 0) h2
  else none
  else none
  else none
  else none
  else none := by
  rw [fj_run_eq d (by decide) h [(4, x0), (4, x1), (0, x2)] (Nat.le_of_ble_eq_true (by rw [nl_300]; rfl))]
  show gG (fj_run d) 300 0 [(0, (4, x0)), (1, (4, x1)), (2, (0, x2))] [] h = _
  exact
    have D : fk_D 300 [(0, none, .aload_n 0, 1, 0, 0, 0), (1, none, .getfield 11, 3, 187, 110, 12), (4, none, .aload_n 0, 1, 0, 0, 0), (5, none, .getfield 25, 3, 190, 110, 10), (8, none, .aload_n 1, 1, 0, 0, 0), (9, none, .aastore, 1, 0, 0, 0), (10, none, .aload_n 0, 1, 0, 0, 0), (11, none, .getfield 17, 3, 188, 110, 12), (14, none, .aload_n 0, 1, 0, 0, 0), (15, none, .getfield 25, 3, 190, 110, 10), (18, none, .iload_n 2, 1, 0, 0, 0), (19, none, .i2c, 1, 0, 0, 0), (20, none, .castore, 1, 0, 0, 0), (21, none, .aload_n 0, 1, 0, 0, 0), (22, none, .getfield 25, 3, 190, 110, 10), (25, none, .istore_n 3, 1, 0, 0, 0)] := fq_of2 cd_300 ow_300 cl_300 rfl (pc := 0) (by decide +kernel)
    j_aldn (pc := 0) D rfl rfl rfl fun D =>
    j_gf (pc := 1) (a := x0.toNat) D rfl rfl (nz_cls H.2.1 hk (by decide)) rfl hk rfl fun D =>
    j_aldn (pc := 4) D rfl rfl rfl fun D =>
    j_gf (pc := 5) (a := x0.toNat) D rfl rfl (nz_cls H.2.1 hk (by decide)) rfl hk rfl fun D =>
    j_aldn (pc := 8) D rfl rfl rfl fun D =>
    j_asur (pc := 9) D rfl rfl gn gn gn fun h1 eh1 S q q2 D =>
    have T := fj_hs_ok H.1 S
    have hk := cls_st H.1 T.2 hk (by decide)
    have H := shp_st H T
    j_aldn (pc := 10) D rfl rfl rfl fun D =>
    j_gf (pc := 11) (a := x0.toNat) D rfl rfl (nz_cls H.2.1 hk (by decide)) rfl hk rfl fun D =>
    j_aldn (pc := 14) D rfl rfl rfl fun D =>
    j_gf (pc := 15) (a := x0.toNat) D rfl rfl (nz_cls H.2.1 hk (by decide)) rfl hk rfl fun D =>
    j_ildn (pc := 18) D rfl rfl rfl fun D =>
    j_i2c (pc := 19) D rfl fun D =>
    j_asu (pc := 20) (e := 5) D rfl rfl ⟨rfl, rfl, rfl⟩ rfl gn gn (gy (fk_rgC _)) fun h2 eh2 S q q2 D =>
    have T := fj_hs_ok H.1 S
    have hk := cls_st H.1 T.2 hk (by decide)
    have H := shp_st H T
    j_aldn (pc := 21) D rfl rfl rfl fun D =>
    j_gf (pc := 22) (a := x0.toNat) D rfl rfl (nz_cls H.2.1 hk (by decide)) rfl hk rfl fun D =>
    j_istn (pc := 25) (L' := [(3, (0, h2 190 x0.toNat 0)), (0, (4, x0)), (1, (4, x1)), (2, (0, x2))]) D rfl nl_300 rfl rfl fun D =>
    fk_jump cut_300_26 rfl rfl
/-! 301 StatuteHouse$Law.isBehind(LStatuteHouse$Version;LStatuteHouse$Version;)Z -/
theorem cd_301 : fi_code 301 = prog_40_method_3_code := rfl
theorem hx_301 : ∀ pc, fi_hat 301 pc = none := fun pc => by unfold fi_hat; rw [show fi_hh 301 = [] from rfl]; rfl
theorem rt_301 : fi_ret 301 = some .boolean := rfl
theorem nl_301 : fi_nl 301 = 2 := rfl
theorem ow_301 : fi_ow 301 = 10 := rfl
theorem cl_301 : fj_cutT.getD 301 [] = [] := rfl
theorem m_301 (d : Nat) (x0 x1 : Int) {h : fi_H} (H : Shp h) : fj_run (d + 1) 301 h [(4, x0), (4, x1)] =
  if h 0 x0.toNat 0 = 126 then
  if h 0 x1.toNat 0 = 126 then
  if h 372 x1.toNat 0 < h 372 x0.toNat 0 then
    some (.inl (some (0, 1)), h)
  else
    if h 372 x0.toNat 0 = h 372 x1.toNat 0 then
      if h 373 x1.toNat 0 < h 373 x0.toNat 0 then
        some (.inl (some (0, 1)), h)
      else
        some (.inl (some (0, 0)), h)
    else
      some (.inl (some (0, 0)), h)
  else none
  else none := by
  rw [fj_run_eq d (by decide) h [(4, x0), (4, x1)] (Nat.le_of_ble_eq_true (by rw [nl_301]; rfl))]
  show gG (fj_run d) 301 0 [(0, (4, x0)), (1, (4, x1))] [] h = _
  exact
    have D : fk_D 301 [(0, none, .aload_n 0, 1, 0, 0, 0), (1, none, .getfield 33, 3, 372, (-126), 10), (4, none, .aload_n 1, 1, 0, 0, 0), (5, none, .getfield 33, 3, 372, (-126), 10), (8, none, .if_icmp .gt 25, 3, 33, 0, 0), (11, none, .aload_n 0, 1, 0, 0, 0), (12, none, .getfield 33, 3, 372, 126, 10), (15, none, .aload_n 1, 1, 0, 0, 0), (16, none, .getfield 33, 3, 372, 126, 10), (19, none, .if_icmp .ne 18, 3, 37, 0, 0), (22, none, .aload_n 0, 1, 0, 0, 0), (23, none, .getfield 36, 3, 373, 126, 10), (26, none, .aload_n 1, 1, 0, 0, 0), (27, none, .getfield 36, 3, 373, 126, 10), (30, none, .if_icmp .le 7, 3, 37, 0, 0), (33, none, .iconst 1, 1, 0, 1, 0), (34, none, .goto 4, 3, 38, 0, 0)] := fq_of2 cd_301 ow_301 cl_301 rfl (pc := 0) (by decide +kernel)
    j_aldn (pc := 0) D rfl rfl rfl fun D =>
    j_gfo (pc := 1) H.2.1 D rfl rfl rfl rfl fun kc1 D =>
    j_aldn (pc := 4) D rfl rfl rfl fun D =>
    j_gfo (pc := 5) H.2.1 D rfl rfl rfl rfl fun kc2 D =>
    j_igt (pc := 8) D rfl (fun q =>
      have D : fk_D 301 [(33, none, .iconst 1, 1, 0, 1, 0), (34, none, .goto 4, 3, 38, 0, 0)] := fq_of2 cd_301 ow_301 cl_301 rfl (pc := 33) (by decide +kernel)
      j_ic (pc := 33) D rfl fun D =>
      j_goto (pc := 34) D rfl <|
      have D : fk_D 301 [(38, none, .ireturn, 1, 0, 0, 0)] := fq_of2 cd_301 ow_301 cl_301 rfl (pc := 38) (by decide +kernel)
      j_zret D rt_301 (gy (by decide))) (fun q D =>
      j_aldn (pc := 11) D rfl rfl rfl fun D =>
      j_gf (pc := 12) (a := x0.toNat) D rfl rfl (nz_cls H.2.1 kc1 (by decide)) rfl kc1 rfl fun D =>
      j_aldn (pc := 15) D rfl rfl rfl fun D =>
      j_gf (pc := 16) (a := x1.toNat) D rfl rfl (nz_cls H.2.1 kc2 (by decide)) rfl kc2 rfl fun D =>
      j_ine (pc := 19) D rfl (fun q D =>
        j_aldn (pc := 22) D rfl rfl rfl fun D =>
        j_gf (pc := 23) (a := x0.toNat) D rfl rfl (nz_cls H.2.1 kc1 (by decide)) rfl kc1 rfl fun D =>
        j_aldn (pc := 26) D rfl rfl rfl fun D =>
        j_gf (pc := 27) (a := x1.toNat) D rfl rfl (nz_cls H.2.1 kc2 (by decide)) rfl kc2 rfl fun D =>
        j_ile (pc := 30) D rfl (fun q D =>
          j_ic (pc := 33) D rfl fun D =>
          j_goto (pc := 34) D rfl <|
          have D : fk_D 301 [(38, none, .ireturn, 1, 0, 0, 0)] := fq_of2 cd_301 ow_301 cl_301 rfl (pc := 38) (by decide +kernel)
          j_zret D rt_301 (gy (by decide))) (fun q =>
          have D : fk_D 301 [(37, none, .iconst 0, 1, 0, 0, 0), (38, none, .ireturn, 1, 0, 0, 0)] := fq_of2 cd_301 ow_301 cl_301 rfl (pc := 37) (by decide +kernel)
          j_ic (pc := 37) D rfl fun D =>
          j_zret D rt_301 (gy (by decide)))) (fun q =>
        have D : fk_D 301 [(37, none, .iconst 0, 1, 0, 0, 0), (38, none, .ireturn, 1, 0, 0, 0)] := fq_of2 cd_301 ow_301 cl_301 rfl (pc := 37) (by decide +kernel)
        j_ic (pc := 37) D rfl fun D =>
        j_zret D rt_301 (gy (by decide))))
/-! 302 StatuteHouse.ask(IIII)I -/
theorem cd_302 : fi_code 302 = prog_1_method_64_code := rfl
theorem rt_302 : fi_ret 302 = some .int := rfl
theorem nl_302 : fi_nl 302 = 7 := rfl
theorem ow_302 : fi_ow 302 = 0 := rfl
theorem cl_302 : fj_cutT.getD 302 [] = [(54, [0])] := rfl
theorem cut_302_54 : fj_cut 302 54 = some [0] := by decide +kernel
noncomputable def c_302_54 (d : Nat) (s0 : Int) (h : fi_H) : fk_R := gG (fj_run d) 302 54 [(0, (4, 303))] [(4, s0)] h
theorem e_302_54 (d : Nat) (s0 : Int) {h : fi_H} (H : Shp h) : c_302_54 d s0 h =
  if h 0 s0.toNat 0 = 128 then
  cv_ (fj_run d 196 h [(4, 303), (0, h 107 s0.toNat 0), (0, h 108 s0.toNat 0)])
    (fun h2 =>
    some (.inl (some (0, (-1))), h2))
    (fun q4 h2 => tx_ q4 h2)
  else none := by
  unfold c_302_54
  exact
    have D : fk_D 302 [(54, some [0], .astore 6, 2, 0, 0, 0), (56, none, .aload_n 0, 1, 0, 0, 0), (57, none, .aload 6, 2, 0, 0, 0), (59, none, .getfield 7, 3, 107, (-128), 10), (62, none, .aload 6, 2, 0, 0, 0), (64, none, .getfield 13, 3, 108, 128, 10), (67, none, .invokevirtual 793, 3, 2, 161, 0), (70, none, .iconst (-1), 1, 0, (-1), 0), (71, none, .ireturn, 1, 0, 0, 0)] := fq_of2 cd_302 ow_302 cl_302 rfl (pc := 54) (by decide +kernel)
    j_ast (pc := 54) (L' := [(6, (4, s0)), (0, (4, 303))]) D rfl nl_302 rfl rfl fun D =>
    j_aldn (pc := 56) D rfl rfl rfl fun D =>
    j_ald (pc := 57) D rfl rfl rfl fun D =>
    j_gfo (pc := 59) H.2.1 D rfl rfl rfl rfl fun kc1 D =>
    j_ald (pc := 62) D rfl rfl rfl fun D =>
    j_gf (pc := 64) (a := s0.toNat) D rfl rfl (nz_cls H.2.1 kc1 (by decide)) rfl kc1 rfl fun D =>
    j_ivv (pc := 67) (m := 196) (dd := 161) (a := [(0, h 107 s0.toNat 0), (0, h 108 s0.toNat 0)]) (rest := []) D rfl rfl rfl rfl rfl (by decide) (s0_303 H) (by decide +kernel) (fun h2 e1 D =>
      have T := fj_run_ok _ _ _ _ _ _ H.1 e1
      have kc1 := cls_st H.1 T.2 kc1 (by decide)
      have H := shp_st H T
      j_ic (pc := 70) D rfl fun D =>
      j_iret D rt_302) (fun q4 h2 e1 =>
      j_tx (by decide +kernel))
theorem m_302 (d : Nat) (x1 x2 x3 x4 : Int) {h : fi_H} (H : Shp h) : fj_run (d + 1) 302 h [(4, 303), (0, x1), (0, x2), (0, x3), (0, x4)] =
  ca_ (fj_run d 1 h [(0, x1)]) 0
    (fun v2 h1 =>
    if v2 = 0 then
      some (.inl (some (0, (-2))), h1)
    else
      ca_ (fj_run d 303 h1 [(4, 303), (0, x2)]) 0
        (fun v5 h4 =>
        if v5 = 0 then
          some (.inl (some (0, (-2))), h4)
        else
          ca_ (fj_run d 2 h4 [(4, 303), (0, x3)]) 0
            (fun v8 h7 =>
            if v8 = 0 then
              some (.inl (some (0, (-2))), h7)
            else
              ca_ (fj_run d 2 h7 [(4, 303), (0, x4)]) 0
                (fun v11 h10 =>
                if v11 = 0 then
                  some (.inl (some (0, (-2))), h10)
                else
                  cv_ (fj_run d 111 h10 [(4, 377)])
                    (fun h13 =>
                    ca_ (fj_run d 304 h13 [(4, 377)]) 4
                      (fun v17 h16 =>
                      cv_ (fj_run d 196 h16 [(4, 303), (0, 0), (0, (-1))])
                        (fun h19 =>
                        ca_ (fj_run d 306 h19 [(4, 303), (4, v17), (0, (-1)), (0, x1), (0, x2), (0, x3), (0, x4)]) 0
                          (fun v23 h22 =>
                          some (.inl (some (0, v23)), h22))
                          (fun q24 h22 => tx_ q24 h22))
                        (fun q21 h19 => tx_ q21 h19))
                      (fun q18 h16 => tc_ 128 q18 h16 (c_302_54 d (q18 : Int) h16)))
                    (fun q15 h13 => tx_ q15 h13))
                (fun q12 h10 => tx_ q12 h10))
            (fun q9 h7 => tx_ q9 h7))
        (fun q6 h4 => tx_ q6 h4))
    (fun q3 h1 => tx_ q3 h1) := by
  rw [fj_run_eq d (by decide) h [(4, 303), (0, x1), (0, x2), (0, x3), (0, x4)] (Nat.le_of_ble_eq_true (by rw [nl_302]; rfl))]
  show gG (fj_run d) 302 0 [(0, (4, 303)), (1, (0, x1)), (2, (0, x2)), (3, (0, x3)), (4, (0, x4))] [] h = _
  exact
    have D : fk_D 302 [(0, none, .iload_n 1, 1, 0, 0, 0), (1, none, .invokestatic 526, 3, 1, 1, 1), (4, none, .ifCond .eq 28, 3, 32, 0, 0), (7, none, .aload_n 0, 1, 0, 0, 0), (8, none, .iload_n 2, 1, 0, 0, 0), (9, none, .invokevirtual 870, 3, 1, 167, 1), (12, none, .ifCond .eq 20, 3, 32, 0, 0), (15, none, .aload_n 0, 1, 0, 0, 0), (16, none, .iload_n 3, 1, 0, 0, 0), (17, none, .invokevirtual 121, 3, 1, 113, 1), (20, none, .ifCond .eq 12, 3, 32, 0, 0), (23, none, .aload_n 0, 1, 0, 0, 0), (24, none, .iload 4, 2, 0, 0, 0), (26, none, .invokevirtual 121, 3, 1, 113, 1), (29, none, .ifCond .ne 6, 3, 35, 0, 0), (32, none, .bipush (-2), 2, 0, (-2), 0), (34, none, .ireturn, 1, 0, 0, 0)] := fq_of2 cd_302 ow_302 cl_302 rfl (pc := 0) (by decide +kernel)
    j_ildn (pc := 0) D rfl rfl rfl fun D =>
    j_is (pc := 1) (m := 1) (a := [(0, x1)]) (rest := []) D rfl rfl rfl rfl (fun v2 h1 e1 D =>
      have T := fj_run_ok _ _ _ _ _ _ H.1 e1
      have H := shp_st H T
      j_ifeq (pc := 4) D rfl (fun q =>
        have D : fk_D 302 [(32, none, .bipush (-2), 2, 0, (-2), 0), (34, none, .ireturn, 1, 0, 0, 0)] := fq_of2 cd_302 ow_302 cl_302 rfl (pc := 32) (by decide +kernel)
        j_bp (pc := 32) D rfl fun D =>
        j_iret D rt_302) (fun q D =>
        j_aldn (pc := 7) D rfl rfl rfl fun D =>
        j_ildn (pc := 8) D rfl rfl rfl fun D =>
        j_iv (pc := 9) (m := 303) (dd := 167) (a := [(0, x2)]) (rest := []) D rfl rfl rfl rfl rfl (by decide) (s0_303 H) (by decide +kernel) (fun v5 h4 e1 D =>
          have T := fj_run_ok _ _ _ _ _ _ H.1 e1
          have H := shp_st H T
          j_ifeq (pc := 12) D rfl (fun q =>
            have D : fk_D 302 [(32, none, .bipush (-2), 2, 0, (-2), 0), (34, none, .ireturn, 1, 0, 0, 0)] := fq_of2 cd_302 ow_302 cl_302 rfl (pc := 32) (by decide +kernel)
            j_bp (pc := 32) D rfl fun D =>
            j_iret D rt_302) (fun q D =>
            j_aldn (pc := 15) D rfl rfl rfl fun D =>
            j_ildn (pc := 16) D rfl rfl rfl fun D =>
            j_iv (pc := 17) (m := 2) (dd := 113) (a := [(0, x3)]) (rest := []) D rfl rfl rfl rfl rfl (by decide) (s0_303 H) (by decide +kernel) (fun v8 h7 e1 D =>
              have T := fj_run_ok _ _ _ _ _ _ H.1 e1
              have H := shp_st H T
              j_ifeq (pc := 20) D rfl (fun q =>
                have D : fk_D 302 [(32, none, .bipush (-2), 2, 0, (-2), 0), (34, none, .ireturn, 1, 0, 0, 0)] := fq_of2 cd_302 ow_302 cl_302 rfl (pc := 32) (by decide +kernel)
                j_bp (pc := 32) D rfl fun D =>
                j_iret D rt_302) (fun q D =>
                j_aldn (pc := 23) D rfl rfl rfl fun D =>
                j_ild (pc := 24) D rfl rfl rfl fun D =>
                j_iv (pc := 26) (m := 2) (dd := 113) (a := [(0, x4)]) (rest := []) D rfl rfl rfl rfl rfl (by decide) (s0_303 H) (by decide +kernel) (fun v11 h10 e1 D =>
                  have T := fj_run_ok _ _ _ _ _ _ H.1 e1
                  have H := shp_st H T
                  j_ifne (pc := 29) D rfl (fun q D =>
                    j_bp (pc := 32) D rfl fun D =>
                    j_iret D rt_302) (fun q =>
                    have D : fk_D 302 [(35, none, .aload_n 0, 1, 0, 0, 0), (36, none, .getfield 680, 3, 269, 100, 12), (39, none, .invokevirtual 790, 3, 0, 159, 0), (42, none, .aload_n 0, 1, 0, 0, 0), (43, none, .getfield 680, 3, 269, 100, 12), (46, none, .invokevirtual 873, 3, 0, 168, 5), (49, none, .astore 5, 2, 0, 0, 0), (51, none, .goto 21, 3, 72, 0, 0)] := fq_of2 cd_302 ow_302 cl_302 rfl (pc := 35) (by decide +kernel)
                    j_aldn (pc := 35) D rfl rfl rfl fun D =>
                    j_gfc (pc := 36) (a := 303) D rfl rfl (by decide) rfl (s0_303 H) rfl (sf_269_303 H) fun D =>
                    j_ivv (pc := 39) (m := 111) (dd := 159) (a := []) (rest := []) D rfl rfl rfl rfl rfl (by decide) (s0_377 H) (by decide +kernel) (fun h13 e1 D =>
                      have T := fj_run_ok _ _ _ _ _ _ H.1 e1
                      have H := shp_st H T
                      j_aldn (pc := 42) D rfl rfl rfl fun D =>
                      j_gfc (pc := 43) (a := 303) D rfl rfl (by decide) rfl (s0_303 H) rfl (sf_269_303 H) fun D =>
                      j_iv (pc := 46) (m := 304) (dd := 168) (a := []) (rest := []) D rfl rfl rfl rfl rfl (by decide) (s0_377 H) (by decide +kernel) (fun v17 h16 e1 D =>
                        have T := fj_run_ok _ _ _ _ _ _ H.1 e1
                        have H := shp_st H T
                        j_ast (pc := 49) (L' := [(5, (4, v17)), (0, (4, 303)), (1, (0, x1)), (2, (0, x2)), (3, (0, x3)), (4, (0, x4))]) D rfl nl_302 rfl rfl fun D =>
                        j_goto (pc := 51) D rfl <|
                        have D : fk_D 302 [(72, none, .aload_n 0, 1, 0, 0, 0), (73, none, .iconst 0, 1, 0, 0, 0), (74, none, .iconst (-1), 1, 0, (-1), 0), (75, none, .invokevirtual 793, 3, 2, 161, 0), (78, none, .aload_n 0, 1, 0, 0, 0), (79, none, .aload 5, 2, 0, 0, 0), (81, none, .iconst (-1), 1, 0, (-1), 0), (82, none, .iload_n 1, 1, 0, 0, 0), (83, none, .iload_n 2, 1, 0, 0, 0), (84, none, .iload_n 3, 1, 0, 0, 0), (85, none, .iload 4, 2, 0, 0, 0), (87, none, .invokevirtual 877, 3, 6, 169, 1), (90, none, .ireturn, 1, 0, 0, 0)] := fq_of2 cd_302 ow_302 cl_302 rfl (pc := 72) (by decide +kernel)
                        j_aldn (pc := 72) D rfl rfl rfl fun D =>
                        j_ic (pc := 73) D rfl fun D =>
                        j_ic (pc := 74) D rfl fun D =>
                        j_ivv (pc := 75) (m := 196) (dd := 161) (a := [(0, 0), (0, (-1))]) (rest := []) D rfl rfl rfl rfl rfl (by decide) (s0_303 H) (by decide +kernel) (fun h19 e1 D =>
                          have T := fj_run_ok _ _ _ _ _ _ H.1 e1
                          have H := shp_st H T
                          j_aldn (pc := 78) D rfl rfl rfl fun D =>
                          j_ald (pc := 79) D rfl rfl rfl fun D =>
                          j_ic (pc := 81) D rfl fun D =>
                          j_ildn (pc := 82) D rfl rfl rfl fun D =>
                          j_ildn (pc := 83) D rfl rfl rfl fun D =>
                          j_ildn (pc := 84) D rfl rfl rfl fun D =>
                          j_ild (pc := 85) D rfl rfl rfl fun D =>
                          j_iv (pc := 87) (m := 306) (dd := 169) (a := [(4, v17), (0, (-1)), (0, x1), (0, x2), (0, x3), (0, x4)]) (rest := []) D rfl rfl rfl rfl rfl (by decide) (s0_303 H) (by decide +kernel) (fun v23 h22 e1 D =>
                            have T := fj_run_ok _ _ _ _ _ _ H.1 e1
                            have H := shp_st H T
                            j_iret D rt_302) (fun q24 h22 e1 =>
                            j_tx (by decide +kernel))) (fun q21 h19 e1 =>
                          j_tx (by decide +kernel))) (fun q18 h16 e1 =>
                        j_tc_ (n := 128) (fk_at (cu := none) (by decide +kernel) rfl) (s := 42) (e := 51) (hp := 54) (ct := 8) (by decide +kernel) rfl (by decide +kernel) <|
                        fk_jump cut_302_54 rfl rfl)) (fun q15 h13 e1 =>
                      j_tx (by decide +kernel)))) (fun q12 h10 e1 =>
                  j_tx (by decide +kernel)))) (fun q9 h7 e1 =>
              j_tx (by decide +kernel)))) (fun q6 h4 e1 =>
          j_tx (by decide +kernel)))) (fun q3 h1 e1 =>
      j_tx (by decide +kernel))
/-! 303 StatuteHouse.isPerson(I)Z -/
theorem cd_303 : fi_code 303 = prog_1_method_63_code := rfl
theorem hx_303 : ∀ pc, fi_hat 303 pc = none := fun pc => by unfold fi_hat; rw [show fi_hh 303 = [] from rfl]; rfl
theorem rt_303 : fi_ret 303 = some .boolean := rfl
theorem nl_303 : fi_nl 303 = 2 := rfl
theorem ow_303 : fi_ow 303 = 0 := rfl
theorem cl_303 : fj_cutT.getD 303 [] = [] := rfl
theorem m_303 (d : Nat) (x1 : Int) {h : fi_H} (H : Shp h) : fj_run (d + 1) 303 h [(4, 303), (0, x1)] =
  ca_ (fj_run d 3 h [(1, wI x1), (1, 0), (1, wJ ((wI (h 216 303 0)) - 1))]) 0
    (fun v2 h1 =>
    if v2 = 0 ∨ v2 = 1 then some (.inl (some (0, v2)), h1) else none)
    (fun q3 h1 => tx_ q3 h1) := by
  rw [fj_run_eq d (by decide) h [(4, 303), (0, x1)] (Nat.le_of_ble_eq_true (by rw [nl_303]; rfl))]
  show gG (fj_run d) 303 0 [(0, (4, 303)), (1, (0, x1))] [] h = _
  exact
    have D : fk_D 303 [(0, none, .iload_n 1, 1, 0, 0, 0), (1, none, .i2l, 1, 0, 0, 0), (2, none, .lconst 0, 1, 0, 0, 0), (3, none, .aload_n 0, 1, 0, 0, 0), (4, none, .getfield 267, 3, 216, 100, 10), (7, none, .i2l, 1, 0, 0, 0), (8, none, .lconst 1, 1, 0, 0, 0), (9, none, .lsub, 1, 0, 0, 0), (10, none, .invokestatic 46, 3, 3, 3, 1), (13, none, .ireturn, 1, 0, 0, 0)] := fq_of2 cd_303 ow_303 cl_303 rfl (pc := 0) (by decide +kernel)
    j_ildn (pc := 0) D rfl rfl rfl fun D =>
    j_i2l (pc := 1) D rfl fun D =>
    j_c0 (pc := 2) (v := (1, 0)) D rfl rfl (by decide +kernel) fun D =>
    j_aldn (pc := 3) D rfl rfl rfl fun D =>
    j_gf (pc := 4) (a := 303) D rfl rfl (by decide) rfl (s0_303 H) rfl fun D =>
    j_i2l (pc := 7) D rfl fun D =>
    j_c0 (pc := 8) (v := (1, 1)) D rfl rfl (by decide +kernel) fun D =>
    j_lsub (pc := 9) D rfl fun D =>
    j_is (pc := 10) (m := 3) (a := [(1, wI x1), (1, 0), (1, wJ ((wI (h 216 303 0)) - 1))]) (rest := []) D rfl rfl rfl rfl (fun v2 h1 e1 D =>
      have T := fj_run_ok _ _ _ _ _ _ H.1 e1
      have H := shp_st H T
      j_zret D rt_303 gn) (fun q3 h1 e1 =>
      j_tx (hx_303 _))
/-! 304 StatuteHouse$Reader.question()LStatuteHouse$Part; -/
theorem cd_304 : fi_code 304 = prog_53_method_60_code := rfl
theorem hx_304 : ∀ pc, fi_hat 304 pc = none := fun pc => by unfold fi_hat; rw [show fi_hh 304 = [] from rfl]; rfl
theorem rt_304 : fj_ft (fi_ret 304) = 5 := rfl
theorem nl_304 : fi_nl 304 = 2 := rfl
theorem ow_304 : fi_ow 304 = 15 := rfl
theorem cl_304 : fj_cutT.getD 304 [] = [] := rfl
theorem m_304 (d : Nat) {h : fi_H} (H : Shp h) : fj_run (d + 1) 304 h [(4, 377)] =
  ca_ (fj_run d 231 h [(4, 377)]) 4
    (fun v2 h1 =>
    cv_ (fj_run d 305 h1 [(4, 377)])
      (fun h4 =>
      some (.inl (some (4, v2)), h4))
      (fun q6 h4 => tx_ q6 h4))
    (fun q3 h1 => tx_ q3 h1) := by
  rw [fj_run_eq d (by decide) h [(4, 377)] (Nat.le_of_ble_eq_true (by rw [nl_304]; rfl))]
  show gG (fj_run d) 304 0 [(0, (4, 377))] [] h = _
  exact
    have D : fk_D 304 [(0, none, .aload_n 0, 1, 0, 0, 0), (1, none, .invokevirtual 688, 3, 0, 301, 5), (4, none, .astore_n 1, 1, 0, 0, 0), (5, none, .aload_n 0, 1, 0, 0, 0), (6, none, .invokevirtual 694, 3, 0, 302, 0), (9, none, .aload_n 1, 1, 0, 0, 0), (10, none, .areturn, 1, 0, 0, 0)] := fq_of2 cd_304 ow_304 cl_304 rfl (pc := 0) (by decide +kernel)
    j_aldn (pc := 0) D rfl rfl rfl fun D =>
    j_iv (pc := 1) (m := 231) (dd := 301) (a := []) (rest := []) D rfl rfl rfl rfl rfl (by decide) (s0_377 H) (by decide +kernel) (fun v2 h1 e1 D =>
      have T := fj_run_ok _ _ _ _ _ _ H.1 e1
      have H := shp_st H T
      j_astn (pc := 4) (L' := [(1, (4, v2)), (0, (4, 377))]) D rfl nl_304 rfl rfl fun D =>
      j_aldn (pc := 5) D rfl rfl rfl fun D =>
      j_ivv (pc := 6) (m := 305) (dd := 302) (a := []) (rest := []) D rfl rfl rfl rfl rfl (by decide) (s0_377 H) (by decide +kernel) (fun h4 e1 D =>
        have T := fj_run_ok _ _ _ _ _ _ H.1 e1
        have H := shp_st H T
        j_aldn (pc := 9) D rfl rfl rfl fun D =>
        j_aret D rt_304) (fun q6 h4 e1 =>
        j_tx (hx_304 _))) (fun q3 h1 e1 =>
      j_tx (hx_304 _))
/-! 305 StatuteHouse$Reader.needEnd()V -/
theorem cd_305 : fi_code 305 = prog_53_method_18_code := rfl
theorem hx_305 : ∀ pc, fi_hat 305 pc = none := fun pc => by unfold fi_hat; rw [show fi_hh 305 = [] from rfl]; rfl
theorem rt_305 : fi_ret 305 = none := rfl
theorem nl_305 : fi_nl 305 = 1 := rfl
theorem ow_305 : fi_ow 305 = 15 := rfl
theorem cl_305 : fj_cutT.getD 305 [] = [] := rfl
theorem m_305 (d : Nat) {h : fi_H} (H : Shp h) : fj_run (d + 1) 305 h [(4, 377)] =
  if 0 ≤ h 158 377 0 ∧ h 158 377 0 < 1202 then
  if h 8 378 (h 158 377 0).toNat = 0 then
    some (.inl none, h)
  else
    ca_ (fj_run d 164 h [(4, 377), (0, 1)]) 4
      (fun v3 h2 =>
      if v3 ≠ 0 then
      tx_ v3.toNat h2
      else none)
      (fun q4 h2 => tx_ q4 h2)
  else none := by
  rw [fj_run_eq d (by decide) h [(4, 377)] (Nat.le_of_ble_eq_true (by rw [nl_305]; rfl))]
  show gG (fj_run d) 305 0 [(0, (4, 377))] [] h = _
  exact
    have D : fk_D 305 [(0, none, .aload_n 0, 1, 0, 0, 0), (1, none, .getfield 15, 3, 149, 115, 12), (4, none, .aload_n 0, 1, 0, 0, 0), (5, none, .getfield 104, 3, 158, 115, 10), (8, none, .baload, 1, 0, 0, 0), (9, none, .ifCond .eq 9, 3, 18, 0, 0), (12, none, .aload_n 0, 1, 0, 0, 0), (13, none, .iconst 1, 1, 0, 1, 0), (14, none, .invokevirtual 190, 3, 1, 258, 5), (17, none, .athrow, 1, 0, 0, 0)] := fq_of2 cd_305 ow_305 cl_305 rfl (pc := 0) (by decide +kernel)
    j_aldn (pc := 0) D rfl rfl rfl fun D =>
    j_gfc (pc := 1) (a := 377) D rfl rfl (by decide) rfl (s0_377 H) rfl (sf_149_377 H) fun D =>
    j_aldn (pc := 4) D rfl rfl rfl fun D =>
    j_gf (pc := 5) (a := 377) D rfl rfl (by decide) rfl (s0_377 H) rfl fun D =>
    j_al (pc := 8) (a := 378) (e := 8) D rfl rfl rfl (by decide) (s0_378 H) (s1_378 H) ⟨rfl, rfl, rfl⟩ rfl gn fun qb1 D =>
    j_ifeq (pc := 9) D rfl (fun q =>
      have D : fk_D 305 [(18, none, .return_, 1, 0, 0, 0)] := fq_of2 cd_305 ow_305 cl_305 rfl (pc := 18) (by decide +kernel)
      j_vret D rt_305) (fun q D =>
      j_aldn (pc := 12) D rfl rfl rfl fun D =>
      j_ic (pc := 13) D rfl fun D =>
      j_iv (pc := 14) (m := 164) (dd := 258) (a := [(0, 1)]) (rest := []) D rfl rfl rfl rfl rfl (by decide) (s0_377 H) (by decide +kernel) (fun v3 h2 e1 D =>
        have T := fj_run_ok _ _ _ _ _ _ H.1 e1
        have H := shp_st H T
        j_at (pc := 17) D gn <|
        j_tx (hx_305 _)) (fun q4 h2 e1 =>
        j_tx (hx_305 _)))
/-! 306 StatuteHouse.worked(LStatuteHouse$Part;IIIII)I -/
theorem cd_306 : fi_code 306 = prog_1_method_65_code := rfl
theorem rt_306 : fi_ret 306 = some .int := rfl
theorem nl_306 : fi_nl 306 = 11 := rfl
theorem ow_306 : fi_ow 306 = 0 := rfl
theorem cl_306 : fj_cutT.getD 306 [] = [(51, [0, 1, 2]), (71, [0, 7]), (79, [0])] := rfl
theorem cut_306_51 : fj_cut 306 51 = some [0, 1, 2] := by decide +kernel
noncomputable def c_306_51 (d : Nat) (x1 x2 s0 : Int) (h : fi_H) : fk_R := gG (fj_run d) 306 51 [(0, (4, 303)), (1, (4, x1)), (2, (0, x2))] [(4, s0)] h
theorem cut_306_71 : fj_cut 306 71 = some [0, 7] := by decide +kernel
noncomputable def c_306_71 (d : Nat) (x7 : Int) (h : fi_H) : fk_R := gG (fj_run d) 306 71 [(0, (4, 303)), (7, (4, x7))] [] h
theorem cut_306_79 : fj_cut 306 79 = some [0] := by decide +kernel
noncomputable def c_306_79 (d : Nat) (s0 : Int) (h : fi_H) : fk_R := gG (fj_run d) 306 79 [(0, (4, 303))] [(4, s0)] h
theorem e_306_51 (d : Nat) (x1 x2 s0 : Int) {h : fi_H} (H : Shp h) : c_306_51 d x1 x2 s0 h =
  if x1 = 0 then
    cv_ (fj_run d 309 h [(4, 303), (0, x2), (0, 0)])
      (fun h1 =>
      c_306_71 d s0 h1)
      (fun q3 h1 => tc_ 107 q3 h1 (c_306_79 d (q3 : Int) h1))
  else
    dv_ (fi_vt 136 (h 0 x1.toNat 0)) fun m7 => cv_ (fj_run d m7 h [(4, x1), (0, 0)])
      (fun h4 =>
      c_306_71 d s0 h4)
      (fun q6 h4 => tc_ 107 q6 h4 (c_306_79 d (q6 : Int) h4)) := by
  unfold c_306_51
  exact
    have D : fk_D 306 [(51, some [0, 1, 2], .astore 7, 2, 0, 0, 0), (53, none, .aload_n 1, 1, 0, 0, 0), (54, none, .ifnonnull 12, 3, 66, 0, 0), (57, none, .aload_n 0, 1, 0, 0, 0), (58, none, .iload_n 2, 1, 0, 0, 0), (59, none, .iconst 0, 1, 0, 0, 0), (60, none, .invokevirtual 888, 3, 2, 172, 0), (63, none, .goto 8, 3, 71, 0, 0)] := fq_of2 cd_306 ow_306 cl_306 rfl (pc := 51) (by decide +kernel)
    j_ast (pc := 51) (L' := [(7, (4, s0)), (0, (4, 303)), (1, (4, x1)), (2, (0, x2))]) D rfl nl_306 rfl rfl fun D =>
    j_aldn (pc := 53) D rfl rfl rfl fun D =>
    j_nonnull (pc := 54) D rfl (fun q D =>
      j_aldn (pc := 57) D rfl rfl rfl fun D =>
      j_ildn (pc := 58) D rfl rfl rfl fun D =>
      j_ic (pc := 59) D rfl fun D =>
      j_ivv (pc := 60) (m := 309) (dd := 172) (a := [(0, x2), (0, 0)]) (rest := []) D rfl rfl rfl rfl rfl (by decide) (s0_303 H) (by decide +kernel) (fun h1 e1 D =>
        have T := fj_run_ok _ _ _ _ _ _ H.1 e1
        have H := shp_st H T
        j_goto (pc := 63) D rfl <|
        fk_jump cut_306_71 rfl rfl) (fun q3 h1 e1 =>
        j_tc_ (n := 107) (fk_at (cu := none) (by decide +kernel) rfl) (s := 53) (e := 71) (hp := 79) (ct := 312) (by decide +kernel) rfl (by decide +kernel) <|
        fk_jump cut_306_79 rfl rfl)) (fun q =>
      have D : fk_D 306 [(66, none, .aload_n 1, 1, 0, 0, 0), (67, none, .iconst 0, 1, 0, 0, 0), (68, none, .invokevirtual 397, 3, 1, 136, 0)] := fq_of2 cd_306 ow_306 cl_306 rfl (pc := 66) (by decide +kernel)
      j_aldn (pc := 66) D rfl rfl rfl fun D =>
      j_ic (pc := 67) D rfl fun D =>
      j_ivuv (pc := 68) (dd := 136) (a := [(0, 0)]) (rest := []) H.2.1 D rfl rfl rfl rfl rfl (fun m7 h4 e1 D =>
        have T := fj_run_ok _ _ _ _ _ _ H.1 e1
        have H := shp_st H T
        fk_jump cut_306_71 rfl rfl) (fun m7 q6 h4 e1 =>
        j_tc_ (n := 107) (fk_at (cu := none) (by decide +kernel) rfl) (s := 53) (e := 71) (hp := 79) (ct := 312) (by decide +kernel) rfl (by decide +kernel) <|
        fk_jump cut_306_79 rfl rfl))
theorem e_306_71 (d : Nat) (x7 : Int) {h : fi_H} (H : Shp h) : c_306_71 d x7 h =
  lt_ (fi_upd h 264 303 0 0) fun h1 =>
  ca_ (fj_run d 322 h1 [(4, 309), (0, 0), (4, x7)]) 1
    (fun v3 h2 =>
    lt_ (fi_upd h2 280 303 0 v3) fun h5 =>
    ca_ (fj_run d 325 h5 [(4, 309), (0, 0), (4, x7)]) 1
      (fun v7 h6 =>
      lt_ (fi_upd h6 281 303 0 v7) fun h9 =>
      dv_ (fi_vt 111 (h9 0 x7.toNat 0)) fun m13 => ca_ (fj_run d m13 h9 [(4, x7)]) 0
        (fun v11 h10 =>
        some (.inl (some (0, v11)), h10))
        (fun q12 h10 => tx_ q12 h10))
      (fun q8 h6 => tx_ q8 h6))
    (fun q4 h2 => tx_ q4 h2) := by
  unfold c_306_71
  exact
    have D : fk_D 306 [(71, some [0, 7], .aload_n 0, 1, 0, 0, 0), (72, none, .iconst 0, 1, 0, 0, 0), (73, none, .putfield 415, 3, 264, 100, 4), (76, none, .goto 33, 3, 109, 0, 0)] := fq_of2 cd_306 ow_306 cl_306 rfl (pc := 71) (by decide +kernel)
    j_aldn (pc := 71) D rfl rfl rfl fun D =>
    j_ic (pc := 72) D rfl fun D =>
    j_pf (pc := 73) (a := 303) D rfl rfl rfl (s0_303 H) rfl rfl (gy (by decide)) (gy (by decide)) fun h1 eh1 S D =>
    have T := fj_hs_ok H.1 S
    have H := shp_st H T
    j_goto (pc := 76) D rfl <|
    have D : fk_D 306 [(109, none, .aload_n 0, 1, 0, 0, 0), (110, none, .aload_n 0, 1, 0, 0, 0), (111, none, .getfield 113, 3, 213, 100, 12), (114, none, .iconst 0, 1, 0, 0, 0), (115, none, .aload 7, 2, 0, 0, 0), (117, none, .invokevirtual 200, 3, 2, 124, 2), (120, none, .putfield 891, 3, 280, 100, 11), (123, none, .aload_n 0, 1, 0, 0, 0), (124, none, .aload_n 0, 1, 0, 0, 0), (125, none, .getfield 113, 3, 213, 100, 12), (128, none, .iconst 0, 1, 0, 0, 0), (129, none, .aload 7, 2, 0, 0, 0), (131, none, .invokevirtual 448, 3, 2, 137, 2), (134, none, .putfield 894, 3, 281, 100, 11), (137, none, .aload 7, 2, 0, 0, 0), (139, none, .invokevirtual 50, 3, 0, 111, 1), (142, none, .ireturn, 1, 0, 0, 0)] := fq_of2 cd_306 ow_306 cl_306 rfl (pc := 109) (by decide +kernel)
    j_aldn (pc := 109) D rfl rfl rfl fun D =>
    j_aldn (pc := 110) D rfl rfl rfl fun D =>
    j_gfc (pc := 111) (a := 303) D rfl rfl (by decide) rfl (s0_303 H) rfl (sf_213_303 H) fun D =>
    j_ic (pc := 114) D rfl fun D =>
    j_ald (pc := 115) D rfl rfl rfl fun D =>
    j_iv (pc := 117) (m := 322) (dd := 124) (a := [(0, 0), (4, x7)]) (rest := [(4, 303)]) D rfl rfl rfl rfl rfl (by decide) (s0_309 H) (by decide +kernel) (fun v3 h2 e1 D =>
      have T := fj_run_ok _ _ _ _ _ _ H.1 e1
      have H := shp_st H T
      j_pf (pc := 120) (a := 303) D rfl rfl rfl (s0_303 H) rfl rfl (gy (by decide)) (gy rfl) fun h5 eh5 S D =>
      have T := fj_hs_ok H.1 S
      have H := shp_st H T
      j_aldn (pc := 123) D rfl rfl rfl fun D =>
      j_aldn (pc := 124) D rfl rfl rfl fun D =>
      j_gfc (pc := 125) (a := 303) D rfl rfl (by decide) rfl (s0_303 H) rfl (sf_213_303 H) fun D =>
      j_ic (pc := 128) D rfl fun D =>
      j_ald (pc := 129) D rfl rfl rfl fun D =>
      j_iv (pc := 131) (m := 325) (dd := 137) (a := [(0, 0), (4, x7)]) (rest := [(4, 303)]) D rfl rfl rfl rfl rfl (by decide) (s0_309 H) (by decide +kernel) (fun v7 h6 e1 D =>
        have T := fj_run_ok _ _ _ _ _ _ H.1 e1
        have H := shp_st H T
        j_pf (pc := 134) (a := 303) D rfl rfl rfl (s0_303 H) rfl rfl (gy (by decide)) (gy rfl) fun h9 eh9 S D =>
        have T := fj_hs_ok H.1 S
        have H := shp_st H T
        j_ald (pc := 137) D rfl rfl rfl fun D =>
        j_ivu (pc := 139) (dd := 111) (a := []) (rest := []) H.2.1 D rfl rfl rfl rfl rfl (fun m13 v11 h10 e1 D =>
          have T := fj_run_ok _ _ _ _ _ _ H.1 e1
          have H := shp_st H T
          j_iret D rt_306) (fun m13 q12 h10 e1 =>
          j_tx (by decide +kernel))) (fun q8 h6 e1 =>
        j_tx (by decide +kernel))) (fun q4 h2 e1 =>
      j_tx (by decide +kernel))
theorem e_306_79 (d : Nat) (s0 : Int) {h : fi_H} (H : Shp h) : c_306_79 d s0 h =
  if h 0 s0.toNat 0 = 107 then
  lt_ (fi_upd h 264 303 0 0) fun h2 =>
  some (.inl (some (0, wI ((-10) - (h 110 s0.toNat 0)))), h2)
  else none := by
  unfold c_306_79
  exact
    have D : fk_D 306 [(79, some [0], .astore 8, 2, 0, 0, 0), (81, none, .bipush (-10), 2, 0, (-10), 0), (83, none, .aload 8, 2, 0, 0, 0), (85, none, .getfield 311, 3, 110, (-107), 10), (88, none, .isub, 1, 0, 0, 0), (89, none, .istore 9, 2, 0, 0, 0), (91, none, .aload_n 0, 1, 0, 0, 0), (92, none, .iconst 0, 1, 0, 0, 0), (93, none, .putfield 415, 3, 264, 100, 4), (96, none, .iload 9, 2, 0, 0, 0), (98, none, .ireturn, 1, 0, 0, 0)] := fq_of2 cd_306 ow_306 cl_306 rfl (pc := 79) (by decide +kernel)
    j_ast (pc := 79) (L' := [(8, (4, s0)), (0, (4, 303))]) D rfl nl_306 rfl rfl fun D =>
    j_bp (pc := 81) D rfl fun D =>
    j_ald (pc := 83) D rfl rfl rfl fun D =>
    j_gfo (pc := 85) H.2.1 D rfl rfl rfl rfl fun kc1 D =>
    j_isub (pc := 88) D rfl fun D =>
    j_ist (pc := 89) (L' := [(9, (0, wI ((-10) - (h 110 s0.toNat 0)))), (8, (4, s0)), (0, (4, 303))]) D rfl nl_306 rfl rfl fun D =>
    j_aldn (pc := 91) D rfl rfl rfl fun D =>
    j_ic (pc := 92) D rfl fun D =>
    j_pf (pc := 93) (a := 303) D rfl rfl rfl (s0_303 H) rfl rfl (gy (by decide)) (gy (by decide)) fun h2 eh2 S D =>
    have T := fj_hs_ok H.1 S
    have kc1 := cls_st H.1 T.2 kc1 (by decide)
    have H := shp_st H T
    j_ild (pc := 96) D rfl rfl rfl fun D =>
    j_iret D rt_306
theorem m_306 (d : Nat) (x1 x2 x3 x4 x5 x6 : Int) {h : fi_H} (H : Shp h) : fj_run (d + 1) 306 h [(4, 303), (4, x1), (0, x2), (0, x3), (0, x4), (0, x5), (0, x6)] =
  cv_ (fj_run d 307 h [(4, 303), (0, x6), (0, 1)])
    (fun h1 =>
    if 0 ≤ x3 ∧ x3 < 4 then
    cv_ (fj_run d 308 h1 [(4, 303), (4, h1 12 354 x3.toNat), (0, x4), (0, x5)])
      (fun h5 =>
      lt_ (fi_upd h5 263 303 0 0) fun h8 =>
      lt_ (fi_upd h8 264 303 0 1) fun h9 =>
      if x1 = 0 then
        if 0 ≤ x2 ∧ x2 < 40 then
        if h9 0 (h9 12 320 x2.toNat).toNat 0 = 124 then
        c_306_51 d x1 x2 (h9 324 (h9 12 320 x2.toNat).toNat 0) h9
        else none
        else none
      else
        if fi_in (h9 0 x1.toNat 0) 340 = true then
        c_306_51 d x1 x2 (h9 340 x1.toNat 0) h9
        else none)
      (fun q7 h5 => tx_ q7 h5)
    else none)
    (fun q3 h1 => tx_ q3 h1) := by
  rw [fj_run_eq d (by decide) h [(4, 303), (4, x1), (0, x2), (0, x3), (0, x4), (0, x5), (0, x6)] (Nat.le_of_ble_eq_true (by rw [nl_306]; rfl))]
  show gG (fj_run d) 306 0 [(0, (4, 303)), (1, (4, x1)), (2, (0, x2)), (3, (0, x3)), (4, (0, x4)), (5, (0, x5)), (6, (0, x6))] [] h = _
  exact
    have D : fk_D 306 [(0, none, .aload_n 0, 1, 0, 0, 0), (1, none, .iload 6, 2, 0, 0, 0), (3, none, .iconst 1, 1, 0, 1, 0), (4, none, .invokevirtual 881, 3, 2, 170, 0), (7, none, .aload_n 0, 1, 0, 0, 0), (8, none, .aload_n 0, 1, 0, 0, 0), (9, none, .getfield 529, 3, 227, 100, 12), (12, none, .iload_n 3, 1, 0, 0, 0), (13, none, .aaload, 1, 0, 0, 0), (14, none, .iload 4, 2, 0, 0, 0), (16, none, .iload 5, 2, 0, 0, 0), (18, none, .invokevirtual 884, 3, 3, 171, 0), (21, none, .aload_n 0, 1, 0, 0, 0), (22, none, .iconst 0, 1, 0, 0, 0), (23, none, .putfield 418, 3, 263, 100, 10), (26, none, .aload_n 0, 1, 0, 0, 0), (27, none, .iconst 1, 1, 0, 1, 0), (28, none, .putfield 415, 3, 264, 100, 4), (31, none, .aload_n 1, 1, 0, 0, 0), (32, none, .ifnonnull 15, 3, 47, 0, 0)] := fq_of2 cd_306 ow_306 cl_306 rfl (pc := 0) (by decide +kernel)
    j_aldn (pc := 0) D rfl rfl rfl fun D =>
    j_ild (pc := 1) D rfl rfl rfl fun D =>
    j_ic (pc := 3) D rfl fun D =>
    j_ivv (pc := 4) (m := 307) (dd := 170) (a := [(0, x6), (0, 1)]) (rest := []) D rfl rfl rfl rfl rfl (by decide) (s0_303 H) (by decide +kernel) (fun h1 e1 D =>
      have T := fj_run_ok _ _ _ _ _ _ H.1 e1
      have H := shp_st H T
      j_aldn (pc := 7) D rfl rfl rfl fun D =>
      j_aldn (pc := 8) D rfl rfl rfl fun D =>
      j_gfc (pc := 9) (a := 303) D rfl rfl (by decide) rfl (s0_303 H) rfl (sf_227_303 H) fun D =>
      j_ildn (pc := 12) D rfl rfl rfl fun D =>
      j_al (pc := 13) (a := 354) (e := 12) D rfl rfl rfl (by decide) (s0_354 H) (s1_354 H) ⟨rfl, rfl, rfl⟩ rfl gn fun qb4 D =>
      j_ild (pc := 14) D rfl rfl rfl fun D =>
      j_ild (pc := 16) D rfl rfl rfl fun D =>
      j_ivv (pc := 18) (m := 308) (dd := 171) (a := [(4, h1 12 354 x3.toNat), (0, x4), (0, x5)]) (rest := []) D rfl rfl rfl rfl rfl (by decide) (s0_303 H) (by decide +kernel) (fun h5 e1 D =>
        have T := fj_run_ok _ _ _ _ _ _ H.1 e1
        have H := shp_st H T
        j_aldn (pc := 21) D rfl rfl rfl fun D =>
        j_ic (pc := 22) D rfl fun D =>
        j_pf (pc := 23) (a := 303) D rfl rfl rfl (s0_303 H) rfl rfl (gy (by decide)) (gy rfl) fun h8 eh8 S D =>
        have T := fj_hs_ok H.1 S
        have H := shp_st H T
        j_aldn (pc := 26) D rfl rfl rfl fun D =>
        j_ic (pc := 27) D rfl fun D =>
        j_pf (pc := 28) (a := 303) D rfl rfl rfl (s0_303 H) rfl rfl (gy (by decide)) (gy (by decide)) fun h9 eh9 S D =>
        have T := fj_hs_ok H.1 S
        have H := shp_st H T
        j_aldn (pc := 31) D rfl rfl rfl fun D =>
        j_nonnull (pc := 32) D rfl (fun q D =>
          have D : fk_D 306 [(35, none, .aload_n 0, 1, 0, 0, 0), (36, none, .getfield 255, 3, 214, 100, 12), (39, none, .iload_n 2, 1, 0, 0, 0), (40, none, .aaload, 1, 0, 0, 0), (41, none, .getfield 283, 3, 324, (-124), 12), (44, none, .goto 7, 3, 51, 0, 0)] := fq_of2 cd_306 ow_306 cl_306 rfl (pc := 35) (by decide +kernel)
          j_aldn (pc := 35) D rfl rfl rfl fun D =>
          j_gfc (pc := 36) (a := 303) D rfl rfl (by decide) rfl (s0_303 H) rfl (sf_214_303 H) fun D =>
          j_ildn (pc := 39) D rfl rfl rfl fun D =>
          j_al (pc := 40) (a := 320) (e := 12) D rfl rfl rfl (by decide) (s0_320 H) (s1_320 H) ⟨rfl, rfl, rfl⟩ rfl gn fun qb10 D =>
          j_gfo (pc := 41) H.2.1 D rfl rfl rfl rfl fun kc11 D =>
          j_goto (pc := 44) D rfl <|
          fk_jump cut_306_51 rfl rfl) (fun q =>
          have D : fk_D 306 [(47, none, .aload_n 1, 1, 0, 0, 0), (48, none, .getfield 887, 3, 340, 0, 12)] := fq_of2 cd_306 ow_306 cl_306 rfl (pc := 47) (by decide +kernel)
          j_aldn (pc := 47) D rfl rfl rfl fun D =>
          j_gfu (pc := 48) H.2.1 D rfl rfl fun q D =>
          fk_jump cut_306_51 rfl rfl)) (fun q7 h5 e1 =>
        j_tx (by decide +kernel))) (fun q3 h1 e1 =>
      j_tx (by decide +kernel))
/-! 307 StatuteHouse.begin(IZ)V -/
theorem cd_307 : fi_code 307 = prog_1_method_34_code := rfl
theorem hx_307 : ∀ pc, fi_hat 307 pc = none := fun pc => by unfold fi_hat; rw [show fi_hh 307 = [] from rfl]; rfl
theorem rt_307 : fi_ret 307 = none := rfl
theorem nl_307 : fi_nl 307 = 3 := rfl
theorem ow_307 : fi_ow 307 = 0 := rfl
theorem cl_307 : fj_cutT.getD 307 [] = [] := rfl
theorem m_307 (d : Nat) (x1 x2 : Int) {h : fi_H} (H : Shp h) : fj_run (d + 1) 307 h [(4, 303), (0, x1), (0, x2)] =
  lt_ (fi_upd h 243 303 0 x1) fun h1 =>
  if fi_rg 4 x2 = true then
  lt_ (fi_upd h1 223 303 0 x2) fun h2 =>
  lt_ (fi_upd h2 244 303 0 0) fun h3 =>
  lt_ (fi_upd h3 249 303 0 0) fun h4 =>
  lt_ (fi_upd h4 250 303 0 0) fun h5 =>
  some (.inl none, h5)
  else none := by
  rw [fj_run_eq d (by decide) h [(4, 303), (0, x1), (0, x2)] (Nat.le_of_ble_eq_true (by rw [nl_307]; rfl))]
  show gG (fj_run d) 307 0 [(0, (4, 303)), (1, (0, x1)), (2, (0, x2))] [] h = _
  exact
    have D : fk_D 307 [(0, none, .aload_n 0, 1, 0, 0, 0), (1, none, .iload_n 1, 1, 0, 0, 0), (2, none, .putfield 341, 3, 243, 100, 10), (5, none, .aload_n 0, 1, 0, 0, 0), (6, none, .iload_n 2, 1, 0, 0, 0), (7, none, .putfield 227, 3, 223, 100, 4), (10, none, .aload_n 0, 1, 0, 0, 0), (11, none, .iconst 0, 1, 0, 0, 0), (12, none, .putfield 338, 3, 244, 100, 10), (15, none, .aload_n 0, 1, 0, 0, 0), (16, none, .iconst 0, 1, 0, 0, 0), (17, none, .putfield 276, 3, 249, 100, 10), (20, none, .aload_n 0, 1, 0, 0, 0), (21, none, .aconst_null, 1, 0, 0, 0), (22, none, .putfield 326, 3, 250, 100, 12), (25, none, .return_, 1, 0, 0, 0)] := fq_of2 cd_307 ow_307 cl_307 rfl (pc := 0) (by decide +kernel)
    j_aldn (pc := 0) D rfl rfl rfl fun D =>
    j_ildn (pc := 1) D rfl rfl rfl fun D =>
    j_pf (pc := 2) (a := 303) D rfl rfl rfl (s0_303 H) rfl rfl (gy (by decide)) (gy rfl) fun h1 eh1 S D =>
    have T := fj_hs_ok H.1 S
    have H := shp_st H T
    j_aldn (pc := 5) D rfl rfl rfl fun D =>
    j_ildn (pc := 6) D rfl rfl rfl fun D =>
    j_pf (pc := 7) (a := 303) D rfl rfl rfl (s0_303 H) rfl rfl (gy (by decide)) gn fun h2 eh2 S D =>
    have T := fj_hs_ok H.1 S
    have H := shp_st H T
    j_aldn (pc := 10) D rfl rfl rfl fun D =>
    j_ic (pc := 11) D rfl fun D =>
    j_pf (pc := 12) (a := 303) D rfl rfl rfl (s0_303 H) rfl rfl (gy (by decide)) (gy rfl) fun h3 eh3 S D =>
    have T := fj_hs_ok H.1 S
    have H := shp_st H T
    j_aldn (pc := 15) D rfl rfl rfl fun D =>
    j_ic (pc := 16) D rfl fun D =>
    j_pf (pc := 17) (a := 303) D rfl rfl rfl (s0_303 H) rfl rfl (gy (by decide)) (gy rfl) fun h4 eh4 S D =>
    have T := fj_hs_ok H.1 S
    have H := shp_st H T
    j_aldn (pc := 20) D rfl rfl rfl fun D =>
    j_c0 (pc := 21) (v := (4, 0)) D rfl rfl (by decide +kernel) fun D =>
    j_pf (pc := 22) (a := 303) D rfl rfl rfl (s0_303 H) rfl rfl (gy (by decide)) (gy rfl) fun h5 eh5 S D =>
    have T := fj_hs_ok H.1 S
    have H := shp_st H T
    j_vret D rt_307
/-! 308 StatuteHouse.stand(LStatuteHouse$Law;II)V -/
theorem cd_308 : fi_code 308 = prog_1_method_35_code := rfl
theorem hx_308 : ∀ pc, fi_hat 308 pc = none := fun pc => by unfold fi_hat; rw [show fi_hh 308 = [] from rfl]; rfl
theorem rt_308 : fi_ret 308 = none := rfl
theorem nl_308 : fi_nl 308 = 4 := rfl
theorem ow_308 : fi_ow 308 = 0 := rfl
theorem cl_308 : fj_cutT.getD 308 [] = [] := rfl
theorem m_308 (d : Nat) (x1 x2 x3 : Int) {h : fi_H} (H : Shp h) : fj_run (d + 1) 308 h [(4, 303), (4, x1), (0, x2), (0, x3)] =
  lt_ (fi_upd h 240 303 0 x1) fun h1 =>
  lt_ (fi_upd h1 241 303 0 x2) fun h2 =>
  lt_ (fi_upd h2 242 303 0 x3) fun h3 =>
  lt_ (fi_upd h3 249 303 0 0) fun h4 =>
  lt_ (fi_upd h4 250 303 0 0) fun h5 =>
  some (.inl none, h5) := by
  rw [fj_run_eq d (by decide) h [(4, 303), (4, x1), (0, x2), (0, x3)] (Nat.le_of_ble_eq_true (by rw [nl_308]; rfl))]
  show gG (fj_run d) 308 0 [(0, (4, 303)), (1, (4, x1)), (2, (0, x2)), (3, (0, x3))] [] h = _
  exact
    have D : fk_D 308 [(0, none, .aload_n 0, 1, 0, 0, 0), (1, none, .aload_n 1, 1, 0, 0, 0), (2, none, .putfield 344, 3, 240, 100, 12), (5, none, .aload_n 0, 1, 0, 0, 0), (6, none, .iload_n 2, 1, 0, 0, 0), (7, none, .putfield 270, 3, 241, 100, 10), (10, none, .aload_n 0, 1, 0, 0, 0), (11, none, .iload_n 3, 1, 0, 0, 0), (12, none, .putfield 273, 3, 242, 100, 10), (15, none, .aload_n 0, 1, 0, 0, 0), (16, none, .iconst 0, 1, 0, 0, 0), (17, none, .putfield 276, 3, 249, 100, 10), (20, none, .aload_n 0, 1, 0, 0, 0), (21, none, .aconst_null, 1, 0, 0, 0), (22, none, .putfield 326, 3, 250, 100, 12), (25, none, .return_, 1, 0, 0, 0)] := fq_of2 cd_308 ow_308 cl_308 rfl (pc := 0) (by decide +kernel)
    j_aldn (pc := 0) D rfl rfl rfl fun D =>
    j_aldn (pc := 1) D rfl rfl rfl fun D =>
    j_pf (pc := 2) (a := 303) D rfl rfl rfl (s0_303 H) rfl rfl (gy (by decide)) (gy rfl) fun h1 eh1 S D =>
    have T := fj_hs_ok H.1 S
    have H := shp_st H T
    j_aldn (pc := 5) D rfl rfl rfl fun D =>
    j_ildn (pc := 6) D rfl rfl rfl fun D =>
    j_pf (pc := 7) (a := 303) D rfl rfl rfl (s0_303 H) rfl rfl (gy (by decide)) (gy rfl) fun h2 eh2 S D =>
    have T := fj_hs_ok H.1 S
    have H := shp_st H T
    j_aldn (pc := 10) D rfl rfl rfl fun D =>
    j_ildn (pc := 11) D rfl rfl rfl fun D =>
    j_pf (pc := 12) (a := 303) D rfl rfl rfl (s0_303 H) rfl rfl (gy (by decide)) (gy rfl) fun h3 eh3 S D =>
    have T := fj_hs_ok H.1 S
    have H := shp_st H T
    j_aldn (pc := 15) D rfl rfl rfl fun D =>
    j_ic (pc := 16) D rfl fun D =>
    j_pf (pc := 17) (a := 303) D rfl rfl rfl (s0_303 H) rfl rfl (gy (by decide)) (gy rfl) fun h4 eh4 S D =>
    have T := fj_hs_ok H.1 S
    have H := shp_st H T
    j_aldn (pc := 20) D rfl rfl rfl fun D =>
    j_c0 (pc := 21) (v := (4, 0)) D rfl rfl (by decide +kernel) fun D =>
    j_pf (pc := 22) (a := 303) D rfl rfl rfl (s0_303 H) rfl rfl (gy (by decide)) (gy rfl) fun h5 eh5 S D =>
    have T := fj_hs_ok H.1 S
    have H := shp_st H T
    j_vret D rt_308
/-! 309 StatuteHouse.term(II)V -/
theorem cd_309 : fi_code 309 = prog_1_method_37_code := rfl
theorem rt_309 : fi_ret 309 = none := rfl
theorem nl_309 : fi_nl 309 = 9 := rfl
theorem ow_309 : fi_ow 309 = 0 := rfl
theorem cl_309 : fj_cutT.getD 309 [] = [(2, [0, 1, 2, 3]), (52, [0, 1, 2, 3]), (123, [0, 1, 2, 3, 4]), (183, [0, 1, 2, 3, 4, 5, 6]), (192, [0, 1, 2, 3, 4, 5, 6, 7]), (220, [0, 1, 2, 3, 4, 5, 6, 7]), (244, [0, 1, 2, 3, 4, 5, 6, 7]), (284, [0, 2, 3, 4, 6, 7]), (312, [0, 2, 3, 4, 7]), (343, [0, 4])] := rfl
theorem cut_309_2 : fj_cut 309 2 = some [0, 1, 2, 3] := by decide +kernel
noncomputable def c_309_2 (d : Nat) (x1 x2 x3 : Int) (h : fi_H) : fk_R := gG (fj_run d) 309 2 [(0, (4, 303)), (1, (0, x1)), (2, (0, x2)), (3, (0, x3))] [] h
theorem cut_309_52 : fj_cut 309 52 = some [0, 1, 2, 3] := by decide +kernel
noncomputable def c_309_52 (d : Nat) (x1 x2 x3 : Int) (h : fi_H) : fk_R := gG (fj_run d) 309 52 [(0, (4, 303)), (1, (0, x1)), (2, (0, x2)), (3, (0, x3))] [] h
theorem cut_309_123 : fj_cut 309 123 = some [0, 1, 2, 3, 4] := by decide +kernel
noncomputable def c_309_123 (d : Nat) (x1 x2 x3 x4 : Int) (h : fi_H) : fk_R := gG (fj_run d) 309 123 [(0, (4, 303)), (1, (0, x1)), (2, (0, x2)), (3, (0, x3)), (4, (4, x4))] [] h
theorem cut_309_183 : fj_cut 309 183 = some [0, 1, 2, 3, 4, 5, 6] := by decide +kernel
noncomputable def c_309_183 (d : Nat) (x1 x2 x3 x4 x5 x6 : Int) (h : fi_H) : fk_R := gG (fj_run d) 309 183 [(0, (4, 303)), (1, (0, x1)), (2, (0, x2)), (3, (0, x3)), (4, (4, x4)), (5, (4, x5)), (6, (0, x6))] [] h
theorem cut_309_192 : fj_cut 309 192 = some [0, 1, 2, 3, 4, 5, 6, 7] := by decide +kernel
noncomputable def c_309_192 (d : Nat) (x1 x2 x3 x4 x5 x6 x7 : Int) (h : fi_H) : fk_R := gG (fj_run d) 309 192 [(0, (4, 303)), (1, (0, x1)), (2, (0, x2)), (3, (0, x3)), (4, (4, x4)), (5, (4, x5)), (6, (0, x6)), (7, (0, x7))] [] h
theorem cut_309_220 : fj_cut 309 220 = some [0, 1, 2, 3, 4, 5, 6, 7] := by decide +kernel
noncomputable def c_309_220 (d : Nat) (x1 x2 x3 x4 x5 x6 x7 s0 s1 s2 s3 : Int) (h : fi_H) : fk_R := gG (fj_run d) 309 220 [(0, (4, 303)), (1, (0, x1)), (2, (0, x2)), (3, (0, x3)), (4, (4, x4)), (5, (4, x5)), (6, (0, x6)), (7, (0, x7))] [(0, s3), (4, s2), (4, s1), (4, s0)] h
theorem cut_309_244 : fj_cut 309 244 = some [0, 1, 2, 3, 4, 5, 6, 7] := by decide +kernel
noncomputable def c_309_244 (d : Nat) (x1 x2 x3 x4 x5 x6 x7 : Int) (h : fi_H) : fk_R := gG (fj_run d) 309 244 [(0, (4, 303)), (1, (0, x1)), (2, (0, x2)), (3, (0, x3)), (4, (4, x4)), (5, (4, x5)), (6, (0, x6)), (7, (0, x7))] [] h
theorem cut_309_284 : fj_cut 309 284 = some [0, 2, 3, 4, 6, 7] := by decide +kernel
noncomputable def c_309_284 (d : Nat) (x2 x3 x4 x6 x7 : Int) (h : fi_H) : fk_R := gG (fj_run d) 309 284 [(0, (4, 303)), (2, (0, x2)), (3, (0, x3)), (4, (4, x4)), (6, (0, x6)), (7, (4, x7))] [] h
theorem cut_309_312 : fj_cut 309 312 = some [0, 2, 3, 4, 7] := by decide +kernel
noncomputable def c_309_312 (d : Nat) (x2 x3 x4 x7 : Int) (h : fi_H) : fk_R := gG (fj_run d) 309 312 [(0, (4, 303)), (2, (0, x2)), (3, (0, x3)), (4, (4, x4)), (7, (4, x7))] [] h
theorem cut_309_343 : fj_cut 309 343 = some [0, 4] := by decide +kernel
noncomputable def c_309_343 (d : Nat) (x4 s0 : Int) (h : fi_H) : fk_R := gG (fj_run d) 309 343 [(0, (4, 303)), (4, (4, x4))] [(4, s0)] h
theorem e_309_2 (d : Nat) (x1 x2 x3 : Int) {h : fi_H} (H : Shp h) : c_309_2 d x1 x2 x3 h =
  if x3 < h 249 303 0 then
    if 0 ≤ x3 ∧ x3 < 12 then
    if h 8 360 x3.toNat = x1 then
      if h 8 361 x3.toNat = h 241 303 0 then
        if h 5 362 x3.toNat = h 242 303 0 then
          ca_ (fj_run d 310 h [(4, 303), (0, 3)]) 4
            (fun v3 h2 =>
            if v3 ≠ 0 then
            tx_ v3.toNat h2
            else none)
            (fun q4 h2 => tx_ q4 h2)
        else
          c_309_52 d x1 x2 x3 h
      else
        c_309_52 d x1 x2 x3 h
    else
      c_309_52 d x1 x2 x3 h
    else none
  else
    if h 249 303 0 = 12 then
      ca_ (fj_run d 310 h [(4, 303), (0, 4)]) 4
        (fun v6 h5 =>
        if v6 ≠ 0 then
        tx_ v6.toNat h5
        else none)
        (fun q7 h5 => tx_ q7 h5)
    else
      ca_ (fj_run d 311 h [(4, 303), (0, 1), (0, x1), (0, h 241 303 0), (0, h 242 303 0), (0, h 249 303 0)]) 0
        (fun v9 h8 =>
        if 0 ≤ h8 249 303 0 ∧ h8 249 303 0 < 12 then
        lt_ (fi_upd h8 8 360 (h8 249 303 0).toNat (wB x1)) fun h11 =>
        if 0 ≤ h11 249 303 0 ∧ h11 249 303 0 < 12 then
        lt_ (fi_upd h11 8 361 (h11 249 303 0).toNat (wB (h11 241 303 0))) fun h13 =>
        c_309_123 d x1 x2 v9 (h8 250 303 0) h13
        else none
        else none)
        (fun q10 h8 => tx_ q10 h8) := by
  unfold c_309_2
  exact
    have D : fk_D 309 [(2, some [0, 1, 2, 3], .iload_n 3, 1, 0, 0, 0), (3, none, .aload_n 0, 1, 0, 0, 0), (4, none, .getfield 276, 3, 249, 100, 10), (7, none, .if_icmp .ge 51, 3, 58, 0, 0), (10, none, .aload_n 0, 1, 0, 0, 0), (11, none, .getfield 317, 3, 245, 100, 12), (14, none, .iload_n 3, 1, 0, 0, 0), (15, none, .baload, 1, 0, 0, 0), (16, none, .iload_n 1, 1, 0, 0, 0), (17, none, .if_icmp .ne 35, 3, 52, 0, 0), (20, none, .aload_n 0, 1, 0, 0, 0), (21, none, .getfield 320, 3, 246, 100, 12), (24, none, .iload_n 3, 1, 0, 0, 0), (25, none, .baload, 1, 0, 0, 0), (26, none, .aload_n 0, 1, 0, 0, 0), (27, none, .getfield 270, 3, 241, 100, 10), (30, none, .if_icmp .ne 22, 3, 52, 0, 0), (33, none, .aload_n 0, 1, 0, 0, 0), (34, none, .getfield 323, 3, 247, 100, 12), (37, none, .iload_n 3, 1, 0, 0, 0)] := fq_of2 cd_309 ow_309 cl_309 rfl (pc := 2) (by decide +kernel)
    j_ildn (pc := 2) D rfl rfl rfl fun D =>
    j_aldn (pc := 3) D rfl rfl rfl fun D =>
    j_gf (pc := 4) (a := 303) D rfl rfl (by decide) rfl (s0_303 H) rfl fun D =>
    j_ige (pc := 7) D rfl (fun q D =>
      j_aldn (pc := 10) D rfl rfl rfl fun D =>
      j_gfc (pc := 11) (a := 303) D rfl rfl (by decide) rfl (s0_303 H) rfl (sf_245_303 H) fun D =>
      j_ildn (pc := 14) D rfl rfl rfl fun D =>
      j_al (pc := 15) (a := 360) (e := 8) D rfl rfl rfl (by decide) (s0_360 H) (s1_360 H) ⟨rfl, rfl, rfl⟩ rfl gn fun qb1 D =>
      j_ildn (pc := 16) D rfl rfl rfl fun D =>
      j_ine (pc := 17) D rfl (fun q D =>
        j_aldn (pc := 20) D rfl rfl rfl fun D =>
        j_gfc (pc := 21) (a := 303) D rfl rfl (by decide) rfl (s0_303 H) rfl (sf_246_303 H) fun D =>
        j_ildn (pc := 24) D rfl rfl rfl fun D =>
        j_al (pc := 25) (a := 361) (e := 8) D rfl rfl rfl (by decide) (s0_361 H) (s1_361 H) ⟨rfl, rfl, rfl⟩ rfl (gy qb1) fun q D =>
        j_aldn (pc := 26) D rfl rfl rfl fun D =>
        j_gf (pc := 27) (a := 303) D rfl rfl (by decide) rfl (s0_303 H) rfl fun D =>
        j_ine (pc := 30) D rfl (fun q D =>
          j_aldn (pc := 33) D rfl rfl rfl fun D =>
          j_gfc (pc := 34) (a := 303) D rfl rfl (by decide) rfl (s0_303 H) rfl (sf_247_303 H) fun D =>
          j_ildn (pc := 37) D rfl rfl rfl fun D =>
          have D : fk_D 309 [(38, none, .caload, 1, 0, 0, 0), (39, none, .aload_n 0, 1, 0, 0, 0), (40, none, .getfield 273, 3, 242, 100, 10), (43, none, .if_icmp .ne 9, 3, 52, 0, 0), (46, none, .aload_n 0, 1, 0, 0, 0), (47, none, .iconst 3, 1, 0, 3, 0), (48, none, .invokevirtual 109, 3, 1, 112, 5), (51, none, .athrow, 1, 0, 0, 0)] := fq_of2 cd_309 ow_309 cl_309 rfl (pc := 38) (by decide +kernel)
          j_al (pc := 38) (a := 362) (e := 5) D rfl rfl rfl (by decide) (s0_362 H) (s1_362 H) ⟨rfl, rfl, rfl⟩ rfl (gy qb1) fun q D =>
          j_aldn (pc := 39) D rfl rfl rfl fun D =>
          j_gf (pc := 40) (a := 303) D rfl rfl (by decide) rfl (s0_303 H) rfl fun D =>
          j_ine (pc := 43) D rfl (fun q D =>
            j_aldn (pc := 46) D rfl rfl rfl fun D =>
            j_ic (pc := 47) D rfl fun D =>
            j_iv (pc := 48) (m := 310) (dd := 112) (a := [(0, 3)]) (rest := []) D rfl rfl rfl rfl rfl (by decide) (s0_303 H) (by decide +kernel) (fun v3 h2 e1 D =>
              have T := fj_run_ok _ _ _ _ _ _ H.1 e1
              have H := shp_st H T
              j_at (pc := 51) D gn <|
              j_tx (by decide +kernel)) (fun q4 h2 e1 =>
              j_tx (by decide +kernel))) (fun q =>
            fk_jump cut_309_52 rfl rfl)) (fun q =>
          fk_jump cut_309_52 rfl rfl)) (fun q =>
        fk_jump cut_309_52 rfl rfl)) (fun q =>
      have D : fk_D 309 [(58, none, .aload_n 0, 1, 0, 0, 0), (59, none, .getfield 276, 3, 249, 100, 10), (62, none, .bipush 12, 2, 0, 12, 0), (64, none, .if_icmp .ne 9, 3, 73, 0, 0), (67, none, .aload_n 0, 1, 0, 0, 0), (68, none, .iconst 4, 1, 0, 4, 0), (69, none, .invokevirtual 109, 3, 1, 112, 5), (72, none, .athrow, 1, 0, 0, 0)] := fq_of2 cd_309 ow_309 cl_309 rfl (pc := 58) (by decide +kernel)
      j_aldn (pc := 58) D rfl rfl rfl fun D =>
      j_gf (pc := 59) (a := 303) D rfl rfl (by decide) rfl (s0_303 H) rfl fun D =>
      j_bp (pc := 62) D rfl fun D =>
      j_ine (pc := 64) D rfl (fun q D =>
        j_aldn (pc := 67) D rfl rfl rfl fun D =>
        j_ic (pc := 68) D rfl fun D =>
        j_iv (pc := 69) (m := 310) (dd := 112) (a := [(0, 4)]) (rest := []) D rfl rfl rfl rfl rfl (by decide) (s0_303 H) (by decide +kernel) (fun v6 h5 e1 D =>
          have T := fj_run_ok _ _ _ _ _ _ H.1 e1
          have H := shp_st H T
          j_at (pc := 72) D gn <|
          j_tx (by decide +kernel)) (fun q7 h5 e1 =>
          j_tx (by decide +kernel))) (fun q =>
        have D : fk_D 309 [(73, none, .aload_n 0, 1, 0, 0, 0), (74, none, .iconst 1, 1, 0, 1, 0), (75, none, .iload_n 1, 1, 0, 0, 0), (76, none, .aload_n 0, 1, 0, 0, 0), (77, none, .getfield 270, 3, 241, 100, 10), (80, none, .aload_n 0, 1, 0, 0, 0), (81, none, .getfield 273, 3, 242, 100, 10), (84, none, .aload_n 0, 1, 0, 0, 0), (85, none, .getfield 276, 3, 249, 100, 10), (88, none, .invokevirtual 279, 3, 5, 130, 1), (91, none, .istore_n 3, 1, 0, 0, 0), (92, none, .aload_n 0, 1, 0, 0, 0), (93, none, .getfield 326, 3, 250, 100, 12), (96, none, .astore 4, 2, 0, 0, 0), (98, none, .aload_n 0, 1, 0, 0, 0), (99, none, .getfield 317, 3, 245, 100, 12), (102, none, .aload_n 0, 1, 0, 0, 0), (103, none, .getfield 276, 3, 249, 100, 10), (106, none, .iload_n 1, 1, 0, 0, 0), (107, none, .i2b, 1, 0, 0, 0)] := fq_of2 cd_309 ow_309 cl_309 rfl (pc := 73) (by decide +kernel)
        j_aldn (pc := 73) D rfl rfl rfl fun D =>
        j_ic (pc := 74) D rfl fun D =>
        j_ildn (pc := 75) D rfl rfl rfl fun D =>
        j_aldn (pc := 76) D rfl rfl rfl fun D =>
        j_gf (pc := 77) (a := 303) D rfl rfl (by decide) rfl (s0_303 H) rfl fun D =>
        j_aldn (pc := 80) D rfl rfl rfl fun D =>
        j_gf (pc := 81) (a := 303) D rfl rfl (by decide) rfl (s0_303 H) rfl fun D =>
        j_aldn (pc := 84) D rfl rfl rfl fun D =>
        j_gf (pc := 85) (a := 303) D rfl rfl (by decide) rfl (s0_303 H) rfl fun D =>
        j_iv (pc := 88) (m := 311) (dd := 130) (a := [(0, 1), (0, x1), (0, h 241 303 0), (0, h 242 303 0), (0, h 249 303 0)]) (rest := []) D rfl rfl rfl rfl rfl (by decide) (s0_303 H) (by decide +kernel) (fun v9 h8 e1 D =>
          have T := fj_run_ok _ _ _ _ _ _ H.1 e1
          have H := shp_st H T
          j_istn (pc := 91) (L' := [(3, (0, v9)), (0, (4, 303)), (1, (0, x1)), (2, (0, x2))]) D rfl nl_309 rfl rfl fun D =>
          j_aldn (pc := 92) D rfl rfl rfl fun D =>
          j_gf (pc := 93) (a := 303) D rfl rfl (by decide) rfl (s0_303 H) rfl fun D =>
          j_ast (pc := 96) (L' := [(4, (4, h8 250 303 0)), (3, (0, v9)), (0, (4, 303)), (1, (0, x1)), (2, (0, x2))]) D rfl nl_309 rfl rfl fun D =>
          j_aldn (pc := 98) D rfl rfl rfl fun D =>
          j_gfc (pc := 99) (a := 303) D rfl rfl (by decide) rfl (s0_303 H) rfl (sf_245_303 H) fun D =>
          j_aldn (pc := 102) D rfl rfl rfl fun D =>
          j_gf (pc := 103) (a := 303) D rfl rfl (by decide) rfl (s0_303 H) rfl fun D =>
          j_ildn (pc := 106) D rfl rfl rfl fun D =>
          j_i2b (pc := 107) D rfl fun D =>
          have D : fk_D 309 [(108, none, .bastore, 1, 0, 0, 0), (109, none, .aload_n 0, 1, 0, 0, 0), (110, none, .getfield 320, 3, 246, 100, 12), (113, none, .aload_n 0, 1, 0, 0, 0), (114, none, .getfield 276, 3, 249, 100, 10), (117, none, .aload_n 0, 1, 0, 0, 0), (118, none, .getfield 270, 3, 241, 100, 10), (121, none, .i2b, 1, 0, 0, 0), (122, none, .bastore, 1, 0, 0, 0)] := fq_of2 cd_309 ow_309 cl_309 rfl (pc := 108) (by decide +kernel)
          j_as (pc := 108) (a := 360) (e := 8) D rfl ⟨rfl, rfl⟩ rfl (by decide) (s0_360 H) (s1_360 H) ⟨rfl, rfl, rfl⟩ rfl gn (gy (fk_rgB _)) fun h11 eh11 S qb12 D =>
          have T := fj_hs_ok H.1 S
          have H := shp_st H T
          j_aldn (pc := 109) D rfl rfl rfl fun D =>
          j_gfc (pc := 110) (a := 303) D rfl rfl (by decide) rfl (s0_303 H) rfl (sf_246_303 H) fun D =>
          j_aldn (pc := 113) D rfl rfl rfl fun D =>
          j_gf (pc := 114) (a := 303) D rfl rfl (by decide) rfl (s0_303 H) rfl fun D =>
          j_aldn (pc := 117) D rfl rfl rfl fun D =>
          j_gf (pc := 118) (a := 303) D rfl rfl (by decide) rfl (s0_303 H) rfl fun D =>
          j_i2b (pc := 121) D rfl fun D =>
          j_as (pc := 122) (a := 361) (e := 8) D rfl ⟨rfl, rfl⟩ rfl (by decide) (s0_361 H) (s1_361 H) ⟨rfl, rfl, rfl⟩ rfl gn (gy (fk_rgB _)) fun h13 eh13 S qb14 D =>
          have T := fj_hs_ok H.1 S
          have H := shp_st H T
          fk_jump cut_309_123 rfl rfl) (fun q10 h8 e1 =>
          j_tx (by decide +kernel))))
theorem e_309_52 (d : Nat) (x1 x2 x3 : Int) {h : fi_H} (H : Shp h) : c_309_52 d x1 x2 x3 h =
  c_309_2 d x1 x2 (wI (x3 + 1)) h := by
  unfold c_309_52
  exact
    have D : fk_D 309 [(52, some [0, 1, 2, 3], .iinc 3 1, 3, 0, 1, 0), (55, none, .goto (-53), 3, 2, 0, 0)] := fq_of2 cd_309 ow_309 cl_309 rfl (pc := 52) (by decide +kernel)
    j_inc (pc := 52) (L' := [(3, (0, wI (x3 + 1))), (0, (4, 303)), (1, (0, x1)), (2, (0, x2))]) D rfl rfl rfl (by decide +kernel) rfl fun D =>
    j_goto (pc := 55) D rfl <|
    fk_jump cut_309_2 rfl rfl
theorem e_309_123 (d : Nat) (x1 x2 x3 x4 : Int) {h : fi_H} (H : Shp h) : c_309_123 d x1 x2 x3 x4 h =
  if 0 ≤ h 249 303 0 ∧ h 249 303 0 < 12 then
  lt_ (fi_upd h 5 362 (h 249 303 0).toNat (wC (h 242 303 0))) fun h1 =>
  if 0 ≤ h1 249 303 0 ∧ h1 249 303 0 < 14 then
  lt_ (fi_upd h1 249 303 0 (wI ((h1 249 303 0) + 1))) fun h4 =>
  lt_ (fi_upd h4 250 303 0 0) fun h5 =>
  dv_ (fi_vt 133 (h5 0 (h1 12 363 (h1 249 303 0).toNat).toNat 0)) fun m9 => cv_ (fj_run d m9 h5 [(4, h1 12 363 (h1 249 303 0).toNat), (4, h5 240 303 0), (0, h5 243 303 0), (0, h5 242 303 0)])
    (fun h6 =>
    c_309_183 d x1 x2 x3 x4 (h1 12 363 (h1 249 303 0).toNat) 0 h6)
    (fun q8 h6 => ta_ q8 h6 (c_309_343 d x4 (q8 : Int) h6))
  else none
  else none := by
  unfold c_309_123
  exact
    have D : fk_D 309 [(123, some [0, 1, 2, 3, 4], .aload_n 0, 1, 0, 0, 0), (124, none, .getfield 323, 3, 247, 100, 12), (127, none, .aload_n 0, 1, 0, 0, 0), (128, none, .getfield 276, 3, 249, 100, 10), (131, none, .aload_n 0, 1, 0, 0, 0), (132, none, .getfield 273, 3, 242, 100, 10), (135, none, .i2c, 1, 0, 0, 0), (136, none, .castore, 1, 0, 0, 0), (137, none, .aload_n 0, 1, 0, 0, 0), (138, none, .getfield 348, 3, 248, 100, 12), (141, none, .aload_n 0, 1, 0, 0, 0), (142, none, .getfield 276, 3, 249, 100, 10), (145, none, .aaload, 1, 0, 0, 0), (146, none, .astore 5, 2, 0, 0, 0), (148, none, .aload_n 0, 1, 0, 0, 0), (149, none, .dup, 1, 0, 0, 0), (150, none, .getfield 276, 3, 249, 100, 10), (153, none, .iconst 1, 1, 0, 1, 0), (154, none, .iadd, 1, 0, 0, 0), (155, none, .putfield 276, 3, 249, 100, 10)] := fq_of2 cd_309 ow_309 cl_309 rfl (pc := 123) (by decide +kernel)
    j_aldn (pc := 123) D rfl rfl rfl fun D =>
    j_gfc (pc := 124) (a := 303) D rfl rfl (by decide) rfl (s0_303 H) rfl (sf_247_303 H) fun D =>
    j_aldn (pc := 127) D rfl rfl rfl fun D =>
    j_gf (pc := 128) (a := 303) D rfl rfl (by decide) rfl (s0_303 H) rfl fun D =>
    j_aldn (pc := 131) D rfl rfl rfl fun D =>
    j_gf (pc := 132) (a := 303) D rfl rfl (by decide) rfl (s0_303 H) rfl fun D =>
    j_i2c (pc := 135) D rfl fun D =>
    j_as (pc := 136) (a := 362) (e := 5) D rfl ⟨rfl, rfl⟩ rfl (by decide) (s0_362 H) (s1_362 H) ⟨rfl, rfl, rfl⟩ rfl gn (gy (fk_rgC _)) fun h1 eh1 S qb2 D =>
    have T := fj_hs_ok H.1 S
    have H := shp_st H T
    j_aldn (pc := 137) D rfl rfl rfl fun D =>
    j_gfc (pc := 138) (a := 303) D rfl rfl (by decide) rfl (s0_303 H) rfl (sf_248_303 H) fun D =>
    j_aldn (pc := 141) D rfl rfl rfl fun D =>
    j_gf (pc := 142) (a := 303) D rfl rfl (by decide) rfl (s0_303 H) rfl fun D =>
    j_al (pc := 145) (a := 363) (e := 12) D rfl rfl rfl (by decide) (s0_363 H) (s1_363 H) ⟨rfl, rfl, rfl⟩ rfl gn fun qb3 D =>
    j_ast (pc := 146) (L' := [(5, (4, h1 12 363 (h1 249 303 0).toNat)), (0, (4, 303)), (1, (0, x1)), (2, (0, x2)), (3, (0, x3)), (4, (4, x4))]) D rfl nl_309 rfl rfl fun D =>
    j_aldn (pc := 148) D rfl rfl rfl fun D =>
    j_sh (pc := 149) D rfl rfl rfl fun D =>
    j_gf (pc := 150) (a := 303) D rfl rfl (by decide) rfl (s0_303 H) rfl fun D =>
    j_ic (pc := 153) D rfl fun D =>
    j_iadd (pc := 154) D rfl fun D =>
    j_pf (pc := 155) (a := 303) D rfl rfl rfl (s0_303 H) rfl rfl (gy (by decide)) (gy rfl) fun h4 eh4 S D =>
    have T := fj_hs_ok H.1 S
    have H := shp_st H T
    have D : fk_D 309 [(158, none, .aload_n 0, 1, 0, 0, 0), (159, none, .aconst_null, 1, 0, 0, 0), (160, none, .putfield 326, 3, 250, 100, 12), (163, none, .aload 5, 2, 0, 0, 0), (165, none, .aload_n 0, 1, 0, 0, 0), (166, none, .getfield 344, 3, 240, 100, 12), (169, none, .aload_n 0, 1, 0, 0, 0), (170, none, .getfield 341, 3, 243, 100, 10), (173, none, .aload_n 0, 1, 0, 0, 0), (174, none, .getfield 273, 3, 242, 100, 10), (177, none, .invokevirtual 352, 3, 3, 133, 0), (180, none, .iconst 0, 1, 0, 0, 0), (181, none, .istore 6, 2, 0, 0, 0)] := fq_of2 cd_309 ow_309 cl_309 rfl (pc := 158) (by decide +kernel)
    j_aldn (pc := 158) D rfl rfl rfl fun D =>
    j_c0 (pc := 159) (v := (4, 0)) D rfl rfl (by decide +kernel) fun D =>
    j_pf (pc := 160) (a := 303) D rfl rfl rfl (s0_303 H) rfl rfl (gy (by decide)) (gy rfl) fun h5 eh5 S D =>
    have T := fj_hs_ok H.1 S
    have H := shp_st H T
    j_ald (pc := 163) D rfl rfl rfl fun D =>
    j_aldn (pc := 165) D rfl rfl rfl fun D =>
    j_gf (pc := 166) (a := 303) D rfl rfl (by decide) rfl (s0_303 H) rfl fun D =>
    j_aldn (pc := 169) D rfl rfl rfl fun D =>
    j_gf (pc := 170) (a := 303) D rfl rfl (by decide) rfl (s0_303 H) rfl fun D =>
    j_aldn (pc := 173) D rfl rfl rfl fun D =>
    j_gf (pc := 174) (a := 303) D rfl rfl (by decide) rfl (s0_303 H) rfl fun D =>
    j_ivuv (pc := 177) (dd := 133) (a := [(4, h5 240 303 0), (0, h5 243 303 0), (0, h5 242 303 0)]) (rest := []) H.2.1 D rfl rfl rfl rfl rfl (fun m9 h6 e1 D =>
      have T := fj_run_ok _ _ _ _ _ _ H.1 e1
      have H := shp_st H T
      j_ic (pc := 180) D rfl fun D =>
      j_ist (pc := 181) (L' := [(6, (0, 0)), (5, (4, h1 12 363 (h1 249 303 0).toNat)), (0, (4, 303)), (1, (0, x1)), (2, (0, x2)), (3, (0, x3)), (4, (4, x4))]) D rfl nl_309 rfl rfl fun D =>
      fk_jump cut_309_183 rfl rfl) (fun m9 q8 h6 e1 =>
      j_ta (fk_at (cu := none) (by decide +kernel) rfl) (s := 163) (e := 324) (hp := 343) (by decide +kernel) <|
      fk_jump cut_309_343 rfl rfl)
theorem e_309_183 (d : Nat) (x1 x2 x3 x4 x5 x6 : Int) {h : fi_H} (H : Shp h) : c_309_183 d x1 x2 x3 x4 x5 x6 h =
  if h 0 x5.toNat 0 = 120 then
  if h 0 (h 200 x5.toNat 0).toNat 0 = 9 ∧ 0 ≤ x1 ∧ x1 < h 1 (h 200 x5.toNat 0).toNat 0 then
  c_309_192 d x1 x2 x3 x4 x5 x6 (h 9 (h 200 x5.toNat 0).toNat x1.toNat) h
  else none
  else none := by
  unfold c_309_183
  exact
    have D : fk_D 309 [(183, some [0, 1, 2, 3, 4, 5, 6], .aload 5, 2, 0, 0, 0), (185, none, .getfield 364, 3, 200, (-120), 12), (188, none, .iload_n 1, 1, 0, 0, 0), (189, none, .saload, 1, 0, 0, 0), (190, none, .istore 7, 2, 0, 0, 0)] := fq_of2 cd_309 ow_309 cl_309 rfl (pc := 183) (by decide +kernel)
    j_ald (pc := 183) D rfl rfl rfl fun D =>
    j_gfo (pc := 185) H.2.1 D rfl rfl rfl rfl fun kc1 D =>
    j_ildn (pc := 188) D rfl rfl rfl fun D =>
    j_alp (pc := 189) (e := 9) H.2.1 D rfl rfl ⟨rfl, rfl, rfl⟩ rfl fun q q2 D =>
    j_ist (pc := 190) (L' := [(7, (0, h 9 (h 200 x5.toNat 0).toNat x1.toNat)), (0, (4, 303)), (1, (0, x1)), (2, (0, x2)), (3, (0, x3)), (4, (4, x4)), (5, (4, x5)), (6, (0, x6))]) D rfl nl_309 rfl rfl fun D =>
    fk_jump cut_309_192 rfl rfl
theorem e_309_192 (d : Nat) (x1 x2 x3 x4 x5 x6 x7 : Int) {h : fi_H} (H : Shp h) : c_309_192 d x1 x2 x3 x4 x5 x6 x7 h =
  if x7 = (-1) then
    if 0 ≤ x1 ∧ x1 < 40 then
    if x6 = 0 then
      if h 0 (h 12 320 x1.toNat).toNat 0 = 124 then
      if h 329 (h 12 320 x1.toNat).toNat 0 = 0 then
        ca_ (fj_run d 310 h [(4, 303), (0, 1)]) 4
          (fun v4 h3 =>
          if v4 ≠ 0 then
          ta_ (v4.toNat) h3 (c_309_343 d x4 (v4.toNat : Int) h3)
          else none)
          (fun q5 h3 => ta_ q5 h3 (c_309_343 d x4 (q5 : Int) h3))
      else
        c_309_284 d x2 x3 x4 x6 (h 12 320 x1.toNat) h
      else none
    else
      c_309_284 d x2 x3 x4 x6 (h 12 320 x1.toNat) h
    else none
  else
    if 0 ≤ x7 ∧ x7 < 500 then
    if x6 = 0 then
      c_309_220 d x1 x2 x3 x4 x5 x6 x7 303 x5 (h 12 355 x7.toNat) x2 h
    else
      c_309_220 d x1 x2 x3 x4 x5 x6 x7 303 x5 (h 12 355 x7.toNat) (wI (x2 + 1)) h
    else none := by
  unfold c_309_192
  exact
    have D : fk_D 309 [(192, some [0, 1, 2, 3, 4, 5, 6, 7], .iload 7, 2, 0, 0, 0), (194, none, .iconst (-1), 1, 0, (-1), 0), (195, none, .if_icmp .eq 62, 3, 257, 0, 0), (198, none, .aload_n 0, 1, 0, 0, 0), (199, none, .aload 5, 2, 0, 0, 0), (201, none, .aload_n 0, 1, 0, 0, 0), (202, none, .getfield 360, 3, 228, 100, 12), (205, none, .iload 7, 2, 0, 0, 0), (207, none, .aaload, 1, 0, 0, 0), (208, none, .iload 6, 2, 0, 0, 0), (210, none, .ifCond .eq 9, 3, 219, 0, 0), (213, none, .iload_n 2, 1, 0, 0, 0), (214, none, .iconst 1, 1, 0, 1, 0), (215, none, .iadd, 1, 0, 0, 0), (216, none, .goto 4, 3, 220, 0, 0)] := fq_of2 cd_309 ow_309 cl_309 rfl (pc := 192) (by decide +kernel)
    j_ild (pc := 192) D rfl rfl rfl fun D =>
    j_ic (pc := 194) D rfl fun D =>
    j_ieq (pc := 195) D rfl (fun q =>
      have D : fk_D 309 [(257, none, .aload_n 0, 1, 0, 0, 0), (258, none, .getfield 255, 3, 214, 100, 12), (261, none, .iload_n 1, 1, 0, 0, 0), (262, none, .aaload, 1, 0, 0, 0), (263, none, .astore 7, 2, 0, 0, 0), (265, none, .iload 6, 2, 0, 0, 0), (267, none, .ifCond .ne 17, 3, 284, 0, 0), (270, none, .aload 7, 2, 0, 0, 0), (272, none, .getfield 289, 3, 329, (-124), 4), (275, none, .ifCond .ne 9, 3, 284, 0, 0), (278, none, .aload_n 0, 1, 0, 0, 0), (279, none, .iconst 1, 1, 0, 1, 0), (280, none, .invokevirtual 109, 3, 1, 112, 5), (283, none, .athrow, 1, 0, 0, 0)] := fq_of2 cd_309 ow_309 cl_309 rfl (pc := 257) (by decide +kernel)
      j_aldn (pc := 257) D rfl rfl rfl fun D =>
      j_gfc (pc := 258) (a := 303) D rfl rfl (by decide) rfl (s0_303 H) rfl (sf_214_303 H) fun D =>
      j_ildn (pc := 261) D rfl rfl rfl fun D =>
      j_al (pc := 262) (a := 320) (e := 12) D rfl rfl rfl (by decide) (s0_320 H) (s1_320 H) ⟨rfl, rfl, rfl⟩ rfl gn fun qb1 D =>
      j_ast (pc := 263) (L' := [(7, (4, h 12 320 x1.toNat)), (0, (4, 303)), (1, (0, x1)), (2, (0, x2)), (3, (0, x3)), (4, (4, x4)), (5, (4, x5)), (6, (0, x6))]) D rfl nl_309 rfl rfl fun D =>
      j_ild (pc := 265) D rfl rfl rfl fun D =>
      j_ifne (pc := 267) D rfl (fun q D =>
        j_ald (pc := 270) D rfl rfl rfl fun D =>
        j_gfo (pc := 272) H.2.1 D rfl rfl rfl rfl fun kc2 D =>
        j_ifne (pc := 275) D rfl (fun q D =>
          j_aldn (pc := 278) D rfl rfl rfl fun D =>
          j_ic (pc := 279) D rfl fun D =>
          j_iv (pc := 280) (m := 310) (dd := 112) (a := [(0, 1)]) (rest := []) D rfl rfl rfl rfl rfl (by decide) (s0_303 H) (by decide +kernel) (fun v4 h3 e1 D =>
            have T := fj_run_ok _ _ _ _ _ _ H.1 e1
            have kc2 := cls_st H.1 T.2 kc2 (by decide)
            have H := shp_st H T
            j_at (pc := 283) D gn <|
            j_ta (fk_at (cu := none) (by decide +kernel) rfl) (s := 163) (e := 324) (hp := 343) (by decide +kernel) <|
            fk_jump cut_309_343 rfl rfl) (fun q5 h3 e1 =>
            j_ta (fk_at (cu := none) (by decide +kernel) rfl) (s := 163) (e := 324) (hp := 343) (by decide +kernel) <|
            fk_jump cut_309_343 rfl rfl)) (fun q =>
          fk_jump cut_309_284 rfl rfl)) (fun q =>
        fk_jump cut_309_284 rfl rfl)) (fun q D =>
      j_aldn (pc := 198) D rfl rfl rfl fun D =>
      j_ald (pc := 199) D rfl rfl rfl fun D =>
      j_aldn (pc := 201) D rfl rfl rfl fun D =>
      j_gfc (pc := 202) (a := 303) D rfl rfl (by decide) rfl (s0_303 H) rfl (sf_228_303 H) fun D =>
      j_ild (pc := 205) D rfl rfl rfl fun D =>
      j_al (pc := 207) (a := 355) (e := 12) D rfl rfl rfl (by decide) (s0_355 H) (s1_355 H) ⟨rfl, rfl, rfl⟩ rfl gn fun qb6 D =>
      j_ild (pc := 208) D rfl rfl rfl fun D =>
      j_ifeq (pc := 210) D rfl (fun q =>
        have D : fk_D 309 [(219, none, .iload_n 2, 1, 0, 0, 0)] := fq_of2 cd_309 ow_309 cl_309 rfl (pc := 219) (by decide +kernel)
        j_ildn (pc := 219) D rfl rfl rfl fun D =>
        fk_jump cut_309_220 rfl rfl) (fun q D =>
        j_ildn (pc := 213) D rfl rfl rfl fun D =>
        j_ic (pc := 214) D rfl fun D =>
        j_iadd (pc := 215) D rfl fun D =>
        j_goto (pc := 216) D rfl <|
        fk_jump cut_309_220 rfl rfl))
theorem e_309_220 (d : Nat) (x1 x2 x3 x4 x5 x6 x7 s0 s1 s2 s3 : Int) {h : fi_H} (H : Shp h) : c_309_220 d x1 x2 x3 x4 x5 x6 x7 s0 s1 s2 s3 h =
  dv_ (fi_vt 134 (h 0 s0.toNat 0)) fun m4 => ca_ (fj_run d m4 h [(4, s0), (4, s1), (4, s2), (0, s3), (0, 0)]) 0
    (fun v2 h1 =>
    if v2 = 0 then
      c_309_244 d x1 x2 x3 x4 x5 x6 x7 h1
    else
      if x6 = 0 then
        c_309_244 d x1 x2 x3 x4 x5 1 x7 h1
      else
        ca_ (fj_run d 310 h1 [(4, 303), (0, 2)]) 4
          (fun v6 h5 =>
          if v6 ≠ 0 then
          ta_ (v6.toNat) h5 (c_309_343 d x4 (v6.toNat : Int) h5)
          else none)
          (fun q7 h5 => ta_ q7 h5 (c_309_343 d x4 (q7 : Int) h5)))
    (fun q3 h1 => ta_ q3 h1 (c_309_343 d x4 (q3 : Int) h1)) := by
  unfold c_309_220
  exact
    have D : fk_D 309 [(220, some [0, 1, 2, 3, 4, 5, 6, 7], .iconst 0, 1, 0, 0, 0), (221, none, .invokevirtual 367, 3, 4, 134, 1), (224, none, .ifCond .ne 6, 3, 230, 0, 0), (227, none, .goto 17, 3, 244, 0, 0)] := fq_of2 cd_309 ow_309 cl_309 rfl (pc := 220) (by decide +kernel)
    j_ic (pc := 220) D rfl fun D =>
    j_ivu (pc := 221) (dd := 134) (a := [(4, s1), (4, s2), (0, s3), (0, 0)]) (rest := []) H.2.1 D rfl rfl rfl rfl rfl (fun m4 v2 h1 e1 D =>
      have T := fj_run_ok _ _ _ _ _ _ H.1 e1
      have H := shp_st H T
      j_ifne (pc := 224) D rfl (fun q D =>
        j_goto (pc := 227) D rfl <|
        fk_jump cut_309_244 rfl rfl) (fun q =>
        have D : fk_D 309 [(230, none, .iload 6, 2, 0, 0, 0), (232, none, .ifCond .eq 9, 3, 241, 0, 0), (235, none, .aload_n 0, 1, 0, 0, 0), (236, none, .iconst 2, 1, 0, 2, 0), (237, none, .invokevirtual 109, 3, 1, 112, 5), (240, none, .athrow, 1, 0, 0, 0)] := fq_of2 cd_309 ow_309 cl_309 rfl (pc := 230) (by decide +kernel)
        j_ild (pc := 230) D rfl rfl rfl fun D =>
        j_ifeq (pc := 232) D rfl (fun q =>
          have D : fk_D 309 [(241, none, .iconst 1, 1, 0, 1, 0), (242, none, .istore 6, 2, 0, 0, 0)] := fq_of2 cd_309 ow_309 cl_309 rfl (pc := 241) (by decide +kernel)
          j_ic (pc := 241) D rfl fun D =>
          j_ist (pc := 242) (L' := [(6, (0, 1)), (0, (4, 303)), (1, (0, x1)), (2, (0, x2)), (3, (0, x3)), (4, (4, x4)), (5, (4, x5)), (7, (0, x7))]) D rfl nl_309 rfl rfl fun D =>
          fk_jump cut_309_244 rfl rfl) (fun q D =>
          j_aldn (pc := 235) D rfl rfl rfl fun D =>
          j_ic (pc := 236) D rfl fun D =>
          j_iv (pc := 237) (m := 310) (dd := 112) (a := [(0, 2)]) (rest := []) D rfl rfl rfl rfl rfl (by decide) (s0_303 H) (by decide +kernel) (fun v6 h5 e1 D =>
            have T := fj_run_ok _ _ _ _ _ _ H.1 e1
            have H := shp_st H T
            j_at (pc := 240) D gn <|
            j_ta (fk_at (cu := none) (by decide +kernel) rfl) (s := 163) (e := 324) (hp := 343) (by decide +kernel) <|
            fk_jump cut_309_343 rfl rfl) (fun q7 h5 e1 =>
            j_ta (fk_at (cu := none) (by decide +kernel) rfl) (s := 163) (e := 324) (hp := 343) (by decide +kernel) <|
            fk_jump cut_309_343 rfl rfl)))) (fun m4 q3 h1 e1 =>
      j_ta (fk_at (cu := none) (by decide +kernel) rfl) (s := 163) (e := 324) (hp := 343) (by decide +kernel) <|
      fk_jump cut_309_343 rfl rfl)
theorem e_309_244 (d : Nat) (x1 x2 x3 x4 x5 x6 x7 : Int) {h : fi_H} (H : Shp h) : c_309_244 d x1 x2 x3 x4 x5 x6 x7 h =
  if h 0 x5.toNat 0 = 120 then
  if h 0 (h 203 x5.toNat 0).toNat 0 = 9 ∧ 0 ≤ x7 ∧ x7 < h 1 (h 203 x5.toNat 0).toNat 0 then
  c_309_192 d x1 x2 x3 x4 x5 x6 (h 9 (h 203 x5.toNat 0).toNat x7.toNat) h
  else none
  else none := by
  unfold c_309_244
  exact
    have D : fk_D 309 [(244, some [0, 1, 2, 3, 4, 5, 6, 7], .aload 5, 2, 0, 0, 0), (246, none, .getfield 371, 3, 203, (-120), 12), (249, none, .iload 7, 2, 0, 0, 0), (251, none, .saload, 1, 0, 0, 0), (252, none, .istore 7, 2, 0, 0, 0), (254, none, .goto (-62), 3, 192, 0, 0)] := fq_of2 cd_309 ow_309 cl_309 rfl (pc := 244) (by decide +kernel)
    j_ald (pc := 244) D rfl rfl rfl fun D =>
    j_gfo (pc := 246) H.2.1 D rfl rfl rfl rfl fun kc1 D =>
    j_ild (pc := 249) D rfl rfl rfl fun D =>
    j_alp (pc := 251) (e := 9) H.2.1 D rfl rfl ⟨rfl, rfl, rfl⟩ rfl fun q q2 D =>
    j_ist (pc := 252) (L' := [(7, (0, h 9 (h 203 x5.toNat 0).toNat x7.toNat)), (0, (4, 303)), (1, (0, x1)), (2, (0, x2)), (3, (0, x3)), (4, (4, x4)), (5, (4, x5)), (6, (0, x6))]) D rfl nl_309 rfl rfl fun D =>
    j_goto (pc := 254) D rfl <|
    fk_jump cut_309_192 rfl rfl
theorem e_309_284 (d : Nat) (x2 x3 x4 x6 x7 : Int) {h : fi_H} (H : Shp h) : c_309_284 d x2 x3 x4 x6 x7 h =
  if x6 = 0 then
    if h 0 x7.toNat 0 = 124 then
    cv_ (fj_run d 215 h [(4, 309), (0, x2), (4, h 324 x7.toNat 0), (1, h 327 x7.toNat 0), (1, h 328 x7.toNat 0)])
      (fun h2 =>
      c_309_312 d x2 x3 x4 x7 h2)
      (fun q4 h2 => ta_ q4 h2 (c_309_343 d x4 (q4 : Int) h2))
    else none
  else
    c_309_312 d x2 x3 x4 x7 h := by
  unfold c_309_284
  exact
    have D : fk_D 309 [(284, some [0, 2, 3, 4, 6, 7], .iload 6, 2, 0, 0, 0), (286, none, .ifCond .ne 26, 3, 312, 0, 0), (289, none, .aload_n 0, 1, 0, 0, 0), (290, none, .getfield 113, 3, 213, 100, 12), (293, none, .iload_n 2, 1, 0, 0, 0), (294, none, .aload 7, 2, 0, 0, 0), (296, none, .getfield 283, 3, 324, (-124), 12), (299, none, .aload 7, 2, 0, 0, 0), (301, none, .getfield 292, 3, 327, 124, 11), (304, none, .aload 7, 2, 0, 0, 0), (306, none, .getfield 296, 3, 328, 124, 11), (309, none, .invokestatic 299, 3, 5, 215, 0)] := fq_of2 cd_309 ow_309 cl_309 rfl (pc := 284) (by decide +kernel)
    j_ild (pc := 284) D rfl rfl rfl fun D =>
    j_ifne (pc := 286) D rfl (fun q D =>
      j_aldn (pc := 289) D rfl rfl rfl fun D =>
      j_gfc (pc := 290) (a := 303) D rfl rfl (by decide) rfl (s0_303 H) rfl (sf_213_303 H) fun D =>
      j_ildn (pc := 293) D rfl rfl rfl fun D =>
      j_ald (pc := 294) D rfl rfl rfl fun D =>
      j_gfo (pc := 296) H.2.1 D rfl rfl rfl rfl fun kc1 D =>
      j_ald (pc := 299) D rfl rfl rfl fun D =>
      j_gf (pc := 301) (a := x7.toNat) D rfl rfl (nz_cls H.2.1 kc1 (by decide)) rfl kc1 rfl fun D =>
      j_ald (pc := 304) D rfl rfl rfl fun D =>
      j_gf (pc := 306) (a := x7.toNat) D rfl rfl (nz_cls H.2.1 kc1 (by decide)) rfl kc1 rfl fun D =>
      j_isv (pc := 309) (m := 215) (a := [(4, 309), (0, x2), (4, h 324 x7.toNat 0), (1, h 327 x7.toNat 0), (1, h 328 x7.toNat 0)]) (rest := []) D rfl rfl rfl rfl (fun h2 e1 D =>
        have T := fj_run_ok _ _ _ _ _ _ H.1 e1
        have kc1 := cls_st H.1 T.2 kc1 (by decide)
        have H := shp_st H T
        fk_jump cut_309_312 rfl rfl) (fun q4 h2 e1 =>
        j_ta (fk_at (cu := none) (by decide +kernel) rfl) (s := 163) (e := 324) (hp := 343) (by decide +kernel) <|
        fk_jump cut_309_343 rfl rfl)) (fun q =>
      fk_jump cut_309_312 rfl rfl)
theorem e_309_312 (d : Nat) (x2 x3 x4 x7 : Int) {h : fi_H} (H : Shp h) : c_309_312 d x2 x3 x4 x7 h =
  if h 0 x7.toNat 0 = 124 then
  cv_ (fj_run d 321 h [(4, 303), (0, x3), (0, 0), (0, x2), (4, h 324 x7.toNat 0)])
    (fun h2 =>
    lt_ (fi_upd h2 249 303 0 (wI ((h2 249 303 0) - 1))) fun h5 =>
    lt_ (fi_upd h5 250 303 0 x4) fun h6 =>
    some (.inl none, h6))
    (fun q4 h2 => ta_ q4 h2 (c_309_343 d x4 (q4 : Int) h2))
  else none := by
  unfold c_309_312
  exact
    have D : fk_D 309 [(312, some [0, 2, 3, 4, 7], .aload_n 0, 1, 0, 0, 0), (313, none, .iload_n 3, 1, 0, 0, 0), (314, none, .iconst 0, 1, 0, 0, 0), (315, none, .iload_n 2, 1, 0, 0, 0), (316, none, .aload 7, 2, 0, 0, 0), (318, none, .getfield 283, 3, 324, (-124), 12), (321, none, .invokevirtual 303, 3, 4, 132, 0), (324, none, .aload_n 0, 1, 0, 0, 0), (325, none, .dup, 1, 0, 0, 0), (326, none, .getfield 276, 3, 249, 100, 10), (329, none, .iconst 1, 1, 0, 1, 0), (330, none, .isub, 1, 0, 0, 0), (331, none, .putfield 276, 3, 249, 100, 10), (334, none, .aload_n 0, 1, 0, 0, 0), (335, none, .aload 4, 2, 0, 0, 0), (337, none, .putfield 326, 3, 250, 100, 12), (340, none, .goto 24, 3, 364, 0, 0)] := fq_of2 cd_309 ow_309 cl_309 rfl (pc := 312) (by decide +kernel)
    j_aldn (pc := 312) D rfl rfl rfl fun D =>
    j_ildn (pc := 313) D rfl rfl rfl fun D =>
    j_ic (pc := 314) D rfl fun D =>
    j_ildn (pc := 315) D rfl rfl rfl fun D =>
    j_ald (pc := 316) D rfl rfl rfl fun D =>
    j_gfo (pc := 318) H.2.1 D rfl rfl rfl rfl fun kc1 D =>
    j_ivv (pc := 321) (m := 321) (dd := 132) (a := [(0, x3), (0, 0), (0, x2), (4, h 324 x7.toNat 0)]) (rest := []) D rfl rfl rfl rfl rfl (by decide) (s0_303 H) (by decide +kernel) (fun h2 e1 D =>
      have T := fj_run_ok _ _ _ _ _ _ H.1 e1
      have kc1 := cls_st H.1 T.2 kc1 (by decide)
      have H := shp_st H T
      j_aldn (pc := 324) D rfl rfl rfl fun D =>
      j_sh (pc := 325) D rfl rfl rfl fun D =>
      j_gf (pc := 326) (a := 303) D rfl rfl (by decide) rfl (s0_303 H) rfl fun D =>
      j_ic (pc := 329) D rfl fun D =>
      j_isub (pc := 330) D rfl fun D =>
      j_pf (pc := 331) (a := 303) D rfl rfl rfl (s0_303 H) rfl rfl (gy (by decide)) (gy rfl) fun h5 eh5 S D =>
      have T := fj_hs_ok H.1 S
      have kc1 := cls_st H.1 T.2 kc1 (by decide)
      have H := shp_st H T
      j_aldn (pc := 334) D rfl rfl rfl fun D =>
      j_ald (pc := 335) D rfl rfl rfl fun D =>
      j_pf (pc := 337) (a := 303) D rfl rfl rfl (s0_303 H) rfl rfl (gy (by decide)) (gy rfl) fun h6 eh6 S D =>
      have T := fj_hs_ok H.1 S
      have kc1 := cls_st H.1 T.2 kc1 (by decide)
      have H := shp_st H T
      j_goto (pc := 340) D rfl <|
      have D : fk_D 309 [(364, none, .return_, 1, 0, 0, 0)] := fq_of2 cd_309 ow_309 cl_309 rfl (pc := 364) (by decide +kernel)
      j_vret D rt_309) (fun q4 h2 e1 =>
      j_ta (fk_at (cu := none) (by decide +kernel) rfl) (s := 163) (e := 324) (hp := 343) (by decide +kernel) <|
      fk_jump cut_309_343 rfl rfl)
theorem e_309_343 (d : Nat) (x4 s0 : Int) {h : fi_H} (H : Shp h) : c_309_343 d x4 s0 h =
  lt_ (fi_upd h 249 303 0 (wI ((h 249 303 0) - 1))) fun h1 =>
  lt_ (fi_upd h1 250 303 0 x4) fun h2 =>
  if s0 ≠ 0 then
  tx_ s0.toNat h2
  else none := by
  unfold c_309_343
  exact
    have D : fk_D 309 [(343, some [0, 4], .astore 8, 2, 0, 0, 0), (345, none, .aload_n 0, 1, 0, 0, 0), (346, none, .dup, 1, 0, 0, 0), (347, none, .getfield 276, 3, 249, 100, 10), (350, none, .iconst 1, 1, 0, 1, 0), (351, none, .isub, 1, 0, 0, 0), (352, none, .putfield 276, 3, 249, 100, 10), (355, none, .aload_n 0, 1, 0, 0, 0), (356, none, .aload 4, 2, 0, 0, 0), (358, none, .putfield 326, 3, 250, 100, 12), (361, none, .aload 8, 2, 0, 0, 0), (363, none, .athrow, 1, 0, 0, 0)] := fq_of2 cd_309 ow_309 cl_309 rfl (pc := 343) (by decide +kernel)
    j_ast (pc := 343) (L' := [(8, (4, s0)), (0, (4, 303)), (4, (4, x4))]) D rfl nl_309 rfl rfl fun D =>
    j_aldn (pc := 345) D rfl rfl rfl fun D =>
    j_sh (pc := 346) D rfl rfl rfl fun D =>
    j_gf (pc := 347) (a := 303) D rfl rfl (by decide) rfl (s0_303 H) rfl fun D =>
    j_ic (pc := 350) D rfl fun D =>
    j_isub (pc := 351) D rfl fun D =>
    j_pf (pc := 352) (a := 303) D rfl rfl rfl (s0_303 H) rfl rfl (gy (by decide)) (gy rfl) fun h1 eh1 S D =>
    have T := fj_hs_ok H.1 S
    have H := shp_st H T
    j_aldn (pc := 355) D rfl rfl rfl fun D =>
    j_ald (pc := 356) D rfl rfl rfl fun D =>
    j_pf (pc := 358) (a := 303) D rfl rfl rfl (s0_303 H) rfl rfl (gy (by decide)) (gy rfl) fun h2 eh2 S D =>
    have T := fj_hs_ok H.1 S
    have H := shp_st H T
    j_ald (pc := 361) D rfl rfl rfl fun D =>
    j_at (pc := 363) D gn <|
    j_tx (by decide +kernel)
theorem m_309 (d : Nat) (x1 x2 : Int) {h : fi_H} (H : Shp h) : fj_run (d + 1) 309 h [(4, 303), (0, x1), (0, x2)] =
  c_309_2 d x1 x2 0 h := by
  rw [fj_run_eq d (by decide) h [(4, 303), (0, x1), (0, x2)] (Nat.le_of_ble_eq_true (by rw [nl_309]; rfl))]
  show gG (fj_run d) 309 0 [(0, (4, 303)), (1, (0, x1)), (2, (0, x2))] [] h = _
  exact
    have D : fk_D 309 [(0, none, .iconst 0, 1, 0, 0, 0), (1, none, .istore_n 3, 1, 0, 0, 0)] := fq_of2 cd_309 ow_309 cl_309 rfl (pc := 0) (by decide +kernel)
    j_ic (pc := 0) D rfl fun D =>
    j_istn (pc := 1) (L' := [(3, (0, 0)), (0, (4, 303)), (1, (0, x1)), (2, (0, x2))]) D rfl nl_309 rfl rfl fun D =>
    fk_jump cut_309_2 rfl rfl
/-! 310 StatuteHouse.fail(I)LStatuteHouse$Fault; -/
theorem cd_310 : fi_code 310 = prog_1_method_32_code := rfl
theorem hx_310 : ∀ pc, fi_hat 310 pc = none := fun pc => by unfold fi_hat; rw [show fi_hh 310 = [] from rfl]; rfl
theorem rt_310 : fj_ft (fi_ret 310) = 5 := rfl
theorem nl_310 : fi_nl 310 = 2 := rfl
theorem ow_310 : fi_ow 310 = 0 := rfl
theorem cl_310 : fj_cutT.getD 310 [] = [(42, [0]), (70, [0]), (98, [0]), (122, [0]), (146, [0])] := rfl
theorem cut_310_42 : fj_cut 310 42 = some [0] := by decide +kernel
noncomputable def c_310_42 (d : Nat) (s0 s1 s2 : Int) (h : fi_H) : fk_R := gG (fj_run d) 310 42 [(0, (4, 303))] [(0, s2), (0, s1), (4, s0)] h
theorem cut_310_70 : fj_cut 310 70 = some [0] := by decide +kernel
noncomputable def c_310_70 (d : Nat) (s0 s1 s2 : Int) (h : fi_H) : fk_R := gG (fj_run d) 310 70 [(0, (4, 303))] [(0, s2), (0, s1), (4, s0)] h
theorem cut_310_98 : fj_cut 310 98 = some [0] := by decide +kernel
noncomputable def c_310_98 (d : Nat) (s0 s1 s2 : Int) (h : fi_H) : fk_R := gG (fj_run d) 310 98 [(0, (4, 303))] [(0, s2), (0, s1), (4, s0)] h
theorem cut_310_122 : fj_cut 310 122 = some [0] := by decide +kernel
noncomputable def c_310_122 (d : Nat) (s0 s1 s2 : Int) (h : fi_H) : fk_R := gG (fj_run d) 310 122 [(0, (4, 303))] [(0, s2), (0, s1), (4, s0)] h
theorem cut_310_146 : fj_cut 310 146 = some [0] := by decide +kernel
noncomputable def c_310_146 (d : Nat) (s0 s1 s2 : Int) (h : fi_H) : fk_R := gG (fj_run d) 310 146 [(0, (4, 303))] [(0, s2), (0, s1), (4, s0)] h
theorem e_310_42 (d : Nat) (s0 s1 s2 : Int) {h : fi_H} (H : Shp h) : c_310_42 d s0 s1 s2 h =
  if 302 < s0 ∧ h 0 s0.toNat 0 = 10 then
  if 0 ≤ s1 ∧ s1 < h 1 s0.toNat 0 then
  lt_ (fi_upd h 10 s0.toNat s1.toNat s2) fun h1 =>
  if h1 249 303 0 = 0 then
    c_310_70 d 364 2 (-1) h1
  else
    if 0 ≤ wI ((h1 249 303 0) - 1) ∧ wI ((h1 249 303 0) - 1) < 12 then
    c_310_70 d 364 2 (h1 8 361 (wI ((h1 249 303 0) - 1)).toNat) h1
    else none
  else none
  else none := by
  unfold c_310_42
  exact
    have D : fk_D 310 [(42, some [0], .iastore, 1, 0, 0, 0), (43, none, .aload_n 0, 1, 0, 0, 0), (44, none, .getfield 314, 3, 251, 100, 12), (47, none, .iconst 2, 1, 0, 2, 0), (48, none, .aload_n 0, 1, 0, 0, 0), (49, none, .getfield 276, 3, 249, 100, 10), (52, none, .ifCond .ne 7, 3, 59, 0, 0), (55, none, .iconst (-1), 1, 0, (-1), 0), (56, none, .goto 14, 3, 70, 0, 0)] := fq_of2 cd_310 ow_310 cl_310 rfl (pc := 42) (by decide +kernel)
    j_asu (pc := 42) (e := 10) D rfl rfl ⟨rfl, rfl, rfl⟩ rfl gn gn (gy rfl) fun h1 eh1 S q q2 D =>
    have T := fj_hs_ok H.1 S
    have H := shp_st H T
    j_aldn (pc := 43) D rfl rfl rfl fun D =>
    j_gfc (pc := 44) (a := 303) D rfl rfl (by decide) rfl (s0_303 H) rfl (sf_251_303 H) fun D =>
    j_ic (pc := 47) D rfl fun D =>
    j_aldn (pc := 48) D rfl rfl rfl fun D =>
    j_gf (pc := 49) (a := 303) D rfl rfl (by decide) rfl (s0_303 H) rfl fun D =>
    j_ifne (pc := 52) D rfl (fun q D =>
      j_ic (pc := 55) D rfl fun D =>
      j_goto (pc := 56) D rfl <|
      fk_jump cut_310_70 rfl rfl) (fun q =>
      have D : fk_D 310 [(59, none, .aload_n 0, 1, 0, 0, 0), (60, none, .getfield 320, 3, 246, 100, 12), (63, none, .aload_n 0, 1, 0, 0, 0), (64, none, .getfield 276, 3, 249, 100, 10), (67, none, .iconst 1, 1, 0, 1, 0), (68, none, .isub, 1, 0, 0, 0), (69, none, .baload, 1, 0, 0, 0)] := fq_of2 cd_310 ow_310 cl_310 rfl (pc := 59) (by decide +kernel)
      j_aldn (pc := 59) D rfl rfl rfl fun D =>
      j_gfc (pc := 60) (a := 303) D rfl rfl (by decide) rfl (s0_303 H) rfl (sf_246_303 H) fun D =>
      j_aldn (pc := 63) D rfl rfl rfl fun D =>
      j_gf (pc := 64) (a := 303) D rfl rfl (by decide) rfl (s0_303 H) rfl fun D =>
      j_ic (pc := 67) D rfl fun D =>
      j_isub (pc := 68) D rfl fun D =>
      j_al (pc := 69) (a := 361) (e := 8) D rfl rfl rfl (by decide) (s0_361 H) (s1_361 H) ⟨rfl, rfl, rfl⟩ rfl gn fun qb2 D =>
      fk_jump cut_310_70 rfl rfl)
theorem e_310_70 (d : Nat) (s0 s1 s2 : Int) {h : fi_H} (H : Shp h) : c_310_70 d s0 s1 s2 h =
  if 302 < s0 ∧ h 0 s0.toNat 0 = 10 then
  if 0 ≤ s1 ∧ s1 < h 1 s0.toNat 0 then
  lt_ (fi_upd h 10 s0.toNat s1.toNat s2) fun h1 =>
  if h1 249 303 0 = 0 then
    c_310_98 d 364 3 (-1) h1
  else
    if 0 ≤ wI ((h1 249 303 0) - 1) ∧ wI ((h1 249 303 0) - 1) < 12 then
    c_310_98 d 364 3 (h1 5 362 (wI ((h1 249 303 0) - 1)).toNat) h1
    else none
  else none
  else none := by
  unfold c_310_70
  exact
    have D : fk_D 310 [(70, some [0], .iastore, 1, 0, 0, 0), (71, none, .aload_n 0, 1, 0, 0, 0), (72, none, .getfield 314, 3, 251, 100, 12), (75, none, .iconst 3, 1, 0, 3, 0), (76, none, .aload_n 0, 1, 0, 0, 0), (77, none, .getfield 276, 3, 249, 100, 10), (80, none, .ifCond .ne 7, 3, 87, 0, 0), (83, none, .iconst (-1), 1, 0, (-1), 0), (84, none, .goto 14, 3, 98, 0, 0)] := fq_of2 cd_310 ow_310 cl_310 rfl (pc := 70) (by decide +kernel)
    j_asu (pc := 70) (e := 10) D rfl rfl ⟨rfl, rfl, rfl⟩ rfl gn gn (gy rfl) fun h1 eh1 S q q2 D =>
    have T := fj_hs_ok H.1 S
    have H := shp_st H T
    j_aldn (pc := 71) D rfl rfl rfl fun D =>
    j_gfc (pc := 72) (a := 303) D rfl rfl (by decide) rfl (s0_303 H) rfl (sf_251_303 H) fun D =>
    j_ic (pc := 75) D rfl fun D =>
    j_aldn (pc := 76) D rfl rfl rfl fun D =>
    j_gf (pc := 77) (a := 303) D rfl rfl (by decide) rfl (s0_303 H) rfl fun D =>
    j_ifne (pc := 80) D rfl (fun q D =>
      j_ic (pc := 83) D rfl fun D =>
      j_goto (pc := 84) D rfl <|
      fk_jump cut_310_98 rfl rfl) (fun q =>
      have D : fk_D 310 [(87, none, .aload_n 0, 1, 0, 0, 0), (88, none, .getfield 323, 3, 247, 100, 12), (91, none, .aload_n 0, 1, 0, 0, 0), (92, none, .getfield 276, 3, 249, 100, 10), (95, none, .iconst 1, 1, 0, 1, 0), (96, none, .isub, 1, 0, 0, 0), (97, none, .caload, 1, 0, 0, 0)] := fq_of2 cd_310 ow_310 cl_310 rfl (pc := 87) (by decide +kernel)
      j_aldn (pc := 87) D rfl rfl rfl fun D =>
      j_gfc (pc := 88) (a := 303) D rfl rfl (by decide) rfl (s0_303 H) rfl (sf_247_303 H) fun D =>
      j_aldn (pc := 91) D rfl rfl rfl fun D =>
      j_gf (pc := 92) (a := 303) D rfl rfl (by decide) rfl (s0_303 H) rfl fun D =>
      j_ic (pc := 95) D rfl fun D =>
      j_isub (pc := 96) D rfl fun D =>
      j_al (pc := 97) (a := 362) (e := 5) D rfl rfl rfl (by decide) (s0_362 H) (s1_362 H) ⟨rfl, rfl, rfl⟩ rfl gn fun qb2 D =>
      fk_jump cut_310_98 rfl rfl)
theorem e_310_98 (d : Nat) (s0 s1 s2 : Int) {h : fi_H} (H : Shp h) : c_310_98 d s0 s1 s2 h =
  if 302 < s0 ∧ h 0 s0.toNat 0 = 10 then
  if 0 ≤ s1 ∧ s1 < h 1 s0.toNat 0 then
  lt_ (fi_upd h 10 s0.toNat s1.toNat s2) fun h1 =>
  if h1 250 303 0 = 0 then
    c_310_122 d 364 4 (-1) h1
  else
    if h1 0 (h1 250 303 0).toNat 0 = 117 then
    c_310_122 d 364 4 (h1 135 (h1 250 303 0).toNat 0) h1
    else none
  else none
  else none := by
  unfold c_310_98
  exact
    have D : fk_D 310 [(98, some [0], .iastore, 1, 0, 0, 0), (99, none, .aload_n 0, 1, 0, 0, 0), (100, none, .getfield 314, 3, 251, 100, 12), (103, none, .iconst 4, 1, 0, 4, 0), (104, none, .aload_n 0, 1, 0, 0, 0), (105, none, .getfield 326, 3, 250, 100, 12), (108, none, .ifnonnull 7, 3, 115, 0, 0), (111, none, .iconst (-1), 1, 0, (-1), 0), (112, none, .goto 10, 3, 122, 0, 0)] := fq_of2 cd_310 ow_310 cl_310 rfl (pc := 98) (by decide +kernel)
    j_asu (pc := 98) (e := 10) D rfl rfl ⟨rfl, rfl, rfl⟩ rfl gn gn (gy rfl) fun h1 eh1 S q q2 D =>
    have T := fj_hs_ok H.1 S
    have H := shp_st H T
    j_aldn (pc := 99) D rfl rfl rfl fun D =>
    j_gfc (pc := 100) (a := 303) D rfl rfl (by decide) rfl (s0_303 H) rfl (sf_251_303 H) fun D =>
    j_ic (pc := 103) D rfl fun D =>
    j_aldn (pc := 104) D rfl rfl rfl fun D =>
    j_gf (pc := 105) (a := 303) D rfl rfl (by decide) rfl (s0_303 H) rfl fun D =>
    j_nonnull (pc := 108) D rfl (fun q D =>
      j_ic (pc := 111) D rfl fun D =>
      j_goto (pc := 112) D rfl <|
      fk_jump cut_310_122 rfl rfl) (fun q =>
      have D : fk_D 310 [(115, none, .aload_n 0, 1, 0, 0, 0), (116, none, .getfield 326, 3, 250, 100, 12), (119, none, .getfield 330, 3, 135, (-117), 10)] := fq_of2 cd_310 ow_310 cl_310 rfl (pc := 115) (by decide +kernel)
      j_aldn (pc := 115) D rfl rfl rfl fun D =>
      j_gf (pc := 116) (a := 303) D rfl rfl (by decide) rfl (s0_303 H) rfl fun D =>
      j_gfo (pc := 119) H.2.1 D rfl rfl rfl rfl fun kc2 D =>
      fk_jump cut_310_122 rfl rfl)
theorem e_310_122 (d : Nat) (s0 s1 s2 : Int) {h : fi_H} (H : Shp h) : c_310_122 d s0 s1 s2 h =
  if 302 < s0 ∧ h 0 s0.toNat 0 = 10 then
  if 0 ≤ s1 ∧ s1 < h 1 s0.toNat 0 then
  lt_ (fi_upd h 10 s0.toNat s1.toNat s2) fun h1 =>
  if h1 250 303 0 = 0 then
    c_310_146 d 364 5 0 h1
  else
    if h1 0 (h1 250 303 0).toNat 0 = 117 then
    c_310_146 d 364 5 (h1 136 (h1 250 303 0).toNat 0) h1
    else none
  else none
  else none := by
  unfold c_310_122
  exact
    have D : fk_D 310 [(122, some [0], .iastore, 1, 0, 0, 0), (123, none, .aload_n 0, 1, 0, 0, 0), (124, none, .getfield 314, 3, 251, 100, 12), (127, none, .iconst 5, 1, 0, 5, 0), (128, none, .aload_n 0, 1, 0, 0, 0), (129, none, .getfield 326, 3, 250, 100, 12), (132, none, .ifnonnull 7, 3, 139, 0, 0), (135, none, .iconst 0, 1, 0, 0, 0), (136, none, .goto 10, 3, 146, 0, 0)] := fq_of2 cd_310 ow_310 cl_310 rfl (pc := 122) (by decide +kernel)
    j_asu (pc := 122) (e := 10) D rfl rfl ⟨rfl, rfl, rfl⟩ rfl gn gn (gy rfl) fun h1 eh1 S q q2 D =>
    have T := fj_hs_ok H.1 S
    have H := shp_st H T
    j_aldn (pc := 123) D rfl rfl rfl fun D =>
    j_gfc (pc := 124) (a := 303) D rfl rfl (by decide) rfl (s0_303 H) rfl (sf_251_303 H) fun D =>
    j_ic (pc := 127) D rfl fun D =>
    j_aldn (pc := 128) D rfl rfl rfl fun D =>
    j_gf (pc := 129) (a := 303) D rfl rfl (by decide) rfl (s0_303 H) rfl fun D =>
    j_nonnull (pc := 132) D rfl (fun q D =>
      j_ic (pc := 135) D rfl fun D =>
      j_goto (pc := 136) D rfl <|
      fk_jump cut_310_146 rfl rfl) (fun q =>
      have D : fk_D 310 [(139, none, .aload_n 0, 1, 0, 0, 0), (140, none, .getfield 326, 3, 250, 100, 12), (143, none, .getfield 335, 3, 136, (-117), 10)] := fq_of2 cd_310 ow_310 cl_310 rfl (pc := 139) (by decide +kernel)
      j_aldn (pc := 139) D rfl rfl rfl fun D =>
      j_gf (pc := 140) (a := 303) D rfl rfl (by decide) rfl (s0_303 H) rfl fun D =>
      j_gfo (pc := 143) H.2.1 D rfl rfl rfl rfl fun kc2 D =>
      fk_jump cut_310_146 rfl rfl)
theorem e_310_146 (d : Nat) (s0 s1 s2 : Int) {h : fi_H} (H : Shp h) : c_310_146 d s0 s1 s2 h =
  if 302 < s0 ∧ h 0 s0.toNat 0 = 10 then
  if 0 ≤ s1 ∧ s1 < h 1 s0.toNat 0 then
  lt_ (fi_upd h 10 s0.toNat s1.toNat s2) fun h1 =>
  some (.inl (some (4, 305)), h1)
  else none
  else none := by
  unfold c_310_146
  exact
    have D : fk_D 310 [(146, some [0], .iastore, 1, 0, 0, 0), (147, none, .aload_n 0, 1, 0, 0, 0), (148, none, .getfield 307, 3, 208, 100, 12), (151, none, .areturn, 1, 0, 0, 0)] := fq_of2 cd_310 ow_310 cl_310 rfl (pc := 146) (by decide +kernel)
    j_asu (pc := 146) (e := 10) D rfl rfl ⟨rfl, rfl, rfl⟩ rfl gn gn (gy rfl) fun h1 eh1 S q q2 D =>
    have T := fj_hs_ok H.1 S
    have H := shp_st H T
    j_aldn (pc := 147) D rfl rfl rfl fun D =>
    j_gfc (pc := 148) (a := 303) D rfl rfl (by decide) rfl (s0_303 H) rfl (sf_208_303 H) fun D =>
    j_aret D rt_310
theorem m_310 (d : Nat) (x1 : Int) {h : fi_H} (H : Shp h) : fj_run (d + 1) 310 h [(4, 303), (0, x1)] =
  lt_ (fi_upd h 110 305 0 x1) fun h1 =>
  lt_ (fi_upd h1 10 364 0 x1) fun h2 =>
  if h2 249 303 0 = 0 then
    c_310_42 d 364 1 (-1) h2
  else
    if 0 ≤ wI ((h2 249 303 0) - 1) ∧ wI ((h2 249 303 0) - 1) < 12 then
    c_310_42 d 364 1 (h2 8 360 (wI ((h2 249 303 0) - 1)).toNat) h2
    else none := by
  rw [fj_run_eq d (by decide) h [(4, 303), (0, x1)] (Nat.le_of_ble_eq_true (by rw [nl_310]; rfl))]
  show gG (fj_run d) 310 0 [(0, (4, 303)), (1, (0, x1))] [] h = _
  exact
    have D : fk_D 310 [(0, none, .aload_n 0, 1, 0, 0, 0), (1, none, .getfield 307, 3, 208, 100, 12), (4, none, .iload_n 1, 1, 0, 0, 0), (5, none, .putfield 311, 3, 110, 107, 10), (8, none, .aload_n 0, 1, 0, 0, 0), (9, none, .getfield 314, 3, 251, 100, 12), (12, none, .iconst 0, 1, 0, 0, 0), (13, none, .iload_n 1, 1, 0, 0, 0), (14, none, .iastore, 1, 0, 0, 0), (15, none, .aload_n 0, 1, 0, 0, 0), (16, none, .getfield 314, 3, 251, 100, 12), (19, none, .iconst 1, 1, 0, 1, 0), (20, none, .aload_n 0, 1, 0, 0, 0), (21, none, .getfield 276, 3, 249, 100, 10), (24, none, .ifCond .ne 7, 3, 31, 0, 0), (27, none, .iconst (-1), 1, 0, (-1), 0), (28, none, .goto 14, 3, 42, 0, 0)] := fq_of2 cd_310 ow_310 cl_310 rfl (pc := 0) (by decide +kernel)
    j_aldn (pc := 0) D rfl rfl rfl fun D =>
    j_gfc (pc := 1) (a := 303) D rfl rfl (by decide) rfl (s0_303 H) rfl (sf_208_303 H) fun D =>
    j_ildn (pc := 4) D rfl rfl rfl fun D =>
    j_pf (pc := 5) (a := 305) D rfl rfl rfl (s0_305 H) rfl rfl (gy (by decide)) (gy rfl) fun h1 eh1 S D =>
    have T := fj_hs_ok H.1 S
    have H := shp_st H T
    j_aldn (pc := 8) D rfl rfl rfl fun D =>
    j_gfc (pc := 9) (a := 303) D rfl rfl (by decide) rfl (s0_303 H) rfl (sf_251_303 H) fun D =>
    j_ic (pc := 12) D rfl fun D =>
    j_ildn (pc := 13) D rfl rfl rfl fun D =>
    j_as (pc := 14) (a := 364) (e := 10) D rfl ⟨rfl, rfl⟩ rfl (by decide) (s0_364 H) (s1_364 H) ⟨rfl, rfl, rfl⟩ rfl (gy (by decide)) (gy rfl) fun h2 eh2 S q D =>
    have T := fj_hs_ok H.1 S
    have H := shp_st H T
    j_aldn (pc := 15) D rfl rfl rfl fun D =>
    j_gfc (pc := 16) (a := 303) D rfl rfl (by decide) rfl (s0_303 H) rfl (sf_251_303 H) fun D =>
    j_ic (pc := 19) D rfl fun D =>
    j_aldn (pc := 20) D rfl rfl rfl fun D =>
    j_gf (pc := 21) (a := 303) D rfl rfl (by decide) rfl (s0_303 H) rfl fun D =>
    j_ifne (pc := 24) D rfl (fun q D =>
      j_ic (pc := 27) D rfl fun D =>
      j_goto (pc := 28) D rfl <|
      fk_jump cut_310_42 rfl rfl) (fun q =>
      have D : fk_D 310 [(31, none, .aload_n 0, 1, 0, 0, 0), (32, none, .getfield 317, 3, 245, 100, 12), (35, none, .aload_n 0, 1, 0, 0, 0), (36, none, .getfield 276, 3, 249, 100, 10), (39, none, .iconst 1, 1, 0, 1, 0), (40, none, .isub, 1, 0, 0, 0), (41, none, .baload, 1, 0, 0, 0)] := fq_of2 cd_310 ow_310 cl_310 rfl (pc := 31) (by decide +kernel)
      j_aldn (pc := 31) D rfl rfl rfl fun D =>
      j_gfc (pc := 32) (a := 303) D rfl rfl (by decide) rfl (s0_303 H) rfl (sf_245_303 H) fun D =>
      j_aldn (pc := 35) D rfl rfl rfl fun D =>
      j_gf (pc := 36) (a := 303) D rfl rfl (by decide) rfl (s0_303 H) rfl fun D =>
      j_ic (pc := 39) D rfl fun D =>
      j_isub (pc := 40) D rfl fun D =>
      j_al (pc := 41) (a := 360) (e := 8) D rfl rfl rfl (by decide) (s0_360 H) (s1_360 H) ⟨rfl, rfl, rfl⟩ rfl gn fun qb3 D =>
      fk_jump cut_310_42 rfl rfl)
/-! 311 StatuteHouse.line(IIIII)I -/
theorem cd_311 : fi_code 311 = prog_1_method_39_code := rfl
theorem hx_311 : ∀ pc, fi_hat 311 pc = none := fun pc => by unfold fi_hat; rw [show fi_hh 311 = [] from rfl]; rfl
theorem rt_311 : fi_ret 311 = some .int := rfl
theorem nl_311 : fi_nl 311 = 7 := rfl
theorem ow_311 : fi_ow 311 = 0 := rfl
theorem cl_311 : fj_cutT.getD 311 [] = [(86, [0, 6])] := rfl
theorem cut_311_86 : fj_cut 311 86 = some [0, 6] := by decide +kernel
noncomputable def c_311_86 (d : Nat) (x6 : Int) (h : fi_H) : fk_R := gG (fj_run d) 311 86 [(0, (4, 303)), (6, (0, x6))] [] h
theorem e_311_86 (d : Nat) (x6 : Int) {h : fi_H} (H : Shp h) : c_311_86 d x6 h =
  if 0 ≤ x6 ∧ x6 < 300 then
  lt_ (fi_upd h 10 372 x6.toNat (-1)) fun h1 =>
  lt_ (fi_upd h1 8 369 x6.toNat 0) fun h3 =>
  lt_ (fi_upd h3 8 370 x6.toNat 0) fun h4 =>
  lt_ (fi_upd h4 4 375 x6.toNat 0) fun h5 =>
  lt_ (fi_upd h5 11 373 x6.toNat 0) fun h6 =>
  lt_ (fi_upd h6 11 374 x6.toNat 0) fun h7 =>
  some (.inl (some (0, x6)), h7)
  else none := by
  unfold c_311_86
  exact
    have D : fk_D 311 [(86, some [0, 6], .aload_n 0, 1, 0, 0, 0), (87, none, .getfield 381, 3, 259, 100, 12), (90, none, .iload 6, 2, 0, 0, 0), (92, none, .iconst (-1), 1, 0, (-1), 0), (93, none, .iastore, 1, 0, 0, 0), (94, none, .aload_n 0, 1, 0, 0, 0), (95, none, .getfield 384, 3, 256, 100, 12), (98, none, .iload 6, 2, 0, 0, 0), (100, none, .iconst 0, 1, 0, 0, 0), (101, none, .bastore, 1, 0, 0, 0), (102, none, .aload_n 0, 1, 0, 0, 0), (103, none, .getfield 436, 3, 257, 100, 12), (106, none, .iload 6, 2, 0, 0, 0), (108, none, .iconst 0, 1, 0, 0, 0), (109, none, .bastore, 1, 0, 0, 0), (110, none, .aload_n 0, 1, 0, 0, 0), (111, none, .getfield 439, 3, 262, 100, 12), (114, none, .iload 6, 2, 0, 0, 0), (116, none, .iconst 0, 1, 0, 0, 0), (117, none, .bastore, 1, 0, 0, 0)] := fq_of2 cd_311 ow_311 cl_311 rfl (pc := 86) (by decide +kernel)
    j_aldn (pc := 86) D rfl rfl rfl fun D =>
    j_gfc (pc := 87) (a := 303) D rfl rfl (by decide) rfl (s0_303 H) rfl (sf_259_303 H) fun D =>
    j_ild (pc := 90) D rfl rfl rfl fun D =>
    j_ic (pc := 92) D rfl fun D =>
    j_as (pc := 93) (a := 372) (e := 10) D rfl ⟨rfl, rfl⟩ rfl (by decide) (s0_372 H) (s1_372 H) ⟨rfl, rfl, rfl⟩ rfl gn (gy rfl) fun h1 eh1 S qb2 D =>
    have T := fj_hs_ok H.1 S
    have H := shp_st H T
    j_aldn (pc := 94) D rfl rfl rfl fun D =>
    j_gfc (pc := 95) (a := 303) D rfl rfl (by decide) rfl (s0_303 H) rfl (sf_256_303 H) fun D =>
    j_ild (pc := 98) D rfl rfl rfl fun D =>
    j_ic (pc := 100) D rfl fun D =>
    j_as (pc := 101) (a := 369) (e := 8) D rfl ⟨rfl, rfl⟩ rfl (by decide) (s0_369 H) (s1_369 H) ⟨rfl, rfl, rfl⟩ rfl (gy qb2) (gy (by decide)) fun h3 eh3 S q D =>
    have T := fj_hs_ok H.1 S
    have H := shp_st H T
    j_aldn (pc := 102) D rfl rfl rfl fun D =>
    j_gfc (pc := 103) (a := 303) D rfl rfl (by decide) rfl (s0_303 H) rfl (sf_257_303 H) fun D =>
    j_ild (pc := 106) D rfl rfl rfl fun D =>
    j_ic (pc := 108) D rfl fun D =>
    j_as (pc := 109) (a := 370) (e := 8) D rfl ⟨rfl, rfl⟩ rfl (by decide) (s0_370 H) (s1_370 H) ⟨rfl, rfl, rfl⟩ rfl (gy qb2) (gy (by decide)) fun h4 eh4 S q D =>
    have T := fj_hs_ok H.1 S
    have H := shp_st H T
    j_aldn (pc := 110) D rfl rfl rfl fun D =>
    j_gfc (pc := 111) (a := 303) D rfl rfl (by decide) rfl (s0_303 H) rfl (sf_262_303 H) fun D =>
    j_ild (pc := 114) D rfl rfl rfl fun D =>
    j_ic (pc := 116) D rfl fun D =>
    j_as (pc := 117) (a := 375) (e := 4) D rfl ⟨rfl, rfl⟩ rfl (by decide) (s0_375 H) (s1_375 H) ⟨rfl, rfl, rfl⟩ rfl (gy qb2) (gy (by decide)) fun h5 eh5 S q D =>
    have T := fj_hs_ok H.1 S
    have H := shp_st H T
    have D : fk_D 311 [(118, none, .aload_n 0, 1, 0, 0, 0), (119, none, .getfield 442, 3, 260, 100, 12), (122, none, .iload 6, 2, 0, 0, 0), (124, none, .lconst 0, 1, 0, 0, 0), (125, none, .lastore, 1, 0, 0, 0), (126, none, .aload_n 0, 1, 0, 0, 0), (127, none, .getfield 445, 3, 261, 100, 12), (130, none, .iload 6, 2, 0, 0, 0), (132, none, .lconst 0, 1, 0, 0, 0), (133, none, .lastore, 1, 0, 0, 0), (134, none, .iload 6, 2, 0, 0, 0), (136, none, .ireturn, 1, 0, 0, 0)] := fq_of2 cd_311 ow_311 cl_311 rfl (pc := 118) (by decide +kernel)
    j_aldn (pc := 118) D rfl rfl rfl fun D =>
    j_gfc (pc := 119) (a := 303) D rfl rfl (by decide) rfl (s0_303 H) rfl (sf_260_303 H) fun D =>
    j_ild (pc := 122) D rfl rfl rfl fun D =>
    j_c0 (pc := 124) (v := (1, 0)) D rfl rfl (by decide +kernel) fun D =>
    j_as (pc := 125) (a := 373) (e := 11) D rfl ⟨rfl, rfl⟩ rfl (by decide) (s0_373 H) (s1_373 H) ⟨rfl, rfl, rfl⟩ rfl (gy qb2) (gy rfl) fun h6 eh6 S q D =>
    have T := fj_hs_ok H.1 S
    have H := shp_st H T
    j_aldn (pc := 126) D rfl rfl rfl fun D =>
    j_gfc (pc := 127) (a := 303) D rfl rfl (by decide) rfl (s0_303 H) rfl (sf_261_303 H) fun D =>
    j_ild (pc := 130) D rfl rfl rfl fun D =>
    j_c0 (pc := 132) (v := (1, 0)) D rfl rfl (by decide +kernel) fun D =>
    j_as (pc := 133) (a := 374) (e := 11) D rfl ⟨rfl, rfl⟩ rfl (by decide) (s0_374 H) (s1_374 H) ⟨rfl, rfl, rfl⟩ rfl (gy qb2) (gy rfl) fun h7 eh7 S q D =>
    have T := fj_hs_ok H.1 S
    have H := shp_st H T
    j_ild (pc := 134) D rfl rfl rfl fun D =>
    j_iret D rt_311
theorem m_311 (d : Nat) (x1 x2 x3 x4 x5 : Int) {h : fi_H} (H : Shp h) : fj_run (d + 1) 311 h [(4, 303), (0, x1), (0, x2), (0, x3), (0, x4), (0, x5)] =
  if h 264 303 0 = 0 then
    some (.inl (some (0, (-1))), h)
  else
    lt_ (fi_upd h 263 303 0 (wI ((h 263 303 0) + 1))) fun h1 =>
    if 300 < h1 263 303 0 then
      some (.inl (some (0, (-1))), h1)
    else
      if 0 ≤ wI ((h1 263 303 0) - 1) ∧ wI ((h1 263 303 0) - 1) < 300 then
      lt_ (fi_upd h1 8 365 (wI ((h1 263 303 0) - 1)).toNat (wB x1)) fun h2 =>
      lt_ (fi_upd h2 8 366 (wI ((h1 263 303 0) - 1)).toNat (wB x5)) fun h4 =>
      lt_ (fi_upd h4 8 367 (wI ((h1 263 303 0) - 1)).toNat (wB x2)) fun h5 =>
      lt_ (fi_upd h5 8 368 (wI ((h1 263 303 0) - 1)).toNat (wB x3)) fun h6 =>
      lt_ (fi_upd h6 5 371 (wI ((h1 263 303 0) - 1)).toNat (wC x4)) fun h7 =>
      c_311_86 d (wI ((h1 263 303 0) - 1)) h7
      else none := by
  rw [fj_run_eq d (by decide) h [(4, 303), (0, x1), (0, x2), (0, x3), (0, x4), (0, x5)] (Nat.le_of_ble_eq_true (by rw [nl_311]; rfl))]
  show gG (fj_run d) 311 0 [(0, (4, 303)), (1, (0, x1)), (2, (0, x2)), (3, (0, x3)), (4, (0, x4)), (5, (0, x5))] [] h = _
  exact
    have D : fk_D 311 [(0, none, .aload_n 0, 1, 0, 0, 0), (1, none, .getfield 415, 3, 264, 100, 4), (4, none, .ifCond .ne 5, 3, 9, 0, 0), (7, none, .iconst (-1), 1, 0, (-1), 0), (8, none, .ireturn, 1, 0, 0, 0)] := fq_of2 cd_311 ow_311 cl_311 rfl (pc := 0) (by decide +kernel)
    j_aldn (pc := 0) D rfl rfl rfl fun D =>
    j_gf (pc := 1) (a := 303) D rfl rfl (by decide) rfl (s0_303 H) rfl fun D =>
    j_ifne (pc := 4) D rfl (fun q D =>
      j_ic (pc := 7) D rfl fun D =>
      j_iret D rt_311) (fun q =>
      have D : fk_D 311 [(9, none, .aload_n 0, 1, 0, 0, 0), (10, none, .dup, 1, 0, 0, 0), (11, none, .getfield 418, 3, 263, 100, 10), (14, none, .iconst 1, 1, 0, 1, 0), (15, none, .iadd, 1, 0, 0, 0), (16, none, .putfield 418, 3, 263, 100, 10), (19, none, .aload_n 0, 1, 0, 0, 0), (20, none, .getfield 418, 3, 263, 100, 10), (23, none, .sipush 300, 3, 0, 300, 0), (26, none, .if_icmp .le 5, 3, 31, 0, 0), (29, none, .iconst (-1), 1, 0, (-1), 0), (30, none, .ireturn, 1, 0, 0, 0)] := fq_of2 cd_311 ow_311 cl_311 rfl (pc := 9) (by decide +kernel)
      j_aldn (pc := 9) D rfl rfl rfl fun D =>
      j_sh (pc := 10) D rfl rfl rfl fun D =>
      j_gf (pc := 11) (a := 303) D rfl rfl (by decide) rfl (s0_303 H) rfl fun D =>
      j_ic (pc := 14) D rfl fun D =>
      j_iadd (pc := 15) D rfl fun D =>
      j_pf (pc := 16) (a := 303) D rfl rfl rfl (s0_303 H) rfl rfl (gy (by decide)) (gy rfl) fun h1 eh1 S D =>
      have T := fj_hs_ok H.1 S
      have H := shp_st H T
      j_aldn (pc := 19) D rfl rfl rfl fun D =>
      j_gf (pc := 20) (a := 303) D rfl rfl (by decide) rfl (s0_303 H) rfl fun D =>
      j_sp (pc := 23) D rfl fun D =>
      j_ile (pc := 26) D rfl (fun q D =>
        j_ic (pc := 29) D rfl fun D =>
        j_iret D rt_311) (fun q =>
        have D : fk_D 311 [(31, none, .aload_n 0, 1, 0, 0, 0), (32, none, .getfield 418, 3, 263, 100, 10), (35, none, .iconst 1, 1, 0, 1, 0), (36, none, .isub, 1, 0, 0, 0), (37, none, .istore 6, 2, 0, 0, 0), (39, none, .aload_n 0, 1, 0, 0, 0), (40, none, .getfield 421, 3, 252, 100, 12), (43, none, .iload 6, 2, 0, 0, 0), (45, none, .iload_n 1, 1, 0, 0, 0), (46, none, .i2b, 1, 0, 0, 0), (47, none, .bastore, 1, 0, 0, 0), (48, none, .aload_n 0, 1, 0, 0, 0), (49, none, .getfield 424, 3, 253, 100, 12), (52, none, .iload 6, 2, 0, 0, 0), (54, none, .iload 5, 2, 0, 0, 0), (56, none, .i2b, 1, 0, 0, 0), (57, none, .bastore, 1, 0, 0, 0), (58, none, .aload_n 0, 1, 0, 0, 0), (59, none, .getfield 427, 3, 254, 100, 12), (62, none, .iload 6, 2, 0, 0, 0)] := fq_of2 cd_311 ow_311 cl_311 rfl (pc := 31) (by decide +kernel)
        j_aldn (pc := 31) D rfl rfl rfl fun D =>
        j_gf (pc := 32) (a := 303) D rfl rfl (by decide) rfl (s0_303 H) rfl fun D =>
        j_ic (pc := 35) D rfl fun D =>
        j_isub (pc := 36) D rfl fun D =>
        j_ist (pc := 37) (L' := [(6, (0, wI ((h1 263 303 0) - 1))), (0, (4, 303)), (1, (0, x1)), (2, (0, x2)), (3, (0, x3)), (4, (0, x4)), (5, (0, x5))]) D rfl nl_311 rfl rfl fun D =>
        j_aldn (pc := 39) D rfl rfl rfl fun D =>
        j_gfc (pc := 40) (a := 303) D rfl rfl (by decide) rfl (s0_303 H) rfl (sf_252_303 H) fun D =>
        j_ild (pc := 43) D rfl rfl rfl fun D =>
        j_ildn (pc := 45) D rfl rfl rfl fun D =>
        j_i2b (pc := 46) D rfl fun D =>
        j_as (pc := 47) (a := 365) (e := 8) D rfl ⟨rfl, rfl⟩ rfl (by decide) (s0_365 H) (s1_365 H) ⟨rfl, rfl, rfl⟩ rfl gn (gy (fk_rgB _)) fun h2 eh2 S qb3 D =>
        have T := fj_hs_ok H.1 S
        have H := shp_st H T
        j_aldn (pc := 48) D rfl rfl rfl fun D =>
        j_gfc (pc := 49) (a := 303) D rfl rfl (by decide) rfl (s0_303 H) rfl (sf_253_303 H) fun D =>
        j_ild (pc := 52) D rfl rfl rfl fun D =>
        j_ild (pc := 54) D rfl rfl rfl fun D =>
        j_i2b (pc := 56) D rfl fun D =>
        j_as (pc := 57) (a := 366) (e := 8) D rfl ⟨rfl, rfl⟩ rfl (by decide) (s0_366 H) (s1_366 H) ⟨rfl, rfl, rfl⟩ rfl (gy qb3) (gy (fk_rgB _)) fun h4 eh4 S q D =>
        have T := fj_hs_ok H.1 S
        have H := shp_st H T
        j_aldn (pc := 58) D rfl rfl rfl fun D =>
        j_gfc (pc := 59) (a := 303) D rfl rfl (by decide) rfl (s0_303 H) rfl (sf_254_303 H) fun D =>
        j_ild (pc := 62) D rfl rfl rfl fun D =>
        have D : fk_D 311 [(64, none, .iload_n 2, 1, 0, 0, 0), (65, none, .i2b, 1, 0, 0, 0), (66, none, .bastore, 1, 0, 0, 0), (67, none, .aload_n 0, 1, 0, 0, 0), (68, none, .getfield 430, 3, 255, 100, 12), (71, none, .iload 6, 2, 0, 0, 0), (73, none, .iload_n 3, 1, 0, 0, 0), (74, none, .i2b, 1, 0, 0, 0), (75, none, .bastore, 1, 0, 0, 0), (76, none, .aload_n 0, 1, 0, 0, 0), (77, none, .getfield 433, 3, 258, 100, 12), (80, none, .iload 6, 2, 0, 0, 0), (82, none, .iload 4, 2, 0, 0, 0), (84, none, .i2c, 1, 0, 0, 0), (85, none, .castore, 1, 0, 0, 0)] := fq_of2 cd_311 ow_311 cl_311 rfl (pc := 64) (by decide +kernel)
        j_ildn (pc := 64) D rfl rfl rfl fun D =>
        j_i2b (pc := 65) D rfl fun D =>
        j_as (pc := 66) (a := 367) (e := 8) D rfl ⟨rfl, rfl⟩ rfl (by decide) (s0_367 H) (s1_367 H) ⟨rfl, rfl, rfl⟩ rfl (gy qb3) (gy (fk_rgB _)) fun h5 eh5 S q D =>
        have T := fj_hs_ok H.1 S
        have H := shp_st H T
        j_aldn (pc := 67) D rfl rfl rfl fun D =>
        j_gfc (pc := 68) (a := 303) D rfl rfl (by decide) rfl (s0_303 H) rfl (sf_255_303 H) fun D =>
        j_ild (pc := 71) D rfl rfl rfl fun D =>
        j_ildn (pc := 73) D rfl rfl rfl fun D =>
        j_i2b (pc := 74) D rfl fun D =>
        j_as (pc := 75) (a := 368) (e := 8) D rfl ⟨rfl, rfl⟩ rfl (by decide) (s0_368 H) (s1_368 H) ⟨rfl, rfl, rfl⟩ rfl (gy qb3) (gy (fk_rgB _)) fun h6 eh6 S q D =>
        have T := fj_hs_ok H.1 S
        have H := shp_st H T
        j_aldn (pc := 76) D rfl rfl rfl fun D =>
        j_gfc (pc := 77) (a := 303) D rfl rfl (by decide) rfl (s0_303 H) rfl (sf_258_303 H) fun D =>
        j_ild (pc := 80) D rfl rfl rfl fun D =>
        j_ild (pc := 82) D rfl rfl rfl fun D =>
        j_i2c (pc := 84) D rfl fun D =>
        j_as (pc := 85) (a := 371) (e := 5) D rfl ⟨rfl, rfl⟩ rfl (by decide) (s0_371 H) (s1_371 H) ⟨rfl, rfl, rfl⟩ rfl (gy qb3) (gy (fk_rgC _)) fun h7 eh7 S q D =>
        have T := fj_hs_ok H.1 S
        have H := shp_st H T
        fk_jump cut_311_86 rfl rfl))
/-! 312 StatuteHouse.holds(LStatuteHouse$Sight;LStatuteHouse$Rule;II)Z -/
theorem cd_312 : fi_code 312 = prog_1_method_38_code := rfl
theorem rt_312 : fi_ret 312 = some .boolean := rfl
theorem nl_312 : fi_nl 312 = 11 := rfl
theorem ow_312 : fi_ow 312 = 0 := rfl
theorem cl_312 : fj_cutT.getD 312 [] = [(76, [0, 1, 2, 3, 4, 5, 6, 7]), (105, [0, 1, 2, 3, 4, 5, 6, 7]), (119, [0, 1, 2, 3, 4, 5, 6, 7, 8, 9]), (146, [0, 1, 2, 3, 4, 5, 6, 7, 8, 9]), (173, [0, 1, 2, 3, 4, 5, 6, 7, 8, 9]), (229, [0, 2, 3, 5, 6, 7, 8]), (275, [0, 3, 5, 6, 7, 8]), (288, [0, 3, 5, 6]), (309, [0, 5])] := rfl
theorem cut_312_76 : fj_cut 312 76 = some [0, 1, 2, 3, 4, 5, 6, 7] := by decide +kernel
noncomputable def c_312_76 (d : Nat) (x1 x2 x3 x4 x5 x6 x7 : Int) (h : fi_H) : fk_R := gG (fj_run d) 312 76 [(0, (4, 303)), (1, (4, x1)), (2, (4, x2)), (3, (0, x3)), (4, (0, x4)), (5, (4, x5)), (6, (4, x6)), (7, (0, x7))] [] h
theorem cut_312_105 : fj_cut 312 105 = some [0, 1, 2, 3, 4, 5, 6, 7] := by decide +kernel
noncomputable def c_312_105 (d : Nat) (x1 x2 x3 x4 x5 x6 x7 : Int) (h : fi_H) : fk_R := gG (fj_run d) 312 105 [(0, (4, 303)), (1, (4, x1)), (2, (4, x2)), (3, (0, x3)), (4, (0, x4)), (5, (4, x5)), (6, (4, x6)), (7, (0, x7))] [] h
theorem cut_312_119 : fj_cut 312 119 = some [0, 1, 2, 3, 4, 5, 6, 7, 8, 9] := by decide +kernel
noncomputable def c_312_119 (d : Nat) (x1 x2 x3 x4 x5 x6 x7 x8 x9 : Int) (h : fi_H) : fk_R := gG (fj_run d) 312 119 [(0, (4, 303)), (1, (4, x1)), (2, (4, x2)), (3, (0, x3)), (4, (0, x4)), (5, (4, x5)), (6, (4, x6)), (7, (0, x7)), (8, (0, x8)), (9, (0, x9))] [] h
theorem cut_312_146 : fj_cut 312 146 = some [0, 1, 2, 3, 4, 5, 6, 7, 8, 9] := by decide +kernel
noncomputable def c_312_146 (d : Nat) (x1 x2 x3 x4 x5 x6 x7 x8 x9 s0 s1 s2 s3 : Int) (h : fi_H) : fk_R := gG (fj_run d) 312 146 [(0, (4, 303)), (1, (4, x1)), (2, (4, x2)), (3, (0, x3)), (4, (0, x4)), (5, (4, x5)), (6, (4, x6)), (7, (0, x7)), (8, (0, x8)), (9, (0, x9))] [(0, s3), (4, s2), (4, s1), (4, s0)] h
theorem cut_312_173 : fj_cut 312 173 = some [0, 1, 2, 3, 4, 5, 6, 7, 8, 9] := by decide +kernel
noncomputable def c_312_173 (d : Nat) (x1 x2 x3 x4 x5 x6 x7 x8 x9 : Int) (h : fi_H) : fk_R := gG (fj_run d) 312 173 [(0, (4, 303)), (1, (4, x1)), (2, (4, x2)), (3, (0, x3)), (4, (0, x4)), (5, (4, x5)), (6, (4, x6)), (7, (0, x7)), (8, (0, x8)), (9, (0, x9))] [] h
theorem cut_312_229 : fj_cut 312 229 = some [0, 2, 3, 5, 6, 7, 8] := by decide +kernel
noncomputable def c_312_229 (d : Nat) (x2 x3 x5 x6 x7 x8 : Int) (h : fi_H) : fk_R := gG (fj_run d) 312 229 [(0, (4, 303)), (2, (4, x2)), (3, (0, x3)), (5, (4, x5)), (6, (4, x6)), (7, (0, x7)), (8, (0, x8))] [] h
theorem cut_312_275 : fj_cut 312 275 = some [0, 3, 5, 6, 7, 8] := by decide +kernel
noncomputable def c_312_275 (d : Nat) (x3 x5 x6 x7 x8 : Int) (h : fi_H) : fk_R := gG (fj_run d) 312 275 [(0, (4, 303)), (3, (0, x3)), (5, (4, x5)), (6, (4, x6)), (7, (0, x7)), (8, (0, x8))] [] h
theorem cut_312_288 : fj_cut 312 288 = some [0, 3, 5, 6] := by decide +kernel
noncomputable def c_312_288 (d : Nat) (x3 x5 x6 s0 s1 s2 : Int) (h : fi_H) : fk_R := gG (fj_run d) 312 288 [(0, (4, 303)), (3, (0, x3)), (5, (4, x5)), (6, (4, x6))] [(0, s2), (0, s1), (4, s0)] h
theorem cut_312_309 : fj_cut 312 309 = some [0, 5] := by decide +kernel
noncomputable def c_312_309 (d : Nat) (x5 s0 : Int) (h : fi_H) : fk_R := gG (fj_run d) 312 309 [(0, (4, 303)), (5, (4, x5))] [(4, s0)] h
theorem e_312_76 (d : Nat) (x1 x2 x3 x4 x5 x6 x7 : Int) {h : fi_H} (H : Shp h) : c_312_76 d x1 x2 x3 x4 x5 x6 x7 h =
  if x7 = (-1) then
    c_312_105 d x1 x2 x3 x4 x5 x6 x7 h
  else
    if h 0 x2.toNat 0 = 117 then
    if 0 ≤ x7 ∧ x7 < 300 then
    lt_ (fi_upd h 10 372 x7.toNat (h 135 x2.toNat 0)) fun h2 =>
    lt_ (fi_upd h2 8 369 x7.toNat (wB (h2 136 x2.toNat 0))) fun h4 =>
    c_312_105 d x1 x2 x3 x4 x5 x6 x7 h4
    else none
    else none := by
  unfold c_312_76
  exact
    have D : fk_D 312 [(76, some [0, 1, 2, 3, 4, 5, 6, 7], .iload 7, 2, 0, 0, 0), (78, none, .iconst (-1), 1, 0, (-1), 0), (79, none, .if_icmp .eq 26, 3, 105, 0, 0), (82, none, .aload_n 0, 1, 0, 0, 0), (83, none, .getfield 381, 3, 259, 100, 12), (86, none, .iload 7, 2, 0, 0, 0), (88, none, .aload_n 2, 1, 0, 0, 0), (89, none, .getfield 330, 3, 135, (-117), 10), (92, none, .iastore, 1, 0, 0, 0), (93, none, .aload_n 0, 1, 0, 0, 0), (94, none, .getfield 384, 3, 256, 100, 12), (97, none, .iload 7, 2, 0, 0, 0), (99, none, .aload_n 2, 1, 0, 0, 0), (100, none, .getfield 335, 3, 136, 117, 10), (103, none, .i2b, 1, 0, 0, 0), (104, none, .bastore, 1, 0, 0, 0)] := fq_of2 cd_312 ow_312 cl_312 rfl (pc := 76) (by decide +kernel)
    j_ild (pc := 76) D rfl rfl rfl fun D =>
    j_ic (pc := 78) D rfl fun D =>
    j_ieq (pc := 79) D rfl (fun q =>
      fk_jump cut_312_105 rfl rfl) (fun q D =>
      j_aldn (pc := 82) D rfl rfl rfl fun D =>
      j_gfc (pc := 83) (a := 303) D rfl rfl (by decide) rfl (s0_303 H) rfl (sf_259_303 H) fun D =>
      j_ild (pc := 86) D rfl rfl rfl fun D =>
      j_aldn (pc := 88) D rfl rfl rfl fun D =>
      j_gfo (pc := 89) H.2.1 D rfl rfl rfl rfl fun kc1 D =>
      j_as (pc := 92) (a := 372) (e := 10) D rfl ⟨rfl, rfl⟩ rfl (by decide) (s0_372 H) (s1_372 H) ⟨rfl, rfl, rfl⟩ rfl gn (gy rfl) fun h2 eh2 S qb3 D =>
      have T := fj_hs_ok H.1 S
      have kc1 := cls_st H.1 T.2 kc1 (by decide)
      have H := shp_st H T
      j_aldn (pc := 93) D rfl rfl rfl fun D =>
      j_gfc (pc := 94) (a := 303) D rfl rfl (by decide) rfl (s0_303 H) rfl (sf_256_303 H) fun D =>
      j_ild (pc := 97) D rfl rfl rfl fun D =>
      j_aldn (pc := 99) D rfl rfl rfl fun D =>
      j_gf (pc := 100) (a := x2.toNat) D rfl rfl (nz_cls H.2.1 kc1 (by decide)) rfl kc1 rfl fun D =>
      j_i2b (pc := 103) D rfl fun D =>
      j_as (pc := 104) (a := 369) (e := 8) D rfl ⟨rfl, rfl⟩ rfl (by decide) (s0_369 H) (s1_369 H) ⟨rfl, rfl, rfl⟩ rfl (gy qb3) (gy (fk_rgB _)) fun h4 eh4 S q D =>
      have T := fj_hs_ok H.1 S
      have kc1 := cls_st H.1 T.2 kc1 (by decide)
      have H := shp_st H T
      fk_jump cut_312_105 rfl rfl)
theorem e_312_105 (d : Nat) (x1 x2 x3 x4 x5 x6 x7 : Int) {h : fi_H} (H : Shp h) : c_312_105 d x1 x2 x3 x4 x5 x6 x7 h =
  if h 0 x1.toNat 0 = 120 then
  if h 0 x2.toNat 0 = 117 then
  if h 0 (h 204 x1.toNat 0).toNat 0 = 9 ∧ 0 ≤ h 134 x2.toNat 0 ∧ h 134 x2.toNat 0 < h 1 (h 204 x1.toNat 0).toNat 0 then
  lt_ (h 9 (h 204 x1.toNat 0).toNat (h 134 x2.toNat 0).toNat) fun y3 =>
  c_312_119 d x1 x2 x3 x4 x5 x6 x7 0 y3 h
  else none
  else none
  else none := by
  unfold c_312_105
  exact
    have D : fk_D 312 [(105, some [0, 1, 2, 3, 4, 5, 6, 7], .iconst 0, 1, 0, 0, 0), (106, none, .istore 8, 2, 0, 0, 0), (108, none, .aload_n 1, 1, 0, 0, 0), (109, none, .getfield 387, 3, 204, (-120), 12), (112, none, .aload_n 2, 1, 0, 0, 0), (113, none, .getfield 390, 3, 134, (-117), 10), (116, none, .saload, 1, 0, 0, 0), (117, none, .istore 9, 2, 0, 0, 0)] := fq_of2 cd_312 ow_312 cl_312 rfl (pc := 105) (by decide +kernel)
    j_ic (pc := 105) D rfl fun D =>
    j_ist (pc := 106) (L' := [(8, (0, 0)), (0, (4, 303)), (1, (4, x1)), (2, (4, x2)), (3, (0, x3)), (4, (0, x4)), (5, (4, x5)), (6, (4, x6)), (7, (0, x7))]) D rfl nl_312 rfl rfl fun D =>
    j_aldn (pc := 108) D rfl rfl rfl fun D =>
    j_gfo (pc := 109) H.2.1 D rfl rfl rfl rfl fun kc1 D =>
    j_aldn (pc := 112) D rfl rfl rfl fun D =>
    j_gfo (pc := 113) H.2.1 D rfl rfl rfl rfl fun kc2 D =>
    j_alp (pc := 116) (e := 9) H.2.1 D rfl rfl ⟨rfl, rfl, rfl⟩ rfl fun q q2 D =>
    j_stl (pc := 117) (L' := fun y3 => [(9, (0, y3)), (8, (0, 0)), (0, (4, 303)), (1, (4, x1)), (2, (4, x2)), (3, (0, x3)), (4, (0, x4)), (5, (4, x5)), (6, (4, x6)), (7, (0, x7))]) D rfl ⟨rfl, rfl, rfl, rfl⟩ nl_312 rfl (fun _ => rfl) fun y3 ey3 D =>
    fk_jump cut_312_119 rfl rfl
theorem e_312_119 (d : Nat) (x1 x2 x3 x4 x5 x6 x7 x8 x9 : Int) {h : fi_H} (H : Shp h) : c_312_119 d x1 x2 x3 x4 x5 x6 x7 x8 x9 h =
  if x9 = (-1) then
    if x8 = 0 then
      if h 0 x2.toNat 0 = 117 then
      if h 141 x2.toNat 0 = 0 then
        c_312_229 d x2 x3 x5 x6 x7 x8 h
      else
        dv_ (fi_vt 136 (h 0 (h 141 x2.toNat 0).toNat 0)) fun m5 => cv_ (fj_run d m5 h [(4, h 141 x2.toNat 0), (0, x3)])
          (fun h2 =>
          if 0 ≤ x3 ∧ x3 < 700 then
          if h2 4 310 x3.toNat = 0 then
            lt_ (fi_upd h2 250 303 0 x5) fun h7 =>
            some (.inl (some (0, 0)), h7)
          else
            c_312_229 d x2 x3 x5 x6 x7 x8 h2
          else none)
          (fun q4 h2 => ta_ q4 h2 (c_312_309 d x5 (q4 : Int) h2))
      else none
    else
      c_312_275 d x3 x5 x6 x7 x8 h
  else
    if 0 ≤ x9 ∧ x9 < 500 then
    if x8 = 0 then
      c_312_146 d x1 x2 x3 x4 x5 x6 x7 x8 x9 303 x1 (h 12 355 x9.toNat) x3 h
    else
      c_312_146 d x1 x2 x3 x4 x5 x6 x7 x8 x9 303 x1 (h 12 355 x9.toNat) (wI (x3 + 1)) h
    else none := by
  unfold c_312_119
  exact
    have D : fk_D 312 [(119, some [0, 1, 2, 3, 4, 5, 6, 7, 8, 9], .iload 9, 2, 0, 0, 0), (121, none, .iconst (-1), 1, 0, (-1), 0), (122, none, .if_icmp .eq 63, 3, 185, 0, 0), (125, none, .aload_n 0, 1, 0, 0, 0), (126, none, .aload_n 1, 1, 0, 0, 0), (127, none, .aload_n 0, 1, 0, 0, 0), (128, none, .getfield 360, 3, 228, 100, 12), (131, none, .iload 9, 2, 0, 0, 0), (133, none, .aaload, 1, 0, 0, 0), (134, none, .iload 8, 2, 0, 0, 0), (136, none, .ifCond .eq 9, 3, 145, 0, 0), (139, none, .iload_n 3, 1, 0, 0, 0), (140, none, .iconst 1, 1, 0, 1, 0), (141, none, .iadd, 1, 0, 0, 0), (142, none, .goto 4, 3, 146, 0, 0)] := fq_of2 cd_312 ow_312 cl_312 rfl (pc := 119) (by decide +kernel)
    j_ild (pc := 119) D rfl rfl rfl fun D =>
    j_ic (pc := 121) D rfl fun D =>
    j_ieq (pc := 122) D rfl (fun q =>
      have D : fk_D 312 [(185, none, .iload 8, 2, 0, 0, 0), (187, none, .ifCond .ne 88, 3, 275, 0, 0), (190, none, .aload_n 2, 1, 0, 0, 0), (191, none, .getfield 393, 3, 141, (-117), 12), (194, none, .ifnull 35, 3, 229, 0, 0), (197, none, .aload_n 2, 1, 0, 0, 0), (198, none, .getfield 393, 3, 141, 117, 12), (201, none, .iload_n 3, 1, 0, 0, 0), (202, none, .invokevirtual 397, 3, 1, 136, 0), (205, none, .aload_n 0, 1, 0, 0, 0), (206, none, .getfield 113, 3, 213, 100, 12), (209, none, .getfield 56, 3, 114, 119, 12), (212, none, .iload_n 3, 1, 0, 0, 0), (213, none, .baload, 1, 0, 0, 0), (214, none, .ifCond .ne 15, 3, 229, 0, 0), (217, none, .iconst 0, 1, 0, 0, 0), (218, none, .istore 9, 2, 0, 0, 0), (220, none, .aload_n 0, 1, 0, 0, 0), (221, none, .aload 5, 2, 0, 0, 0), (223, none, .putfield 326, 3, 250, 100, 12)] := fq_of2 cd_312 ow_312 cl_312 rfl (pc := 185) (by decide +kernel)
      j_ild (pc := 185) D rfl rfl rfl fun D =>
      j_ifne (pc := 187) D rfl (fun q D =>
        j_aldn (pc := 190) D rfl rfl rfl fun D =>
        j_gfo (pc := 191) H.2.1 D rfl rfl rfl rfl fun kc1 D =>
        j_null (pc := 194) D rfl (fun q =>
          fk_jump cut_312_229 rfl rfl) (fun q D =>
          j_aldn (pc := 197) D rfl rfl rfl fun D =>
          j_gf (pc := 198) (a := x2.toNat) D rfl rfl (nz_cls H.2.1 kc1 (by decide)) rfl kc1 rfl fun D =>
          j_ildn (pc := 201) D rfl rfl rfl fun D =>
          j_ivuv (pc := 202) (dd := 136) (a := [(0, x3)]) (rest := []) H.2.1 D rfl rfl rfl rfl rfl (fun m5 h2 e1 D =>
            have T := fj_run_ok _ _ _ _ _ _ H.1 e1
            have kc1 := cls_st H.1 T.2 kc1 (by decide)
            have H := shp_st H T
            j_aldn (pc := 205) D rfl rfl rfl fun D =>
            j_gfc (pc := 206) (a := 303) D rfl rfl (by decide) rfl (s0_303 H) rfl (sf_213_303 H) fun D =>
            j_gfc (pc := 209) (a := 309) D rfl rfl (by decide) rfl (s0_309 H) rfl (sf_114_309 H) fun D =>
            j_ildn (pc := 212) D rfl rfl rfl fun D =>
            j_al (pc := 213) (a := 310) (e := 4) D rfl rfl rfl (by decide) (s0_310 H) (s1_310 H) ⟨rfl, rfl, rfl⟩ rfl gn fun qb6 D =>
            j_ifne (pc := 214) D rfl (fun q D =>
              j_ic (pc := 217) D rfl fun D =>
              j_ist (pc := 218) (L' := [(9, (0, 0)), (0, (4, 303)), (1, (4, x1)), (2, (4, x2)), (3, (0, x3)), (4, (0, x4)), (5, (4, x5)), (6, (4, x6)), (7, (0, x7)), (8, (0, x8))]) D rfl nl_312 rfl rfl fun D =>
              j_aldn (pc := 220) D rfl rfl rfl fun D =>
              j_ald (pc := 221) D rfl rfl rfl fun D =>
              j_pf (pc := 223) (a := 303) D rfl rfl rfl (s0_303 H) rfl rfl (gy (by decide)) (gy rfl) fun h7 eh7 S D =>
              have T := fj_hs_ok H.1 S
              have kc1 := cls_st H.1 T.2 kc1 (by decide)
              have H := shp_st H T
              have D : fk_D 312 [(226, none, .iload 9, 2, 0, 0, 0), (228, none, .ireturn, 1, 0, 0, 0)] := fq_of2 cd_312 ow_312 cl_312 rfl (pc := 226) (by decide +kernel)
              j_ild (pc := 226) D rfl rfl rfl fun D =>
              j_zret D rt_312 (gy (by decide))) (fun q =>
              fk_jump cut_312_229 rfl rfl)) (fun m5 q4 h2 e1 =>
            j_ta (fk_at (cu := none) (by decide +kernel) rfl) (s := 105) (e := 220) (hp := 309) (by decide +kernel) <|
            fk_jump cut_312_309 rfl rfl))) (fun q =>
        fk_jump cut_312_275 rfl rfl)) (fun q D =>
      j_aldn (pc := 125) D rfl rfl rfl fun D =>
      j_aldn (pc := 126) D rfl rfl rfl fun D =>
      j_aldn (pc := 127) D rfl rfl rfl fun D =>
      j_gfc (pc := 128) (a := 303) D rfl rfl (by decide) rfl (s0_303 H) rfl (sf_228_303 H) fun D =>
      j_ild (pc := 131) D rfl rfl rfl fun D =>
      j_al (pc := 133) (a := 355) (e := 12) D rfl rfl rfl (by decide) (s0_355 H) (s1_355 H) ⟨rfl, rfl, rfl⟩ rfl gn fun qb8 D =>
      j_ild (pc := 134) D rfl rfl rfl fun D =>
      j_ifeq (pc := 136) D rfl (fun q =>
        have D : fk_D 312 [(145, none, .iload_n 3, 1, 0, 0, 0)] := fq_of2 cd_312 ow_312 cl_312 rfl (pc := 145) (by decide +kernel)
        j_ildn (pc := 145) D rfl rfl rfl fun D =>
        fk_jump cut_312_146 rfl rfl) (fun q D =>
        j_ildn (pc := 139) D rfl rfl rfl fun D =>
        j_ic (pc := 140) D rfl fun D =>
        j_iadd (pc := 141) D rfl fun D =>
        j_goto (pc := 142) D rfl <|
        fk_jump cut_312_146 rfl rfl))
theorem e_312_146 (d : Nat) (x1 x2 x3 x4 x5 x6 x7 x8 x9 s0 s1 s2 s3 : Int) {h : fi_H} (H : Shp h) : c_312_146 d x1 x2 x3 x4 x5 x6 x7 x8 x9 s0 s1 s2 s3 h =
  dv_ (fi_vt 134 (h 0 s0.toNat 0)) fun m4 => ca_ (fj_run d m4 h [(4, s0), (4, s1), (4, s2), (0, s3), (0, wI (x4 + 1))]) 0
    (fun v2 h1 =>
    if v2 = 0 then
      c_312_173 d x1 x2 x3 x4 x5 x6 x7 x8 x9 h1
    else
      if x8 = 0 then
        c_312_173 d x1 x2 x3 x4 x5 x6 x7 1 x9 h1
      else
        ca_ (fj_run d 310 h1 [(4, 303), (0, 2)]) 4
          (fun v6 h5 =>
          if v6 ≠ 0 then
          ta_ (v6.toNat) h5 (c_312_309 d x5 (v6.toNat : Int) h5)
          else none)
          (fun q7 h5 => ta_ q7 h5 (c_312_309 d x5 (q7 : Int) h5)))
    (fun q3 h1 => ta_ q3 h1 (c_312_309 d x5 (q3 : Int) h1)) := by
  unfold c_312_146
  exact
    have D : fk_D 312 [(146, some [0, 1, 2, 3, 4, 5, 6, 7, 8, 9], .iload 4, 2, 0, 0, 0), (148, none, .iconst 1, 1, 0, 1, 0), (149, none, .iadd, 1, 0, 0, 0), (150, none, .invokevirtual 367, 3, 4, 134, 1), (153, none, .ifCond .ne 6, 3, 159, 0, 0), (156, none, .goto 17, 3, 173, 0, 0)] := fq_of2 cd_312 ow_312 cl_312 rfl (pc := 146) (by decide +kernel)
    j_ild (pc := 146) D rfl rfl rfl fun D =>
    j_ic (pc := 148) D rfl fun D =>
    j_iadd (pc := 149) D rfl fun D =>
    j_ivu (pc := 150) (dd := 134) (a := [(4, s1), (4, s2), (0, s3), (0, wI (x4 + 1))]) (rest := []) H.2.1 D rfl rfl rfl rfl rfl (fun m4 v2 h1 e1 D =>
      have T := fj_run_ok _ _ _ _ _ _ H.1 e1
      have H := shp_st H T
      j_ifne (pc := 153) D rfl (fun q D =>
        j_goto (pc := 156) D rfl <|
        fk_jump cut_312_173 rfl rfl) (fun q =>
        have D : fk_D 312 [(159, none, .iload 8, 2, 0, 0, 0), (161, none, .ifCond .eq 9, 3, 170, 0, 0), (164, none, .aload_n 0, 1, 0, 0, 0), (165, none, .iconst 2, 1, 0, 2, 0), (166, none, .invokevirtual 109, 3, 1, 112, 5), (169, none, .athrow, 1, 0, 0, 0)] := fq_of2 cd_312 ow_312 cl_312 rfl (pc := 159) (by decide +kernel)
        j_ild (pc := 159) D rfl rfl rfl fun D =>
        j_ifeq (pc := 161) D rfl (fun q =>
          have D : fk_D 312 [(170, none, .iconst 1, 1, 0, 1, 0), (171, none, .istore 8, 2, 0, 0, 0)] := fq_of2 cd_312 ow_312 cl_312 rfl (pc := 170) (by decide +kernel)
          j_ic (pc := 170) D rfl fun D =>
          j_ist (pc := 171) (L' := [(8, (0, 1)), (0, (4, 303)), (1, (4, x1)), (2, (4, x2)), (3, (0, x3)), (4, (0, x4)), (5, (4, x5)), (6, (4, x6)), (7, (0, x7)), (9, (0, x9))]) D rfl nl_312 rfl rfl fun D =>
          fk_jump cut_312_173 rfl rfl) (fun q D =>
          j_aldn (pc := 164) D rfl rfl rfl fun D =>
          j_ic (pc := 165) D rfl fun D =>
          j_iv (pc := 166) (m := 310) (dd := 112) (a := [(0, 2)]) (rest := []) D rfl rfl rfl rfl rfl (by decide) (s0_303 H) (by decide +kernel) (fun v6 h5 e1 D =>
            have T := fj_run_ok _ _ _ _ _ _ H.1 e1
            have H := shp_st H T
            j_at (pc := 169) D gn <|
            j_ta (fk_at (cu := none) (by decide +kernel) rfl) (s := 105) (e := 220) (hp := 309) (by decide +kernel) <|
            fk_jump cut_312_309 rfl rfl) (fun q7 h5 e1 =>
            j_ta (fk_at (cu := none) (by decide +kernel) rfl) (s := 105) (e := 220) (hp := 309) (by decide +kernel) <|
            fk_jump cut_312_309 rfl rfl)))) (fun m4 q3 h1 e1 =>
      j_ta (fk_at (cu := none) (by decide +kernel) rfl) (s := 105) (e := 220) (hp := 309) (by decide +kernel) <|
      fk_jump cut_312_309 rfl rfl)
theorem e_312_173 (d : Nat) (x1 x2 x3 x4 x5 x6 x7 x8 x9 : Int) {h : fi_H} (H : Shp h) : c_312_173 d x1 x2 x3 x4 x5 x6 x7 x8 x9 h =
  if h 0 x1.toNat 0 = 120 then
  if h 0 (h 203 x1.toNat 0).toNat 0 = 9 ∧ 0 ≤ x9 ∧ x9 < h 1 (h 203 x1.toNat 0).toNat 0 then
  c_312_119 d x1 x2 x3 x4 x5 x6 x7 x8 (h 9 (h 203 x1.toNat 0).toNat x9.toNat) h
  else none
  else none := by
  unfold c_312_173
  exact
    have D : fk_D 312 [(173, some [0, 1, 2, 3, 4, 5, 6, 7, 8, 9], .aload_n 1, 1, 0, 0, 0), (174, none, .getfield 371, 3, 203, (-120), 12), (177, none, .iload 9, 2, 0, 0, 0), (179, none, .saload, 1, 0, 0, 0), (180, none, .istore 9, 2, 0, 0, 0), (182, none, .goto (-63), 3, 119, 0, 0)] := fq_of2 cd_312 ow_312 cl_312 rfl (pc := 173) (by decide +kernel)
    j_aldn (pc := 173) D rfl rfl rfl fun D =>
    j_gfo (pc := 174) H.2.1 D rfl rfl rfl rfl fun kc1 D =>
    j_ild (pc := 177) D rfl rfl rfl fun D =>
    j_alp (pc := 179) (e := 9) H.2.1 D rfl rfl ⟨rfl, rfl, rfl⟩ rfl fun q q2 D =>
    j_ist (pc := 180) (L' := [(9, (0, h 9 (h 203 x1.toNat 0).toNat x9.toNat)), (0, (4, 303)), (1, (4, x1)), (2, (4, x2)), (3, (0, x3)), (4, (0, x4)), (5, (4, x5)), (6, (4, x6)), (7, (0, x7)), (8, (0, x8))]) D rfl nl_312 rfl rfl fun D =>
    j_goto (pc := 182) D rfl <|
    fk_jump cut_312_119 rfl rfl
theorem e_312_229 (d : Nat) (x2 x3 x5 x6 x7 x8 : Int) {h : fi_H} (H : Shp h) : c_312_229 d x2 x3 x5 x6 x7 x8 h =
  if h 0 x2.toNat 0 = 117 then
  dv_ (fi_vt 136 (h 0 (h 140 x2.toNat 0).toNat 0)) fun m5 => cv_ (fj_run d m5 h [(4, h 140 x2.toNat 0), (0, x3)])
    (fun h2 =>
    if h2 0 x6.toNat 0 = 124 then
    if h2 325 x6.toNat 0 = 10 then
      c_312_275 d x3 x5 x6 x7 x8 h2
    else
      if 0 ≤ x3 ∧ x3 < 700 then
      dv_ (fi_vt 125 (h2 0 (h2 325 x6.toNat 0).toNat 0)) fun m11 => ca_ (fj_run d m11 h2 [(4, h2 325 x6.toNat 0), (1, h2 11 315 x3.toNat), (1, h2 326 x6.toNat 0)]) 1
        (fun v9 h8 =>
        cv_ (fj_run d 347 h8 [(4, 303), (0, x3), (1, v9)])
          (fun h12 =>
          c_312_275 d x3 x5 x6 x7 x8 h12)
          (fun q14 h12 => ta_ q14 h12 (c_312_309 d x5 (q14 : Int) h12)))
        (fun q10 h8 => ta_ q10 h8 (c_312_309 d x5 (q10 : Int) h8))
      else none
    else none)
    (fun q4 h2 => ta_ q4 h2 (c_312_309 d x5 (q4 : Int) h2))
  else none := by
  unfold c_312_229
  exact
    have D : fk_D 312 [(229, some [0, 2, 3, 5, 6, 7, 8], .aload_n 2, 1, 0, 0, 0), (230, none, .getfield 402, 3, 140, (-117), 12), (233, none, .iload_n 3, 1, 0, 0, 0), (234, none, .invokevirtual 397, 3, 1, 136, 0), (237, none, .aload 6, 2, 0, 0, 0), (239, none, .getfield 405, 3, 325, (-124), 12), (242, none, .getstatic 409, 3, 4, 10, 0), (245, none, .if_acmp .eq 30, 3, 275, 0, 0), (248, none, .aload_n 0, 1, 0, 0, 0), (249, none, .iload_n 3, 1, 0, 0, 0), (250, none, .aload 6, 2, 0, 0, 0), (252, none, .getfield 405, 3, 325, 124, 12), (255, none, .aload_n 0, 1, 0, 0, 0), (256, none, .getfield 113, 3, 213, 100, 12), (259, none, .getfield 66, 3, 119, 119, 12), (262, none, .iload_n 3, 1, 0, 0, 0), (263, none, .laload, 1, 0, 0, 0), (264, none, .aload 6, 2, 0, 0, 0), (266, none, .getfield 412, 3, 326, 124, 11), (269, none, .invokevirtual 203, 3, 2, 125, 2)] := fq_of2 cd_312 ow_312 cl_312 rfl (pc := 229) (by decide +kernel)
    j_aldn (pc := 229) D rfl rfl rfl fun D =>
    j_gfo (pc := 230) H.2.1 D rfl rfl rfl rfl fun kc1 D =>
    j_ildn (pc := 233) D rfl rfl rfl fun D =>
    j_ivuv (pc := 234) (dd := 136) (a := [(0, x3)]) (rest := []) H.2.1 D rfl rfl rfl rfl rfl (fun m5 h2 e1 D =>
      have T := fj_run_ok _ _ _ _ _ _ H.1 e1
      have kc1 := cls_st H.1 T.2 kc1 (by decide)
      have H := shp_st H T
      j_ald (pc := 237) D rfl rfl rfl fun D =>
      j_gfo (pc := 239) H.2.1 D rfl rfl rfl rfl fun kc6 D =>
      j_gs (pc := 242) D rfl fun D =>
      j_aeq (pc := 245) D rfl (fun q =>
        fk_jump cut_312_275 rfl rfl) (fun q D =>
        j_aldn (pc := 248) D rfl rfl rfl fun D =>
        j_ildn (pc := 249) D rfl rfl rfl fun D =>
        j_ald (pc := 250) D rfl rfl rfl fun D =>
        j_gf (pc := 252) (a := x6.toNat) D rfl rfl (nz_cls H.2.1 kc6 (by decide)) rfl kc6 rfl fun D =>
        j_aldn (pc := 255) D rfl rfl rfl fun D =>
        j_gfc (pc := 256) (a := 303) D rfl rfl (by decide) rfl (s0_303 H) rfl (sf_213_303 H) fun D =>
        j_gfc (pc := 259) (a := 309) D rfl rfl (by decide) rfl (s0_309 H) rfl (sf_119_309 H) fun D =>
        j_ildn (pc := 262) D rfl rfl rfl fun D =>
        j_al (pc := 263) (a := 315) (e := 11) D rfl rfl rfl (by decide) (s0_315 H) (s1_315 H) ⟨rfl, rfl, rfl⟩ rfl gn fun qb7 D =>
        j_ald (pc := 264) D rfl rfl rfl fun D =>
        j_gf (pc := 266) (a := x6.toNat) D rfl rfl (nz_cls H.2.1 kc6 (by decide)) rfl kc6 rfl fun D =>
        j_ivu (pc := 269) (dd := 125) (a := [(1, h2 11 315 x3.toNat), (1, h2 326 x6.toNat 0)]) (rest := [(0, x3), (4, 303)]) H.2.1 D rfl rfl rfl rfl rfl (fun m11 v9 h8 e1 D =>
          have T := fj_run_ok _ _ _ _ _ _ H.1 e1
          have kc1 := cls_st H.1 T.2 kc1 (by decide)
          have kc6 := cls_st H.1 T.2 kc6 (by decide)
          have H := shp_st H T
          have D : fk_D 312 [(272, none, .invokevirtual 155, 3, 2, 116, 0)] := fq_of2 cd_312 ow_312 cl_312 rfl (pc := 272) (by decide +kernel)
          j_ivv (pc := 272) (m := 347) (dd := 116) (a := [(0, x3), (1, v9)]) (rest := []) D rfl rfl rfl rfl rfl (by decide) (s0_303 H) (by decide +kernel) (fun h12 e1 D =>
            have T := fj_run_ok _ _ _ _ _ _ H.1 e1
            have kc1 := cls_st H.1 T.2 kc1 (by decide)
            have kc6 := cls_st H.1 T.2 kc6 (by decide)
            have H := shp_st H T
            fk_jump cut_312_275 rfl rfl) (fun q14 h12 e1 =>
            j_ta (fk_at (cu := none) (by decide +kernel) rfl) (s := 229) (e := 300) (hp := 309) (by decide +kernel) <|
            fk_jump cut_312_309 rfl rfl)) (fun m11 q10 h8 e1 =>
          j_ta (fk_at (cu := none) (by decide +kernel) rfl) (s := 229) (e := 300) (hp := 309) (by decide +kernel) <|
          fk_jump cut_312_309 rfl rfl))) (fun m5 q4 h2 e1 =>
      j_ta (fk_at (cu := none) (by decide +kernel) rfl) (s := 229) (e := 300) (hp := 309) (by decide +kernel) <|
      fk_jump cut_312_309 rfl rfl)
theorem e_312_275 (d : Nat) (x3 x5 x6 x7 x8 : Int) {h : fi_H} (H : Shp h) : c_312_275 d x3 x5 x6 x7 x8 h =
  if x8 = 0 then
    c_312_288 d x3 x5 x6 303 x7 1 h
  else
    c_312_288 d x3 x5 x6 303 x7 2 h := by
  unfold c_312_275
  exact
    have D : fk_D 312 [(275, some [0, 3, 5, 6, 7, 8], .aload_n 0, 1, 0, 0, 0), (276, none, .iload 7, 2, 0, 0, 0), (278, none, .iload 8, 2, 0, 0, 0), (280, none, .ifCond .eq 7, 3, 287, 0, 0), (283, none, .iconst 2, 1, 0, 2, 0), (284, none, .goto 4, 3, 288, 0, 0)] := fq_of2 cd_312 ow_312 cl_312 rfl (pc := 275) (by decide +kernel)
    j_aldn (pc := 275) D rfl rfl rfl fun D =>
    j_ild (pc := 276) D rfl rfl rfl fun D =>
    j_ild (pc := 278) D rfl rfl rfl fun D =>
    j_ifeq (pc := 280) D rfl (fun q =>
      have D : fk_D 312 [(287, none, .iconst 1, 1, 0, 1, 0)] := fq_of2 cd_312 ow_312 cl_312 rfl (pc := 287) (by decide +kernel)
      j_ic (pc := 287) D rfl fun D =>
      fk_jump cut_312_288 rfl rfl) (fun q D =>
      j_ic (pc := 283) D rfl fun D =>
      j_goto (pc := 284) D rfl <|
      fk_jump cut_312_288 rfl rfl)
theorem e_312_288 (d : Nat) (x3 x5 x6 s0 s1 s2 : Int) {h : fi_H} (H : Shp h) : c_312_288 d x3 x5 x6 s0 s1 s2 h =
  if h 0 x6.toNat 0 = 124 then
  dv_ (fi_vt 132 (h 0 s0.toNat 0)) fun m5 => cv_ (fj_run d m5 h [(4, s0), (0, s1), (0, s2), (0, x3), (4, h 324 x6.toNat 0)])
    (fun h2 =>
    lt_ (fi_upd h2 250 303 0 x5) fun h6 =>
    some (.inl (some (0, 1)), h6))
    (fun q4 h2 => ta_ q4 h2 (c_312_309 d x5 (q4 : Int) h2))
  else none := by
  unfold c_312_288
  exact
    have D : fk_D 312 [(288, some [0, 3, 5, 6], .iload_n 3, 1, 0, 0, 0), (289, none, .aload 6, 2, 0, 0, 0), (291, none, .getfield 283, 3, 324, (-124), 12), (294, none, .invokevirtual 303, 3, 4, 132, 0), (297, none, .iconst 1, 1, 0, 1, 0), (298, none, .istore 9, 2, 0, 0, 0), (300, none, .aload_n 0, 1, 0, 0, 0), (301, none, .aload 5, 2, 0, 0, 0), (303, none, .putfield 326, 3, 250, 100, 12), (306, none, .iload 9, 2, 0, 0, 0), (308, none, .ireturn, 1, 0, 0, 0)] := fq_of2 cd_312 ow_312 cl_312 rfl (pc := 288) (by decide +kernel)
    j_ildn (pc := 288) D rfl rfl rfl fun D =>
    j_ald (pc := 289) D rfl rfl rfl fun D =>
    j_gfo (pc := 291) H.2.1 D rfl rfl rfl rfl fun kc1 D =>
    j_ivuv (pc := 294) (dd := 132) (a := [(0, s1), (0, s2), (0, x3), (4, h 324 x6.toNat 0)]) (rest := []) H.2.1 D rfl rfl rfl rfl rfl (fun m5 h2 e1 D =>
      have T := fj_run_ok _ _ _ _ _ _ H.1 e1
      have kc1 := cls_st H.1 T.2 kc1 (by decide)
      have H := shp_st H T
      j_ic (pc := 297) D rfl fun D =>
      j_ist (pc := 298) (L' := [(9, (0, 1)), (0, (4, 303)), (3, (0, x3)), (5, (4, x5)), (6, (4, x6))]) D rfl nl_312 rfl rfl fun D =>
      j_aldn (pc := 300) D rfl rfl rfl fun D =>
      j_ald (pc := 301) D rfl rfl rfl fun D =>
      j_pf (pc := 303) (a := 303) D rfl rfl rfl (s0_303 H) rfl rfl (gy (by decide)) (gy rfl) fun h6 eh6 S D =>
      have T := fj_hs_ok H.1 S
      have kc1 := cls_st H.1 T.2 kc1 (by decide)
      have H := shp_st H T
      j_ild (pc := 306) D rfl rfl rfl fun D =>
      j_zret D rt_312 (gy (by decide))) (fun m5 q4 h2 e1 =>
      j_ta (fk_at (cu := none) (by decide +kernel) rfl) (s := 229) (e := 300) (hp := 309) (by decide +kernel) <|
      fk_jump cut_312_309 rfl rfl)
theorem e_312_309 (d : Nat) (x5 s0 : Int) {h : fi_H} (H : Shp h) : c_312_309 d x5 s0 h =
  lt_ (fi_upd h 250 303 0 x5) fun h1 =>
  if s0 ≠ 0 then
  tx_ s0.toNat h1
  else none := by
  unfold c_312_309
  exact
    have D : fk_D 312 [(309, some [0, 5], .astore 10, 2, 0, 0, 0), (311, none, .aload_n 0, 1, 0, 0, 0), (312, none, .aload 5, 2, 0, 0, 0), (314, none, .putfield 326, 3, 250, 100, 12), (317, none, .aload 10, 2, 0, 0, 0), (319, none, .athrow, 1, 0, 0, 0)] := fq_of2 cd_312 ow_312 cl_312 rfl (pc := 309) (by decide +kernel)
    j_ast (pc := 309) (L' := [(10, (4, s0)), (0, (4, 303)), (5, (4, x5))]) D rfl nl_312 rfl rfl fun D =>
    j_aldn (pc := 311) D rfl rfl rfl fun D =>
    j_ald (pc := 312) D rfl rfl rfl fun D =>
    j_pf (pc := 314) (a := 303) D rfl rfl rfl (s0_303 H) rfl rfl (gy (by decide)) (gy rfl) fun h1 eh1 S D =>
    have T := fj_hs_ok H.1 S
    have H := shp_st H T
    j_ald (pc := 317) D rfl rfl rfl fun D =>
    j_at (pc := 319) D gn <|
    j_tx (by decide +kernel)
theorem m_312 (d : Nat) (x1 x2 x3 x4 : Int) {h : fi_H} (H : Shp h) : fj_run (d + 1) 312 h [(4, 303), (4, x1), (4, x2), (0, x3), (0, x4)] =
  if 6 < x4 then
    ca_ (fj_run d 310 h [(4, 303), (0, 4)]) 4
      (fun v2 h1 =>
      if v2 ≠ 0 then
      tx_ v2.toNat h1
      else none)
      (fun q3 h1 => tx_ q3 h1)
  else
    cv_ (fj_run d 313 h [(4, 303)])
      (fun h4 =>
      lt_ (fi_upd h4 250 303 0 x2) fun h7 =>
      if h7 0 x2.toNat 0 = 117 then
      if 0 ≤ h7 137 x2.toNat 0 ∧ h7 137 x2.toNat 0 < 40 then
      if 0 ≤ wI ((h7 249 303 0) - 1) ∧ wI ((h7 249 303 0) - 1) < 12 then
      ca_ (fj_run d 311 h7 [(4, 303), (0, 2), (0, h7 137 x2.toNat 0), (0, h7 8 361 (wI ((h7 249 303 0) - 1)).toNat), (0, h7 5 362 (wI ((h7 249 303 0) - 1)).toNat), (0, h7 249 303 0)]) 0
        (fun v12 h11 =>
        c_312_76 d x1 x2 x3 x4 (h4 250 303 0) (h7 12 320 (h7 137 x2.toNat 0).toNat) v12 h11)
        (fun q13 h11 => tx_ q13 h11)
      else none
      else none
      else none)
      (fun q6 h4 => tx_ q6 h4) := by
  rw [fj_run_eq d (by decide) h [(4, 303), (4, x1), (4, x2), (0, x3), (0, x4)] (Nat.le_of_ble_eq_true (by rw [nl_312]; rfl))]
  show gG (fj_run d) 312 0 [(0, (4, 303)), (1, (4, x1)), (2, (4, x2)), (3, (0, x3)), (4, (0, x4))] [] h = _
  exact
    have D : fk_D 312 [(0, none, .iload 4, 2, 0, 0, 0), (2, none, .bipush 6, 2, 0, 6, 0), (4, none, .if_icmp .le 9, 3, 13, 0, 0), (7, none, .aload_n 0, 1, 0, 0, 0), (8, none, .iconst 4, 1, 0, 4, 0), (9, none, .invokevirtual 109, 3, 1, 112, 5), (12, none, .athrow, 1, 0, 0, 0)] := fq_of2 cd_312 ow_312 cl_312 rfl (pc := 0) (by decide +kernel)
    j_ild (pc := 0) D rfl rfl rfl fun D =>
    j_bp (pc := 2) D rfl fun D =>
    j_ile (pc := 4) D rfl (fun q D =>
      j_aldn (pc := 7) D rfl rfl rfl fun D =>
      j_ic (pc := 8) D rfl fun D =>
      j_iv (pc := 9) (m := 310) (dd := 112) (a := [(0, 4)]) (rest := []) D rfl rfl rfl rfl rfl (by decide) (s0_303 H) (by decide +kernel) (fun v2 h1 e1 D =>
        have T := fj_run_ok _ _ _ _ _ _ H.1 e1
        have H := shp_st H T
        j_at (pc := 12) D gn <|
        j_tx (by decide +kernel)) (fun q3 h1 e1 =>
        j_tx (by decide +kernel))) (fun q =>
      have D : fk_D 312 [(13, none, .aload_n 0, 1, 0, 0, 0), (14, none, .invokevirtual 374, 3, 0, 135, 0), (17, none, .aload_n 0, 1, 0, 0, 0), (18, none, .getfield 326, 3, 250, 100, 12), (21, none, .astore 5, 2, 0, 0, 0), (23, none, .aload_n 0, 1, 0, 0, 0), (24, none, .aload_n 2, 1, 0, 0, 0), (25, none, .putfield 326, 3, 250, 100, 12), (28, none, .aload_n 0, 1, 0, 0, 0), (29, none, .getfield 255, 3, 214, 100, 12), (32, none, .aload_n 2, 1, 0, 0, 0), (33, none, .getfield 378, 3, 137, (-117), 10), (36, none, .aaload, 1, 0, 0, 0), (37, none, .astore 6, 2, 0, 0, 0), (39, none, .aload_n 0, 1, 0, 0, 0), (40, none, .iconst 2, 1, 0, 2, 0), (41, none, .aload_n 2, 1, 0, 0, 0), (42, none, .getfield 378, 3, 137, 117, 10), (45, none, .aload_n 0, 1, 0, 0, 0), (46, none, .getfield 320, 3, 246, 100, 12)] := fq_of2 cd_312 ow_312 cl_312 rfl (pc := 13) (by decide +kernel)
      j_aldn (pc := 13) D rfl rfl rfl fun D =>
      j_ivv (pc := 14) (m := 313) (dd := 135) (a := []) (rest := []) D rfl rfl rfl rfl rfl (by decide) (s0_303 H) (by decide +kernel) (fun h4 e1 D =>
        have T := fj_run_ok _ _ _ _ _ _ H.1 e1
        have H := shp_st H T
        j_aldn (pc := 17) D rfl rfl rfl fun D =>
        j_gf (pc := 18) (a := 303) D rfl rfl (by decide) rfl (s0_303 H) rfl fun D =>
        j_ast (pc := 21) (L' := [(5, (4, h4 250 303 0)), (0, (4, 303)), (1, (4, x1)), (2, (4, x2)), (3, (0, x3)), (4, (0, x4))]) D rfl nl_312 rfl rfl fun D =>
        j_aldn (pc := 23) D rfl rfl rfl fun D =>
        j_aldn (pc := 24) D rfl rfl rfl fun D =>
        j_pf (pc := 25) (a := 303) D rfl rfl rfl (s0_303 H) rfl rfl (gy (by decide)) (gy rfl) fun h7 eh7 S D =>
        have T := fj_hs_ok H.1 S
        have H := shp_st H T
        j_aldn (pc := 28) D rfl rfl rfl fun D =>
        j_gfc (pc := 29) (a := 303) D rfl rfl (by decide) rfl (s0_303 H) rfl (sf_214_303 H) fun D =>
        j_aldn (pc := 32) D rfl rfl rfl fun D =>
        j_gfo (pc := 33) H.2.1 D rfl rfl rfl rfl fun kc8 D =>
        j_al (pc := 36) (a := 320) (e := 12) D rfl rfl rfl (by decide) (s0_320 H) (s1_320 H) ⟨rfl, rfl, rfl⟩ rfl gn fun qb9 D =>
        j_ast (pc := 37) (L' := [(6, (4, h7 12 320 (h7 137 x2.toNat 0).toNat)), (5, (4, h4 250 303 0)), (0, (4, 303)), (1, (4, x1)), (2, (4, x2)), (3, (0, x3)), (4, (0, x4))]) D rfl nl_312 rfl rfl fun D =>
        j_aldn (pc := 39) D rfl rfl rfl fun D =>
        j_ic (pc := 40) D rfl fun D =>
        j_aldn (pc := 41) D rfl rfl rfl fun D =>
        j_gf (pc := 42) (a := x2.toNat) D rfl rfl (nz_cls H.2.1 kc8 (by decide)) rfl kc8 rfl fun D =>
        j_aldn (pc := 45) D rfl rfl rfl fun D =>
        j_gfc (pc := 46) (a := 303) D rfl rfl (by decide) rfl (s0_303 H) rfl (sf_246_303 H) fun D =>
        have D : fk_D 312 [(49, none, .aload_n 0, 1, 0, 0, 0), (50, none, .getfield 276, 3, 249, 100, 10), (53, none, .iconst 1, 1, 0, 1, 0), (54, none, .isub, 1, 0, 0, 0), (55, none, .baload, 1, 0, 0, 0), (56, none, .aload_n 0, 1, 0, 0, 0), (57, none, .getfield 323, 3, 247, 100, 12), (60, none, .aload_n 0, 1, 0, 0, 0), (61, none, .getfield 276, 3, 249, 100, 10), (64, none, .iconst 1, 1, 0, 1, 0), (65, none, .isub, 1, 0, 0, 0), (66, none, .caload, 1, 0, 0, 0), (67, none, .aload_n 0, 1, 0, 0, 0), (68, none, .getfield 276, 3, 249, 100, 10), (71, none, .invokevirtual 279, 3, 5, 130, 1), (74, none, .istore 7, 2, 0, 0, 0)] := fq_of2 cd_312 ow_312 cl_312 rfl (pc := 49) (by decide +kernel)
        j_aldn (pc := 49) D rfl rfl rfl fun D =>
        j_gf (pc := 50) (a := 303) D rfl rfl (by decide) rfl (s0_303 H) rfl fun D =>
        j_ic (pc := 53) D rfl fun D =>
        j_isub (pc := 54) D rfl fun D =>
        j_al (pc := 55) (a := 361) (e := 8) D rfl rfl rfl (by decide) (s0_361 H) (s1_361 H) ⟨rfl, rfl, rfl⟩ rfl gn fun qb10 D =>
        j_aldn (pc := 56) D rfl rfl rfl fun D =>
        j_gfc (pc := 57) (a := 303) D rfl rfl (by decide) rfl (s0_303 H) rfl (sf_247_303 H) fun D =>
        j_aldn (pc := 60) D rfl rfl rfl fun D =>
        j_gf (pc := 61) (a := 303) D rfl rfl (by decide) rfl (s0_303 H) rfl fun D =>
        j_ic (pc := 64) D rfl fun D =>
        j_isub (pc := 65) D rfl fun D =>
        j_al (pc := 66) (a := 362) (e := 5) D rfl rfl rfl (by decide) (s0_362 H) (s1_362 H) ⟨rfl, rfl, rfl⟩ rfl (gy qb10) fun q D =>
        j_aldn (pc := 67) D rfl rfl rfl fun D =>
        j_gf (pc := 68) (a := 303) D rfl rfl (by decide) rfl (s0_303 H) rfl fun D =>
        j_iv (pc := 71) (m := 311) (dd := 130) (a := [(0, 2), (0, h7 137 x2.toNat 0), (0, h7 8 361 (wI ((h7 249 303 0) - 1)).toNat), (0, h7 5 362 (wI ((h7 249 303 0) - 1)).toNat), (0, h7 249 303 0)]) (rest := []) D rfl rfl rfl rfl rfl (by decide) (s0_303 H) (by decide +kernel) (fun v12 h11 e1 D =>
          have T := fj_run_ok _ _ _ _ _ _ H.1 e1
          have kc8 := cls_st H.1 T.2 kc8 (by decide)
          have H := shp_st H T
          j_ist (pc := 74) (L' := [(7, (0, v12)), (6, (4, h7 12 320 (h7 137 x2.toNat 0).toNat)), (5, (4, h4 250 303 0)), (0, (4, 303)), (1, (4, x1)), (2, (4, x2)), (3, (0, x3)), (4, (0, x4))]) D rfl nl_312 rfl rfl fun D =>
          fk_jump cut_312_76 rfl rfl) (fun q13 h11 e1 =>
          j_tx (by decide +kernel))) (fun q6 h4 e1 =>
        j_tx (by decide +kernel)))
/-! 313 StatuteHouse.step()V -/
theorem cd_313 : fi_code 313 = prog_1_method_33_code := rfl
theorem hx_313 : ∀ pc, fi_hat 313 pc = none := fun pc => by unfold fi_hat; rw [show fi_hh 313 = [] from rfl]; rfl
theorem rt_313 : fi_ret 313 = none := rfl
theorem nl_313 : fi_nl 313 = 1 := rfl
theorem ow_313 : fi_ow 313 = 0 := rfl
theorem cl_313 : fj_cutT.getD 313 [] = [] := rfl
theorem m_313 (d : Nat) {h : fi_H} (H : Shp h) : fj_run (d + 1) 313 h [(4, 303)] =
  if h 244 303 0 = 10000 then
    ca_ (fj_run d 310 h [(4, 303), (0, 5)]) 4
      (fun v2 h1 =>
      if v2 ≠ 0 then
      tx_ v2.toNat h1
      else none)
      (fun q3 h1 => tx_ q3 h1)
  else
    lt_ (fi_upd h 244 303 0 (wI ((h 244 303 0) + 1))) fun h4 =>
    some (.inl none, h4) := by
  rw [fj_run_eq d (by decide) h [(4, 303)] (Nat.le_of_ble_eq_true (by rw [nl_313]; rfl))]
  show gG (fj_run d) 313 0 [(0, (4, 303))] [] h = _
  exact
    have D : fk_D 313 [(0, none, .aload_n 0, 1, 0, 0, 0), (1, none, .getfield 338, 3, 244, 100, 10), (4, none, .sipush 10000, 3, 0, 10000, 0), (7, none, .if_icmp .ne 9, 3, 16, 0, 0), (10, none, .aload_n 0, 1, 0, 0, 0), (11, none, .iconst 5, 1, 0, 5, 0), (12, none, .invokevirtual 109, 3, 1, 112, 5), (15, none, .athrow, 1, 0, 0, 0)] := fq_of2 cd_313 ow_313 cl_313 rfl (pc := 0) (by decide +kernel)
    j_aldn (pc := 0) D rfl rfl rfl fun D =>
    j_gf (pc := 1) (a := 303) D rfl rfl (by decide) rfl (s0_303 H) rfl fun D =>
    j_sp (pc := 4) D rfl fun D =>
    j_ine (pc := 7) D rfl (fun q D =>
      j_aldn (pc := 10) D rfl rfl rfl fun D =>
      j_ic (pc := 11) D rfl fun D =>
      j_iv (pc := 12) (m := 310) (dd := 112) (a := [(0, 5)]) (rest := []) D rfl rfl rfl rfl rfl (by decide) (s0_303 H) (by decide +kernel) (fun v2 h1 e1 D =>
        have T := fj_run_ok _ _ _ _ _ _ H.1 e1
        have H := shp_st H T
        j_at (pc := 15) D gn <|
        j_tx (hx_313 _)) (fun q3 h1 e1 =>
        j_tx (hx_313 _))) (fun q =>
      have D : fk_D 313 [(16, none, .aload_n 0, 1, 0, 0, 0), (17, none, .dup, 1, 0, 0, 0), (18, none, .getfield 338, 3, 244, 100, 10), (21, none, .iconst 1, 1, 0, 1, 0), (22, none, .iadd, 1, 0, 0, 0), (23, none, .putfield 338, 3, 244, 100, 10), (26, none, .return_, 1, 0, 0, 0)] := fq_of2 cd_313 ow_313 cl_313 rfl (pc := 16) (by decide +kernel)
      j_aldn (pc := 16) D rfl rfl rfl fun D =>
      j_sh (pc := 17) D rfl rfl rfl fun D =>
      j_gf (pc := 18) (a := 303) D rfl rfl (by decide) rfl (s0_303 H) rfl fun D =>
      j_ic (pc := 21) D rfl fun D =>
      j_iadd (pc := 22) D rfl fun D =>
      j_pf (pc := 23) (a := 303) D rfl rfl rfl (s0_303 H) rfl rfl (gy (by decide)) (gy rfl) fun h4 eh4 S D =>
      have T := fj_hs_ok H.1 S
      have H := shp_st H T
      j_vret D rt_313)
/-! 314 StatuteHouse$Call.work(I)V -/
theorem cd_314 : fi_code 314 = prog_4_method_2_code := rfl
theorem hx_314 : ∀ pc, fi_hat 314 pc = none := fun pc => by unfold fi_hat; rw [show fi_hh 314 = [] from rfl]; rfl
theorem rt_314 : fi_ret 314 = none := rfl
theorem nl_314 : fi_nl 314 = 3 := rfl
theorem ow_314 : fi_ow 314 = 2 := rfl
theorem cl_314 : fj_cutT.getD 314 [] = [(51, [1]), (59, [0, 1, 2])] := rfl
theorem cut_314_51 : fj_cut 314 51 = some [1] := by decide +kernel
noncomputable def c_314_51 (d : Nat) (x1 s0 s1 : Int) (h : fi_H) : fk_R := gG (fj_run d) 314 51 [(1, (0, x1))] [(0, s1), (4, s0)] h
theorem cut_314_59 : fj_cut 314 59 = some [0, 1, 2] := by decide +kernel
noncomputable def c_314_59 (d : Nat) (x0 x1 x2 : Int) (h : fi_H) : fk_R := gG (fj_run d) 314 59 [(0, (4, x0)), (1, (0, x1)), (2, (0, x2))] [] h
theorem e_314_51 (d : Nat) (x1 s0 s1 : Int) {h : fi_H} (H : Shp h) : c_314_51 d x1 s0 s1 h =
  if (20 ≤ h 0 s0.toNat 0 ∧ h 0 s0.toNat 0 < 30) ∧ 0 ≤ s1 ∧ s1 < h 1 s0.toNat 0 then
  dv_ (fi_vt 136 (h 0 (h 12 s0.toNat s1.toNat).toNat 0)) fun m4 => cv_ (fj_run d m4 h [(4, h 12 s0.toNat s1.toNat), (0, x1)])
    (fun h1 =>
    some (.inl none, h1))
    (fun q3 h1 => tx_ q3 h1)
  else none := by
  unfold c_314_51
  exact
    have D : fk_D 314 [(51, some [1], .aaload, 1, 0, 0, 0), (52, none, .iload_n 1, 1, 0, 0, 0), (53, none, .invokevirtual 36, 3, 1, 136, 0), (56, none, .return_, 1, 0, 0, 0)] := fq_of2 cd_314 ow_314 cl_314 rfl (pc := 51) (by decide +kernel)
    j_alr (pc := 51) H.2.1 D rfl rfl fun q q2 D =>
    j_ildn (pc := 52) D rfl rfl rfl fun D =>
    j_ivuv (pc := 53) (dd := 136) (a := [(0, x1)]) (rest := []) H.2.1 D rfl rfl rfl rfl rfl (fun m4 h1 e1 D =>
      have T := fj_run_ok _ _ _ _ _ _ H.1 e1
      have H := shp_st H T
      j_vret D rt_314) (fun m4 q3 h1 e1 =>
      j_tx (hx_314 _))
theorem e_314_59 (d : Nat) (x0 x1 x2 : Int) {h : fi_H} (H : Shp h) (hk : h 0 x0.toNat 0 = 102) (ht363 : h 363 x0.toNat 0 = 303) : c_314_59 d x0 x1 x2 h =
  if fk_isA (h 0 (h 362 x0.toNat 0).toNat 0) = true then
  if x2 < h 1 (h 362 x0.toNat 0).toNat 0 then
    if (20 ≤ h 0 (h 362 x0.toNat 0).toNat 0 ∧ h 0 (h 362 x0.toNat 0).toNat 0 < 30) ∧ 0 ≤ x2 ∧ x2 < h 1 (h 362 x0.toNat 0).toNat 0 then
    dv_ (fi_vt 136 (h 0 (h 12 (h 362 x0.toNat 0).toNat x2.toNat).toNat 0)) fun m4 => cv_ (fj_run d m4 h [(4, h 12 (h 362 x0.toNat 0).toNat x2.toNat), (0, wI (x1 + x2))])
      (fun h1 =>
      c_314_59 d x0 x1 (wI (x2 + 1)) h1)
      (fun q3 h1 => tx_ q3 h1)
    else none
  else
    if (20 ≤ h 0 (h 362 x0.toNat 0).toNat 0 ∧ h 0 (h 362 x0.toNat 0).toNat 0 < 30) ∧ 0 ≤ (0 : Int) ∧ 0 < h 1 (h 362 x0.toNat 0).toNat 0 then
    if fi_in (h 0 (h 12 (h 362 x0.toNat 0).toNat 0).toNat 0) 340 = true then
    dv_ (fi_vt 211 (h 0 (h 361 x0.toNat 0).toNat 0)) fun m8 => cv_ (fj_run d m8 h [(4, h 361 x0.toNat 0), (4, 303), (0, x1), (4, h 340 (h 12 (h 362 x0.toNat 0).toNat 0).toNat 0)])
      (fun h5 =>
      some (.inl none, h5))
      (fun q7 h5 => tx_ q7 h5)
    else none
    else none
  else none := by
  unfold c_314_59
  exact
    have D : fk_D 314 [(59, some [0, 1, 2], .iload_n 2, 1, 0, 0, 0), (60, none, .aload_n 0, 1, 0, 0, 0), (61, none, .getfield 23, 3, 362, 102, 12), (64, none, .arraylength, 1, 0, 0, 0), (65, none, .if_icmp .ge 21, 3, 86, 0, 0), (68, none, .aload_n 0, 1, 0, 0, 0), (69, none, .getfield 23, 3, 362, 102, 12), (72, none, .iload_n 2, 1, 0, 0, 0), (73, none, .aaload, 1, 0, 0, 0), (74, none, .iload_n 1, 1, 0, 0, 0), (75, none, .iload_n 2, 1, 0, 0, 0), (76, none, .iadd, 1, 0, 0, 0), (77, none, .invokevirtual 36, 3, 1, 136, 0), (80, none, .iinc 2 1, 3, 0, 1, 0), (83, none, .goto (-24), 3, 59, 0, 0)] := fq_of2 cd_314 ow_314 cl_314 rfl (pc := 59) (by decide +kernel)
    j_ildn (pc := 59) D rfl rfl rfl fun D =>
    j_aldn (pc := 60) D rfl rfl rfl fun D =>
    j_gf (pc := 61) (a := x0.toNat) D rfl rfl (nz_cls H.2.1 hk (by decide)) rfl hk rfl fun D =>
    j_lenu (pc := 64) H.2.1 D rfl fun q D =>
    j_ige (pc := 65) D rfl (fun q D =>
      j_aldn (pc := 68) D rfl rfl rfl fun D =>
      j_gf (pc := 69) (a := x0.toNat) D rfl rfl (nz_cls H.2.1 hk (by decide)) rfl hk rfl fun D =>
      j_ildn (pc := 72) D rfl rfl rfl fun D =>
      j_alr (pc := 73) H.2.1 D rfl rfl fun q q2 D =>
      j_ildn (pc := 74) D rfl rfl rfl fun D =>
      j_ildn (pc := 75) D rfl rfl rfl fun D =>
      j_iadd (pc := 76) D rfl fun D =>
      j_ivuv (pc := 77) (dd := 136) (a := [(0, wI (x1 + x2))]) (rest := []) H.2.1 D rfl rfl rfl rfl rfl (fun m4 h1 e1 D =>
        have T := fj_run_ok _ _ _ _ _ _ H.1 e1
        have ht363 := fin_st H.1 T.2 hk (by decide) (by decide +kernel) ht363 (by decide)
        have hk := cls_st H.1 T.2 hk (by decide)
        have H := shp_st H T
        j_inc (pc := 80) (L' := [(2, (0, wI (x2 + 1))), (0, (4, x0)), (1, (0, x1))]) D rfl rfl rfl (by decide +kernel) rfl fun D =>
        j_goto (pc := 83) D rfl <|
        fk_jump cut_314_59 rfl rfl) (fun m4 q3 h1 e1 =>
        j_tx (hx_314 _))) (fun q =>
      have D : fk_D 314 [(86, none, .aload_n 0, 1, 0, 0, 0), (87, none, .getfield 19, 3, 361, 102, 12), (90, none, .aload_n 0, 1, 0, 0, 0), (91, none, .getfield 1, 3, 363, 102, 12), (94, none, .iload_n 1, 1, 0, 0, 0), (95, none, .aload_n 0, 1, 0, 0, 0), (96, none, .getfield 23, 3, 362, 102, 12), (99, none, .iconst 0, 1, 0, 0, 0), (100, none, .aaload, 1, 0, 0, 0), (101, none, .getfield 50, 3, 340, 0, 12), (104, none, .invokevirtual 54, 3, 3, 211, 0), (107, none, .return_, 1, 0, 0, 0)] := fq_of2 cd_314 ow_314 cl_314 rfl (pc := 86) (by decide +kernel)
      j_aldn (pc := 86) D rfl rfl rfl fun D =>
      j_gf (pc := 87) (a := x0.toNat) D rfl rfl (nz_cls H.2.1 hk (by decide)) rfl hk rfl fun D =>
      j_aldn (pc := 90) D rfl rfl rfl fun D =>
      j_gfc (pc := 91) (a := x0.toNat) D rfl rfl (nz_cls H.2.1 hk (by decide)) rfl hk rfl ht363 fun D =>
      j_ildn (pc := 94) D rfl rfl rfl fun D =>
      j_aldn (pc := 95) D rfl rfl rfl fun D =>
      j_gf (pc := 96) (a := x0.toNat) D rfl rfl (nz_cls H.2.1 hk (by decide)) rfl hk rfl fun D =>
      j_ic (pc := 99) D rfl fun D =>
      j_alr (pc := 100) H.2.1 D rfl rfl fun q q2 D =>
      j_gfu (pc := 101) H.2.1 D rfl rfl fun q D =>
      j_ivuv (pc := 104) (dd := 211) (a := [(4, 303), (0, x1), (4, h 340 (h 12 (h 362 x0.toNat 0).toNat 0).toNat 0)]) (rest := []) H.2.1 D rfl rfl rfl rfl rfl (fun m8 h5 e1 D =>
        have T := fj_run_ok _ _ _ _ _ _ H.1 e1
        have ht363 := fin_st H.1 T.2 hk (by decide) (by decide +kernel) ht363 (by decide)
        have hk := cls_st H.1 T.2 hk (by decide)
        have H := shp_st H T
        j_vret D rt_314) (fun m8 q7 h5 e1 =>
        j_tx (hx_314 _)))
theorem m_314 (d : Nat) (x0 x1 : Int) {h : fi_H} (H : Shp h) (hk : h 0 x0.toNat 0 = 102) (ht363 : h 363 x0.toNat 0 = 303) : fj_run (d + 1) 314 h [(4, x0), (0, x1)] =
  cv_ (fj_run d 313 h [(4, 303)])
    (fun h1 =>
    if h1 361 x0.toNat 0 = 30 then
      if (20 ≤ h1 0 (h1 362 x0.toNat 0).toNat 0 ∧ h1 0 (h1 362 x0.toNat 0).toNat 0 < 30) ∧ 0 ≤ (0 : Int) ∧ 0 < h1 1 (h1 362 x0.toNat 0).toNat 0 then
      dv_ (fi_vt 136 (h1 0 (h1 12 (h1 362 x0.toNat 0).toNat 0).toNat 0)) fun m7 => cv_ (fj_run d m7 h1 [(4, h1 12 (h1 362 x0.toNat 0).toNat 0), (0, x1)])
        (fun h4 =>
        if 0 ≤ x1 ∧ x1 < 700 then
        if h4 4 310 x1.toNat = 0 then
          c_314_51 d x1 (h4 362 x0.toNat 0) 2 h4
        else
          c_314_51 d x1 (h4 362 x0.toNat 0) 1 h4
        else none)
        (fun q6 h4 => tx_ q6 h4)
      else none
    else
      c_314_59 d x0 x1 0 h1)
    (fun q3 h1 => tx_ q3 h1) := by
  rw [fj_run_eq d (by decide) h [(4, x0), (0, x1)] (Nat.le_of_ble_eq_true (by rw [nl_314]; rfl))]
  show gG (fj_run d) 314 0 [(0, (4, x0)), (1, (0, x1))] [] h = _
  exact
    have D : fk_D 314 [(0, none, .aload_n 0, 1, 0, 0, 0), (1, none, .getfield 1, 3, 363, 102, 12), (4, none, .invokevirtual 27, 3, 0, 135, 0), (7, none, .aload_n 0, 1, 0, 0, 0), (8, none, .getfield 19, 3, 361, 102, 12), (11, none, .getstatic 33, 3, 4, 30, 0), (14, none, .if_acmp .ne 43, 3, 57, 0, 0), (17, none, .aload_n 0, 1, 0, 0, 0), (18, none, .getfield 23, 3, 362, 102, 12), (21, none, .iconst 0, 1, 0, 0, 0), (22, none, .aaload, 1, 0, 0, 0), (23, none, .iload_n 1, 1, 0, 0, 0), (24, none, .invokevirtual 36, 3, 1, 136, 0), (27, none, .aload_n 0, 1, 0, 0, 0), (28, none, .getfield 23, 3, 362, 102, 12), (31, none, .aload_n 0, 1, 0, 0, 0), (32, none, .getfield 1, 3, 363, 102, 12), (35, none, .getfield 40, 3, 213, 100, 12), (38, none, .getfield 44, 3, 114, 119, 12), (41, none, .iload_n 1, 1, 0, 0, 0)] := fq_of2 cd_314 ow_314 cl_314 rfl (pc := 0) (by decide +kernel)
    j_aldn (pc := 0) D rfl rfl rfl fun D =>
    j_gfc (pc := 1) (a := x0.toNat) D rfl rfl (nz_cls H.2.1 hk (by decide)) rfl hk rfl ht363 fun D =>
    j_ivv (pc := 4) (m := 313) (dd := 135) (a := []) (rest := []) D rfl rfl rfl rfl rfl (by decide) (s0_303 H) (by decide +kernel) (fun h1 e1 D =>
      have T := fj_run_ok _ _ _ _ _ _ H.1 e1
      have ht363 := fin_st H.1 T.2 hk (by decide) (by decide +kernel) ht363 (by decide)
      have hk := cls_st H.1 T.2 hk (by decide)
      have H := shp_st H T
      j_aldn (pc := 7) D rfl rfl rfl fun D =>
      j_gf (pc := 8) (a := x0.toNat) D rfl rfl (nz_cls H.2.1 hk (by decide)) rfl hk rfl fun D =>
      j_gs (pc := 11) D rfl fun D =>
      j_ane (pc := 14) D rfl (fun q D =>
        j_aldn (pc := 17) D rfl rfl rfl fun D =>
        j_gf (pc := 18) (a := x0.toNat) D rfl rfl (nz_cls H.2.1 hk (by decide)) rfl hk rfl fun D =>
        j_ic (pc := 21) D rfl fun D =>
        j_alr (pc := 22) H.2.1 D rfl rfl fun q q2 D =>
        j_ildn (pc := 23) D rfl rfl rfl fun D =>
        j_ivuv (pc := 24) (dd := 136) (a := [(0, x1)]) (rest := []) H.2.1 D rfl rfl rfl rfl rfl (fun m7 h4 e1 D =>
          have T := fj_run_ok _ _ _ _ _ _ H.1 e1
          have ht363 := fin_st H.1 T.2 hk (by decide) (by decide +kernel) ht363 (by decide)
          have hk := cls_st H.1 T.2 hk (by decide)
          have H := shp_st H T
          j_aldn (pc := 27) D rfl rfl rfl fun D =>
          j_gf (pc := 28) (a := x0.toNat) D rfl rfl (nz_cls H.2.1 hk (by decide)) rfl hk rfl fun D =>
          j_aldn (pc := 31) D rfl rfl rfl fun D =>
          j_gfc (pc := 32) (a := x0.toNat) D rfl rfl (nz_cls H.2.1 hk (by decide)) rfl hk rfl ht363 fun D =>
          j_gfc (pc := 35) (a := 303) D rfl rfl (by decide) rfl (s0_303 H) rfl (sf_213_303 H) fun D =>
          j_gfc (pc := 38) (a := 309) D rfl rfl (by decide) rfl (s0_309 H) rfl (sf_114_309 H) fun D =>
          j_ildn (pc := 41) D rfl rfl rfl fun D =>
          have D : fk_D 314 [(42, none, .baload, 1, 0, 0, 0), (43, none, .ifCond .eq 7, 3, 50, 0, 0), (46, none, .iconst 1, 1, 0, 1, 0), (47, none, .goto 4, 3, 51, 0, 0)] := fq_of2 cd_314 ow_314 cl_314 rfl (pc := 42) (by decide +kernel)
          j_al (pc := 42) (a := 310) (e := 4) D rfl rfl rfl (by decide) (s0_310 H) (s1_310 H) ⟨rfl, rfl, rfl⟩ rfl gn fun qb8 D =>
          j_ifeq (pc := 43) D rfl (fun q =>
            have D : fk_D 314 [(50, none, .iconst 2, 1, 0, 2, 0)] := fq_of2 cd_314 ow_314 cl_314 rfl (pc := 50) (by decide +kernel)
            j_ic (pc := 50) D rfl fun D =>
            fk_jump cut_314_51 rfl rfl) (fun q D =>
            j_ic (pc := 46) D rfl fun D =>
            j_goto (pc := 47) D rfl <|
            fk_jump cut_314_51 rfl rfl)) (fun m7 q6 h4 e1 =>
          j_tx (hx_314 _))) (fun q =>
        have D : fk_D 314 [(57, none, .iconst 0, 1, 0, 0, 0), (58, none, .istore_n 2, 1, 0, 0, 0)] := fq_of2 cd_314 ow_314 cl_314 rfl (pc := 57) (by decide +kernel)
        j_ic (pc := 57) D rfl fun D =>
        j_istn (pc := 58) (L' := [(2, (0, 0)), (0, (4, x0)), (1, (0, x1))]) D rfl nl_314 rfl rfl fun D =>
        fk_jump cut_314_59 rfl rfl)) (fun q3 h1 e1 =>
      j_tx (hx_314 _))
/-! 315 StatuteHouse$Constant.work(I)V -/
theorem cd_315 : fi_code 315 = prog_5_method_2_code := rfl
theorem hx_315 : ∀ pc, fi_hat 315 pc = none := fun pc => by unfold fi_hat; rw [show fi_hh 315 = [] from rfl]; rfl
theorem rt_315 : fi_ret 315 = none := rfl
theorem nl_315 : fi_nl 315 = 2 := rfl
theorem ow_315 : fi_ow 315 = 3 := rfl
theorem cl_315 : fj_cutT.getD 315 [] = [] := rfl
theorem m_315 (d : Nat) (x0 x1 : Int) {h : fi_H} (H : Shp h) (hk : h 0 x0.toNat 0 = 103) (ht339 : h 339 x0.toNat 0 = 303) : fj_run (d + 1) 315 h [(4, x0), (0, x1)] =
  cv_ (fj_run d 313 h [(4, 303)])
    (fun h1 =>
    cv_ (fj_run d 215 h1 [(4, 309), (0, x1), (4, h1 340 x0.toNat 0), (1, h1 337 x0.toNat 0), (1, h1 338 x0.toNat 0)])
      (fun h4 =>
      some (.inl none, h4))
      (fun q6 h4 => tx_ q6 h4))
    (fun q3 h1 => tx_ q3 h1) := by
  rw [fj_run_eq d (by decide) h [(4, x0), (0, x1)] (Nat.le_of_ble_eq_true (by rw [nl_315]; rfl))]
  show gG (fj_run d) 315 0 [(0, (4, x0)), (1, (0, x1))] [] h = _
  exact
    have D : fk_D 315 [(0, none, .aload_n 0, 1, 0, 0, 0), (1, none, .getfield 1, 3, 339, 103, 12), (4, none, .invokevirtual 20, 3, 0, 135, 0), (7, none, .aload_n 0, 1, 0, 0, 0), (8, none, .getfield 1, 3, 339, 103, 12), (11, none, .getfield 26, 3, 213, 100, 12), (14, none, .iload_n 1, 1, 0, 0, 0), (15, none, .aload_n 0, 1, 0, 0, 0), (16, none, .getfield 30, 3, 340, 103, 12), (19, none, .aload_n 0, 1, 0, 0, 0), (20, none, .getfield 13, 3, 337, 103, 11), (23, none, .aload_n 0, 1, 0, 0, 0), (24, none, .getfield 17, 3, 338, 103, 11), (27, none, .invokestatic 34, 3, 5, 215, 0), (30, none, .return_, 1, 0, 0, 0)] := fq_of2 cd_315 ow_315 cl_315 rfl (pc := 0) (by decide +kernel)
    j_aldn (pc := 0) D rfl rfl rfl fun D =>
    j_gfc (pc := 1) (a := x0.toNat) D rfl rfl (nz_cls H.2.1 hk (by decide)) rfl hk rfl ht339 fun D =>
    j_ivv (pc := 4) (m := 313) (dd := 135) (a := []) (rest := []) D rfl rfl rfl rfl rfl (by decide) (s0_303 H) (by decide +kernel) (fun h1 e1 D =>
      have T := fj_run_ok _ _ _ _ _ _ H.1 e1
      have ht339 := fin_st H.1 T.2 hk (by decide) (by decide +kernel) ht339 (by decide)
      have hk := cls_st H.1 T.2 hk (by decide)
      have H := shp_st H T
      j_aldn (pc := 7) D rfl rfl rfl fun D =>
      j_gfc (pc := 8) (a := x0.toNat) D rfl rfl (nz_cls H.2.1 hk (by decide)) rfl hk rfl ht339 fun D =>
      j_gfc (pc := 11) (a := 303) D rfl rfl (by decide) rfl (s0_303 H) rfl (sf_213_303 H) fun D =>
      j_ildn (pc := 14) D rfl rfl rfl fun D =>
      j_aldn (pc := 15) D rfl rfl rfl fun D =>
      j_gf (pc := 16) (a := x0.toNat) D rfl rfl (nz_cls H.2.1 hk (by decide)) rfl hk rfl fun D =>
      j_aldn (pc := 19) D rfl rfl rfl fun D =>
      j_gf (pc := 20) (a := x0.toNat) D rfl rfl (nz_cls H.2.1 hk (by decide)) rfl hk rfl fun D =>
      j_aldn (pc := 23) D rfl rfl rfl fun D =>
      j_gf (pc := 24) (a := x0.toNat) D rfl rfl (nz_cls H.2.1 hk (by decide)) rfl hk rfl fun D =>
      j_isv (pc := 27) (m := 215) (a := [(4, 309), (0, x1), (4, h1 340 x0.toNat 0), (1, h1 337 x0.toNat 0), (1, h1 338 x0.toNat 0)]) (rest := []) D rfl rfl rfl rfl (fun h4 e1 D =>
        have T := fj_run_ok _ _ _ _ _ _ H.1 e1
        have ht339 := fin_st H.1 T.2 hk (by decide) (by decide +kernel) ht339 (by decide)
        have hk := cls_st H.1 T.2 hk (by decide)
        have H := shp_st H T
        j_vret D rt_315) (fun q6 h4 e1 =>
        j_tx (hx_315 _))) (fun q3 h1 e1 =>
      j_tx (hx_315 _))
/-! 316 StatuteHouse$FactPart.work(I)V -/
theorem cd_316 : fi_code 316 = prog_8_method_2_code := rfl
theorem hx_316 : ∀ pc, fi_hat 316 pc = none := fun pc => by unfold fi_hat; rw [show fi_hh 316 = [] from rfl]; rfl
theorem rt_316 : fi_ret 316 = none := rfl
theorem nl_316 : fi_nl 316 = 2 := rfl
theorem ow_316 : fi_ow 316 = 6 := rfl
theorem cl_316 : fj_cutT.getD 316 [] = [] := rfl
theorem m_316 (d : Nat) (x0 x1 : Int) {h : fi_H} (H : Shp h) (hk : h 0 x0.toNat 0 = 106) (ht365 : h 365 x0.toNat 0 = 303) : fj_run (d + 1) 316 h [(4, x0), (0, x1)] =
  cv_ (fj_run d 313 h [(4, 303)])
    (fun h1 =>
    cv_ (fj_run d 317 h1 [(4, 303), (0, h1 347 x0.toNat 0), (0, x1)])
      (fun h4 =>
      some (.inl none, h4))
      (fun q6 h4 => tx_ q6 h4))
    (fun q3 h1 => tx_ q3 h1) := by
  rw [fj_run_eq d (by decide) h [(4, x0), (0, x1)] (Nat.le_of_ble_eq_true (by rw [nl_316]; rfl))]
  show gG (fj_run d) 316 0 [(0, (4, x0)), (1, (0, x1))] [] h = _
  exact
    have D : fk_D 316 [(0, none, .aload_n 0, 1, 0, 0, 0), (1, none, .getfield 1, 3, 365, 106, 12), (4, none, .invokevirtual 25, 3, 0, 135, 0), (7, none, .aload_n 0, 1, 0, 0, 0), (8, none, .getfield 1, 3, 365, 106, 12), (11, none, .aload_n 0, 1, 0, 0, 0), (12, none, .getfield 29, 3, 347, 106, 10), (15, none, .iload_n 1, 1, 0, 0, 0), (16, none, .invokevirtual 33, 3, 2, 333, 0), (19, none, .return_, 1, 0, 0, 0)] := fq_of2 cd_316 ow_316 cl_316 rfl (pc := 0) (by decide +kernel)
    j_aldn (pc := 0) D rfl rfl rfl fun D =>
    j_gfc (pc := 1) (a := x0.toNat) D rfl rfl (nz_cls H.2.1 hk (by decide)) rfl hk rfl ht365 fun D =>
    j_ivv (pc := 4) (m := 313) (dd := 135) (a := []) (rest := []) D rfl rfl rfl rfl rfl (by decide) (s0_303 H) (by decide +kernel) (fun h1 e1 D =>
      have T := fj_run_ok _ _ _ _ _ _ H.1 e1
      have ht365 := fin_st H.1 T.2 hk (by decide) (by decide +kernel) ht365 (by decide)
      have hk := cls_st H.1 T.2 hk (by decide)
      have H := shp_st H T
      j_aldn (pc := 7) D rfl rfl rfl fun D =>
      j_gfc (pc := 8) (a := x0.toNat) D rfl rfl (nz_cls H.2.1 hk (by decide)) rfl hk rfl ht365 fun D =>
      j_aldn (pc := 11) D rfl rfl rfl fun D =>
      j_gf (pc := 12) (a := x0.toNat) D rfl rfl (nz_cls H.2.1 hk (by decide)) rfl hk rfl fun D =>
      j_ildn (pc := 15) D rfl rfl rfl fun D =>
      j_ivv (pc := 16) (m := 317) (dd := 333) (a := [(0, h1 347 x0.toNat 0), (0, x1)]) (rest := []) D rfl rfl rfl rfl rfl (by decide) (s0_303 H) (by decide +kernel) (fun h4 e1 D =>
        have T := fj_run_ok _ _ _ _ _ _ H.1 e1
        have ht365 := fin_st H.1 T.2 hk (by decide) (by decide +kernel) ht365 (by decide)
        have hk := cls_st H.1 T.2 hk (by decide)
        have H := shp_st H T
        j_vret D rt_316) (fun q6 h4 e1 =>
        j_tx (hx_316 _))) (fun q3 h1 e1 =>
      j_tx (hx_316 _))
/-! 317 StatuteHouse.factValue(II)V -/
theorem cd_317 : fi_code 317 = prog_1_method_31_code := rfl
theorem hx_317 : ∀ pc, fi_hat 317 pc = none := fun pc => by unfold fi_hat; rw [show fi_hh 317 = [] from rfl]; rfl
theorem rt_317 : fi_ret 317 = none := rfl
theorem nl_317 : fi_nl 317 = 7 := rfl
theorem ow_317 : fi_ow 317 = 0 := rfl
theorem cl_317 : fj_cutT.getD 317 [] = [(47, [0, 1, 2, 3, 4]), (71, [0, 2, 3, 4, 5]), (167, [0, 2, 3, 4])] := rfl
theorem cut_317_47 : fj_cut 317 47 = some [0, 1, 2, 3, 4] := by decide +kernel
noncomputable def c_317_47 (d : Nat) (x1 x2 x3 x4 s0 : Int) (h : fi_H) : fk_R := gG (fj_run d) 317 47 [(0, (4, 303)), (1, (0, x1)), (2, (0, x2)), (3, (4, x3)), (4, (0, x4))] [(0, s0)] h
theorem cut_317_71 : fj_cut 317 71 = some [0, 2, 3, 4, 5] := by decide +kernel
noncomputable def c_317_71 (d : Nat) (x2 x3 x4 x5 s0 : Int) (h : fi_H) : fk_R := gG (fj_run d) 317 71 [(0, (4, 303)), (2, (0, x2)), (3, (4, x3)), (4, (0, x4)), (5, (0, x5))] [(0, s0)] h
theorem cut_317_167 : fj_cut 317 167 = some [0, 2, 3, 4] := by decide +kernel
noncomputable def c_317_167 (d : Nat) (x2 x3 x4 : Int) (h : fi_H) : fk_R := gG (fj_run d) 317 167 [(0, (4, 303)), (2, (0, x2)), (3, (4, x3)), (4, (0, x4))] [] h
theorem e_317_47 (d : Nat) (x1 x2 x3 x4 s0 : Int) {h : fi_H} (H : Shp h) : c_317_47 d x1 x2 x3 x4 s0 h =
  if s0 = (-1) then
    ca_ (fj_run d 319 h [(4, 322), (0, h 241 303 0), (0, x1)]) 0
      (fun v2 h1 =>
      c_317_71 d x2 x3 x4 s0 v2 h1)
      (fun q3 h1 => tx_ q3 h1)
  else
    c_317_71 d x2 x3 x4 s0 (-1) h := by
  unfold c_317_47
  exact
    have D : fk_D 317 [(47, some [0, 1, 2, 3, 4], .istore 5, 2, 0, 0, 0), (49, none, .iload 5, 2, 0, 0, 0), (51, none, .iconst (-1), 1, 0, (-1), 0), (52, none, .if_icmp .ne 18, 3, 70, 0, 0), (55, none, .aload_n 0, 1, 0, 0, 0), (56, none, .getfield 234, 3, 218, 100, 12), (59, none, .aload_n 0, 1, 0, 0, 0), (60, none, .getfield 270, 3, 241, 100, 10), (63, none, .iload_n 1, 1, 0, 0, 0), (64, none, .invokevirtual 238, 3, 2, 127, 1), (67, none, .goto 4, 3, 71, 0, 0)] := fq_of2 cd_317 ow_317 cl_317 rfl (pc := 47) (by decide +kernel)
    j_ist (pc := 47) (L' := [(5, (0, s0)), (0, (4, 303)), (1, (0, x1)), (2, (0, x2)), (3, (4, x3)), (4, (0, x4))]) D rfl nl_317 rfl rfl fun D =>
    j_ild (pc := 49) D rfl rfl rfl fun D =>
    j_ic (pc := 51) D rfl fun D =>
    j_ine (pc := 52) D rfl (fun q D =>
      j_aldn (pc := 55) D rfl rfl rfl fun D =>
      j_gfc (pc := 56) (a := 303) D rfl rfl (by decide) rfl (s0_303 H) rfl (sf_218_303 H) fun D =>
      j_aldn (pc := 59) D rfl rfl rfl fun D =>
      j_gf (pc := 60) (a := 303) D rfl rfl (by decide) rfl (s0_303 H) rfl fun D =>
      j_ildn (pc := 63) D rfl rfl rfl fun D =>
      j_iv (pc := 64) (m := 319) (dd := 127) (a := [(0, h 241 303 0), (0, x1)]) (rest := []) D rfl rfl rfl rfl rfl (by decide) (s0_322 H) (by decide +kernel) (fun v2 h1 e1 D =>
        have T := fj_run_ok _ _ _ _ _ _ H.1 e1
        have H := shp_st H T
        j_goto (pc := 67) D rfl <|
        fk_jump cut_317_71 rfl rfl) (fun q3 h1 e1 =>
        j_tx (hx_317 _))) (fun q =>
      have D : fk_D 317 [(70, none, .iconst (-1), 1, 0, (-1), 0)] := fq_of2 cd_317 ow_317 cl_317 rfl (pc := 70) (by decide +kernel)
      j_ic (pc := 70) D rfl fun D =>
      fk_jump cut_317_71 rfl rfl)
theorem e_317_71 (d : Nat) (x2 x3 x4 x5 s0 : Int) {h : fi_H} (H : Shp h) : c_317_71 d x2 x3 x4 x5 s0 h =
  if x5 = (-1) then
    if s0 = (-1) then
      if h 0 x3.toNat 0 = 124 then
      if h 329 x3.toNat 0 = 0 then
        ca_ (fj_run d 310 h [(4, 303), (0, 6)]) 4
          (fun v3 h2 =>
          if v3 ≠ 0 then
          tx_ v3.toNat h2
          else none)
          (fun q4 h2 => tx_ q4 h2)
      else
        cv_ (fj_run d 215 h [(4, 309), (0, x2), (4, h 324 x3.toNat 0), (1, h 327 x3.toNat 0), (1, h 328 x3.toNat 0)])
          (fun h5 =>
          c_317_167 d x2 x3 x4 h5)
          (fun q7 h5 => tx_ q7 h5)
      else none
    else
      if h 0 x3.toNat 0 = 124 then
      cv_ (fj_run d 320 h [(4, 309), (0, x2), (4, 323), (0, s0), (4, h 324 x3.toNat 0)])
        (fun h9 =>
        c_317_167 d x2 x3 x4 h9)
        (fun q11 h9 => tx_ q11 h9)
      else none
  else
    if h 0 x3.toNat 0 = 124 then
    cv_ (fj_run d 320 h [(4, 309), (0, x2), (4, 341), (0, x5), (4, h 324 x3.toNat 0)])
      (fun h13 =>
      c_317_167 d x2 x3 x4 h13)
      (fun q15 h13 => tx_ q15 h13)
    else none := by
  unfold c_317_71
  exact
    have D : fk_D 317 [(71, some [0, 2, 3, 4, 5], .istore 6, 2, 0, 0, 0), (73, none, .iload 5, 2, 0, 0, 0), (75, none, .iconst (-1), 1, 0, (-1), 0), (76, none, .if_icmp .eq 24, 3, 100, 0, 0), (79, none, .aload_n 0, 1, 0, 0, 0), (80, none, .getfield 113, 3, 213, 100, 12), (83, none, .iload_n 2, 1, 0, 0, 0), (84, none, .aload_n 0, 1, 0, 0, 0), (85, none, .getfield 243, 3, 219, 100, 12), (88, none, .iload 5, 2, 0, 0, 0), (90, none, .aload_n 3, 1, 0, 0, 0), (91, none, .getfield 283, 3, 324, (-124), 12), (94, none, .invokevirtual 285, 3, 4, 131, 0), (97, none, .goto 70, 3, 167, 0, 0)] := fq_of2 cd_317 ow_317 cl_317 rfl (pc := 71) (by decide +kernel)
    j_ist (pc := 71) (L' := [(6, (0, s0)), (0, (4, 303)), (2, (0, x2)), (3, (4, x3)), (4, (0, x4)), (5, (0, x5))]) D rfl nl_317 rfl rfl fun D =>
    j_ild (pc := 73) D rfl rfl rfl fun D =>
    j_ic (pc := 75) D rfl fun D =>
    j_ieq (pc := 76) D rfl (fun q =>
      have D : fk_D 317 [(100, none, .iload 6, 2, 0, 0, 0), (102, none, .iconst (-1), 1, 0, (-1), 0), (103, none, .if_icmp .eq 27, 3, 130, 0, 0), (106, none, .aload_n 0, 1, 0, 0, 0), (107, none, .getfield 113, 3, 213, 100, 12), (110, none, .iload_n 2, 1, 0, 0, 0), (111, none, .aload_n 0, 1, 0, 0, 0), (112, none, .getfield 234, 3, 218, 100, 12), (115, none, .getfield 246, 3, 124, 116, 12), (118, none, .iload 6, 2, 0, 0, 0), (120, none, .aload_n 3, 1, 0, 0, 0), (121, none, .getfield 283, 3, 324, (-124), 12), (124, none, .invokevirtual 285, 3, 4, 131, 0), (127, none, .goto 40, 3, 167, 0, 0)] := fq_of2 cd_317 ow_317 cl_317 rfl (pc := 100) (by decide +kernel)
      j_ild (pc := 100) D rfl rfl rfl fun D =>
      j_ic (pc := 102) D rfl fun D =>
      j_ieq (pc := 103) D rfl (fun q =>
        have D : fk_D 317 [(130, none, .aload_n 3, 1, 0, 0, 0), (131, none, .getfield 289, 3, 329, (-124), 4), (134, none, .ifCond .eq 26, 3, 160, 0, 0), (137, none, .aload_n 0, 1, 0, 0, 0), (138, none, .getfield 113, 3, 213, 100, 12), (141, none, .iload_n 2, 1, 0, 0, 0), (142, none, .aload_n 3, 1, 0, 0, 0), (143, none, .getfield 283, 3, 324, 124, 12), (146, none, .aload_n 3, 1, 0, 0, 0), (147, none, .getfield 292, 3, 327, 124, 11), (150, none, .aload_n 3, 1, 0, 0, 0), (151, none, .getfield 296, 3, 328, 124, 11), (154, none, .invokestatic 299, 3, 5, 215, 0), (157, none, .goto 10, 3, 167, 0, 0)] := fq_of2 cd_317 ow_317 cl_317 rfl (pc := 130) (by decide +kernel)
        j_aldn (pc := 130) D rfl rfl rfl fun D =>
        j_gfo (pc := 131) H.2.1 D rfl rfl rfl rfl fun kc1 D =>
        j_ifeq (pc := 134) D rfl (fun q =>
          have D : fk_D 317 [(160, none, .aload_n 0, 1, 0, 0, 0), (161, none, .bipush 6, 2, 0, 6, 0), (163, none, .invokevirtual 109, 3, 1, 112, 5), (166, none, .athrow, 1, 0, 0, 0)] := fq_of2 cd_317 ow_317 cl_317 rfl (pc := 160) (by decide +kernel)
          j_aldn (pc := 160) D rfl rfl rfl fun D =>
          j_bp (pc := 161) D rfl fun D =>
          j_iv (pc := 163) (m := 310) (dd := 112) (a := [(0, 6)]) (rest := []) D rfl rfl rfl rfl rfl (by decide) (s0_303 H) (by decide +kernel) (fun v3 h2 e1 D =>
            have T := fj_run_ok _ _ _ _ _ _ H.1 e1
            have kc1 := cls_st H.1 T.2 kc1 (by decide)
            have H := shp_st H T
            j_at (pc := 166) D gn <|
            j_tx (hx_317 _)) (fun q4 h2 e1 =>
            j_tx (hx_317 _))) (fun q D =>
          j_aldn (pc := 137) D rfl rfl rfl fun D =>
          j_gfc (pc := 138) (a := 303) D rfl rfl (by decide) rfl (s0_303 H) rfl (sf_213_303 H) fun D =>
          j_ildn (pc := 141) D rfl rfl rfl fun D =>
          j_aldn (pc := 142) D rfl rfl rfl fun D =>
          j_gf (pc := 143) (a := x3.toNat) D rfl rfl (nz_cls H.2.1 kc1 (by decide)) rfl kc1 rfl fun D =>
          j_aldn (pc := 146) D rfl rfl rfl fun D =>
          j_gf (pc := 147) (a := x3.toNat) D rfl rfl (nz_cls H.2.1 kc1 (by decide)) rfl kc1 rfl fun D =>
          j_aldn (pc := 150) D rfl rfl rfl fun D =>
          j_gf (pc := 151) (a := x3.toNat) D rfl rfl (nz_cls H.2.1 kc1 (by decide)) rfl kc1 rfl fun D =>
          j_isv (pc := 154) (m := 215) (a := [(4, 309), (0, x2), (4, h 324 x3.toNat 0), (1, h 327 x3.toNat 0), (1, h 328 x3.toNat 0)]) (rest := []) D rfl rfl rfl rfl (fun h5 e1 D =>
            have T := fj_run_ok _ _ _ _ _ _ H.1 e1
            have kc1 := cls_st H.1 T.2 kc1 (by decide)
            have H := shp_st H T
            j_goto (pc := 157) D rfl <|
            fk_jump cut_317_167 rfl rfl) (fun q7 h5 e1 =>
            j_tx (hx_317 _)))) (fun q D =>
        j_aldn (pc := 106) D rfl rfl rfl fun D =>
        j_gfc (pc := 107) (a := 303) D rfl rfl (by decide) rfl (s0_303 H) rfl (sf_213_303 H) fun D =>
        j_ildn (pc := 110) D rfl rfl rfl fun D =>
        j_aldn (pc := 111) D rfl rfl rfl fun D =>
        j_gfc (pc := 112) (a := 303) D rfl rfl (by decide) rfl (s0_303 H) rfl (sf_218_303 H) fun D =>
        j_gfc (pc := 115) (a := 322) D rfl rfl (by decide) rfl (s0_322 H) rfl (sf_124_322 H) fun D =>
        j_ild (pc := 118) D rfl rfl rfl fun D =>
        j_aldn (pc := 120) D rfl rfl rfl fun D =>
        j_gfo (pc := 121) H.2.1 D rfl rfl rfl rfl fun kc8 D =>
        j_ivv (pc := 124) (m := 320) (dd := 131) (a := [(0, x2), (4, 323), (0, s0), (4, h 324 x3.toNat 0)]) (rest := []) D rfl rfl rfl rfl rfl (by decide) (s0_309 H) (by decide +kernel) (fun h9 e1 D =>
          have T := fj_run_ok _ _ _ _ _ _ H.1 e1
          have kc8 := cls_st H.1 T.2 kc8 (by decide)
          have H := shp_st H T
          j_goto (pc := 127) D rfl <|
          fk_jump cut_317_167 rfl rfl) (fun q11 h9 e1 =>
          j_tx (hx_317 _)))) (fun q D =>
      j_aldn (pc := 79) D rfl rfl rfl fun D =>
      j_gfc (pc := 80) (a := 303) D rfl rfl (by decide) rfl (s0_303 H) rfl (sf_213_303 H) fun D =>
      j_ildn (pc := 83) D rfl rfl rfl fun D =>
      j_aldn (pc := 84) D rfl rfl rfl fun D =>
      j_gfc (pc := 85) (a := 303) D rfl rfl (by decide) rfl (s0_303 H) rfl (sf_219_303 H) fun D =>
      j_ild (pc := 88) D rfl rfl rfl fun D =>
      j_aldn (pc := 90) D rfl rfl rfl fun D =>
      j_gfo (pc := 91) H.2.1 D rfl rfl rfl rfl fun kc12 D =>
      j_ivv (pc := 94) (m := 320) (dd := 131) (a := [(0, x2), (4, 341), (0, x5), (4, h 324 x3.toNat 0)]) (rest := []) D rfl rfl rfl rfl rfl (by decide) (s0_309 H) (by decide +kernel) (fun h13 e1 D =>
        have T := fj_run_ok _ _ _ _ _ _ H.1 e1
        have kc12 := cls_st H.1 T.2 kc12 (by decide)
        have H := shp_st H T
        j_goto (pc := 97) D rfl <|
        fk_jump cut_317_167 rfl rfl) (fun q15 h13 e1 =>
        j_tx (hx_317 _)))
theorem e_317_167 (d : Nat) (x2 x3 x4 : Int) {h : fi_H} (H : Shp h) : c_317_167 d x2 x3 x4 h =
  if h 0 x3.toNat 0 = 124 then
  cv_ (fj_run d 321 h [(4, 303), (0, x4), (0, 0), (0, x2), (4, h 324 x3.toNat 0)])
    (fun h2 =>
    some (.inl none, h2))
    (fun q4 h2 => tx_ q4 h2)
  else none := by
  unfold c_317_167
  exact
    have D : fk_D 317 [(167, some [0, 2, 3, 4], .aload_n 0, 1, 0, 0, 0), (168, none, .iload 4, 2, 0, 0, 0), (170, none, .iconst 0, 1, 0, 0, 0), (171, none, .iload_n 2, 1, 0, 0, 0), (172, none, .aload_n 3, 1, 0, 0, 0), (173, none, .getfield 283, 3, 324, (-124), 12), (176, none, .invokevirtual 303, 3, 4, 132, 0), (179, none, .return_, 1, 0, 0, 0)] := fq_of2 cd_317 ow_317 cl_317 rfl (pc := 167) (by decide +kernel)
    j_aldn (pc := 167) D rfl rfl rfl fun D =>
    j_ild (pc := 168) D rfl rfl rfl fun D =>
    j_ic (pc := 170) D rfl fun D =>
    j_ildn (pc := 171) D rfl rfl rfl fun D =>
    j_aldn (pc := 172) D rfl rfl rfl fun D =>
    j_gfo (pc := 173) H.2.1 D rfl rfl rfl rfl fun kc1 D =>
    j_ivv (pc := 176) (m := 321) (dd := 132) (a := [(0, x4), (0, 0), (0, x2), (4, h 324 x3.toNat 0)]) (rest := []) D rfl rfl rfl rfl rfl (by decide) (s0_303 H) (by decide +kernel) (fun h2 e1 D =>
      have T := fj_run_ok _ _ _ _ _ _ H.1 e1
      have kc1 := cls_st H.1 T.2 kc1 (by decide)
      have H := shp_st H T
      j_vret D rt_317) (fun q4 h2 e1 =>
      j_tx (hx_317 _))
theorem m_317 (d : Nat) (x1 x2 : Int) {h : fi_H} (H : Shp h) : fj_run (d + 1) 317 h [(4, 303), (0, x1), (0, x2)] =
  if 0 ≤ x1 ∧ x1 < 40 then
  ca_ (fj_run d 311 h [(4, 303), (0, 3), (0, x1), (0, h 241 303 0), (0, h 242 303 0), (0, h 249 303 0)]) 0
    (fun v3 h2 =>
    if h2 223 303 0 = 0 then
      c_317_47 d x1 x2 (h 12 320 x1.toNat) v3 (-1) h2
    else
      ca_ (fj_run d 318 h2 [(4, 303), (0, h2 241 303 0), (0, x1)]) 0
        (fun v6 h5 =>
        c_317_47 d x1 x2 (h 12 320 x1.toNat) v3 v6 h5)
        (fun q7 h5 => tx_ q7 h5))
    (fun q4 h2 => tx_ q4 h2)
  else none := by
  rw [fj_run_eq d (by decide) h [(4, 303), (0, x1), (0, x2)] (Nat.le_of_ble_eq_true (by rw [nl_317]; rfl))]
  show gG (fj_run d) 317 0 [(0, (4, 303)), (1, (0, x1)), (2, (0, x2))] [] h = _
  exact
    have D : fk_D 317 [(0, none, .aload_n 0, 1, 0, 0, 0), (1, none, .getfield 255, 3, 214, 100, 12), (4, none, .iload_n 1, 1, 0, 0, 0), (5, none, .aaload, 1, 0, 0, 0), (6, none, .astore_n 3, 1, 0, 0, 0), (7, none, .aload_n 0, 1, 0, 0, 0), (8, none, .iconst 3, 1, 0, 3, 0), (9, none, .iload_n 1, 1, 0, 0, 0), (10, none, .aload_n 0, 1, 0, 0, 0), (11, none, .getfield 270, 3, 241, 100, 10), (14, none, .aload_n 0, 1, 0, 0, 0), (15, none, .getfield 273, 3, 242, 100, 10), (18, none, .aload_n 0, 1, 0, 0, 0), (19, none, .getfield 276, 3, 249, 100, 10), (22, none, .invokevirtual 279, 3, 5, 130, 1), (25, none, .istore 4, 2, 0, 0, 0), (27, none, .aload_n 0, 1, 0, 0, 0), (28, none, .getfield 227, 3, 223, 100, 4), (31, none, .ifCond .eq 15, 3, 46, 0, 0), (34, none, .aload_n 0, 1, 0, 0, 0)] := fq_of2 cd_317 ow_317 cl_317 rfl (pc := 0) (by decide +kernel)
    j_aldn (pc := 0) D rfl rfl rfl fun D =>
    j_gfc (pc := 1) (a := 303) D rfl rfl (by decide) rfl (s0_303 H) rfl (sf_214_303 H) fun D =>
    j_ildn (pc := 4) D rfl rfl rfl fun D =>
    j_al (pc := 5) (a := 320) (e := 12) D rfl rfl rfl (by decide) (s0_320 H) (s1_320 H) ⟨rfl, rfl, rfl⟩ rfl gn fun qb1 D =>
    j_astn (pc := 6) (L' := [(3, (4, h 12 320 x1.toNat)), (0, (4, 303)), (1, (0, x1)), (2, (0, x2))]) D rfl nl_317 rfl rfl fun D =>
    j_aldn (pc := 7) D rfl rfl rfl fun D =>
    j_ic (pc := 8) D rfl fun D =>
    j_ildn (pc := 9) D rfl rfl rfl fun D =>
    j_aldn (pc := 10) D rfl rfl rfl fun D =>
    j_gf (pc := 11) (a := 303) D rfl rfl (by decide) rfl (s0_303 H) rfl fun D =>
    j_aldn (pc := 14) D rfl rfl rfl fun D =>
    j_gf (pc := 15) (a := 303) D rfl rfl (by decide) rfl (s0_303 H) rfl fun D =>
    j_aldn (pc := 18) D rfl rfl rfl fun D =>
    j_gf (pc := 19) (a := 303) D rfl rfl (by decide) rfl (s0_303 H) rfl fun D =>
    j_iv (pc := 22) (m := 311) (dd := 130) (a := [(0, 3), (0, x1), (0, h 241 303 0), (0, h 242 303 0), (0, h 249 303 0)]) (rest := []) D rfl rfl rfl rfl rfl (by decide) (s0_303 H) (by decide +kernel) (fun v3 h2 e1 D =>
      have T := fj_run_ok _ _ _ _ _ _ H.1 e1
      have H := shp_st H T
      j_ist (pc := 25) (L' := [(4, (0, v3)), (3, (4, h 12 320 x1.toNat)), (0, (4, 303)), (1, (0, x1)), (2, (0, x2))]) D rfl nl_317 rfl rfl fun D =>
      j_aldn (pc := 27) D rfl rfl rfl fun D =>
      j_gf (pc := 28) (a := 303) D rfl rfl (by decide) rfl (s0_303 H) rfl fun D =>
      j_ifeq (pc := 31) D rfl (fun q =>
        have D : fk_D 317 [(46, none, .iconst (-1), 1, 0, (-1), 0)] := fq_of2 cd_317 ow_317 cl_317 rfl (pc := 46) (by decide +kernel)
        j_ic (pc := 46) D rfl fun D =>
        fk_jump cut_317_47 rfl rfl) (fun q D =>
        j_aldn (pc := 34) D rfl rfl rfl fun D =>
        have D : fk_D 317 [(35, none, .aload_n 0, 1, 0, 0, 0), (36, none, .getfield 270, 3, 241, 100, 10), (39, none, .iload_n 1, 1, 0, 0, 0), (40, none, .invokevirtual 230, 3, 2, 126, 1), (43, none, .goto 4, 3, 47, 0, 0)] := fq_of2 cd_317 ow_317 cl_317 rfl (pc := 35) (by decide +kernel)
        j_aldn (pc := 35) D rfl rfl rfl fun D =>
        j_gf (pc := 36) (a := 303) D rfl rfl (by decide) rfl (s0_303 H) rfl fun D =>
        j_ildn (pc := 39) D rfl rfl rfl fun D =>
        j_iv (pc := 40) (m := 318) (dd := 126) (a := [(0, h2 241 303 0), (0, x1)]) (rest := []) D rfl rfl rfl rfl rfl (by decide) (s0_303 H) (by decide +kernel) (fun v6 h5 e1 D =>
          have T := fj_run_ok _ _ _ _ _ _ H.1 e1
          have H := shp_st H T
          j_goto (pc := 43) D rfl <|
          fk_jump cut_317_47 rfl rfl) (fun q7 h5 e1 =>
          j_tx (hx_317 _)))) (fun q4 h2 e1 =>
      j_tx (hx_317 _))
/-! 318 StatuteHouse.assumption(II)I -/
theorem cd_318 : fi_code 318 = prog_1_method_25_code := rfl
theorem hx_318 : ∀ pc, fi_hat 318 pc = none := fun pc => by unfold fi_hat; rw [show fi_hh 318 = [] from rfl]; rfl
theorem rt_318 : fi_ret 318 = some .int := rfl
theorem nl_318 : fi_nl 318 = 4 := rfl
theorem ow_318 : fi_ow 318 = 0 := rfl
theorem cl_318 : fj_cutT.getD 318 [] = [(26, [0, 1, 2]), (28, [0, 1, 2, 3]), (58, [0, 1, 2, 3])] := rfl
theorem cut_318_26 : fj_cut 318 26 = some [0, 1, 2] := by decide +kernel
noncomputable def c_318_26 (d : Nat) (x1 x2 : Int) (h : fi_H) : fk_R := gG (fj_run d) 318 26 [(0, (4, 303)), (1, (0, x1)), (2, (0, x2))] [] h
theorem cut_318_28 : fj_cut 318 28 = some [0, 1, 2, 3] := by decide +kernel
noncomputable def c_318_28 (d : Nat) (x1 x2 x3 : Int) (h : fi_H) : fk_R := gG (fj_run d) 318 28 [(0, (4, 303)), (1, (0, x1)), (2, (0, x2)), (3, (0, x3))] [] h
theorem cut_318_58 : fj_cut 318 58 = some [0, 1, 2, 3] := by decide +kernel
noncomputable def c_318_58 (d : Nat) (x1 x2 x3 : Int) (h : fi_H) : fk_R := gG (fj_run d) 318 58 [(0, (4, 303)), (1, (0, x1)), (2, (0, x2)), (3, (0, x3))] [] h
theorem e_318_26 (d : Nat) (x1 x2 : Int) {h : fi_H} (H : Shp h) : c_318_26 d x1 x2 h =
  c_318_28 d x1 x2 0 h := by
  unfold c_318_26
  exact
    have D : fk_D 318 [(26, some [0, 1, 2], .iconst 0, 1, 0, 0, 0), (27, none, .istore_n 3, 1, 0, 0, 0)] := fq_of2 cd_318 ow_318 cl_318 rfl (pc := 26) (by decide +kernel)
    j_ic (pc := 26) D rfl fun D =>
    j_istn (pc := 27) (L' := [(3, (0, 0)), (0, (4, 303)), (1, (0, x1)), (2, (0, x2))]) D rfl nl_318 rfl rfl fun D =>
    fk_jump cut_318_28 rfl rfl
theorem e_318_28 (d : Nat) (x1 x2 x3 : Int) {h : fi_H} (H : Shp h) : c_318_28 d x1 x2 x3 h =
  if x3 < h 222 303 0 then
    if 0 ≤ x3 ∧ x3 < 8 then
    if h 8 352 x3.toNat = x1 then
      if h 8 353 x3.toNat = x2 then
        some (.inl (some (0, x3)), h)
      else
        c_318_58 d x1 x2 x3 h
    else
      c_318_58 d x1 x2 x3 h
    else none
  else
    some (.inl (some (0, (-1))), h) := by
  unfold c_318_28
  exact
    have D : fk_D 318 [(28, some [0, 1, 2, 3], .iload_n 3, 1, 0, 0, 0), (29, none, .aload_n 0, 1, 0, 0, 0), (30, none, .getfield 218, 3, 222, 100, 10), (33, none, .if_icmp .ge 31, 3, 64, 0, 0), (36, none, .aload_n 0, 1, 0, 0, 0), (37, none, .getfield 221, 3, 220, 100, 12), (40, none, .iload_n 3, 1, 0, 0, 0), (41, none, .baload, 1, 0, 0, 0), (42, none, .iload_n 1, 1, 0, 0, 0), (43, none, .if_icmp .ne 15, 3, 58, 0, 0), (46, none, .aload_n 0, 1, 0, 0, 0), (47, none, .getfield 224, 3, 221, 100, 12), (50, none, .iload_n 3, 1, 0, 0, 0), (51, none, .baload, 1, 0, 0, 0), (52, none, .iload_n 2, 1, 0, 0, 0), (53, none, .if_icmp .ne 5, 3, 58, 0, 0), (56, none, .iload_n 3, 1, 0, 0, 0), (57, none, .ireturn, 1, 0, 0, 0)] := fq_of2 cd_318 ow_318 cl_318 rfl (pc := 28) (by decide +kernel)
    j_ildn (pc := 28) D rfl rfl rfl fun D =>
    j_aldn (pc := 29) D rfl rfl rfl fun D =>
    j_gf (pc := 30) (a := 303) D rfl rfl (by decide) rfl (s0_303 H) rfl fun D =>
    j_ige (pc := 33) D rfl (fun q D =>
      j_aldn (pc := 36) D rfl rfl rfl fun D =>
      j_gfc (pc := 37) (a := 303) D rfl rfl (by decide) rfl (s0_303 H) rfl (sf_220_303 H) fun D =>
      j_ildn (pc := 40) D rfl rfl rfl fun D =>
      j_al (pc := 41) (a := 352) (e := 8) D rfl rfl rfl (by decide) (s0_352 H) (s1_352 H) ⟨rfl, rfl, rfl⟩ rfl gn fun qb1 D =>
      j_ildn (pc := 42) D rfl rfl rfl fun D =>
      j_ine (pc := 43) D rfl (fun q D =>
        j_aldn (pc := 46) D rfl rfl rfl fun D =>
        j_gfc (pc := 47) (a := 303) D rfl rfl (by decide) rfl (s0_303 H) rfl (sf_221_303 H) fun D =>
        j_ildn (pc := 50) D rfl rfl rfl fun D =>
        j_al (pc := 51) (a := 353) (e := 8) D rfl rfl rfl (by decide) (s0_353 H) (s1_353 H) ⟨rfl, rfl, rfl⟩ rfl (gy qb1) fun q D =>
        j_ildn (pc := 52) D rfl rfl rfl fun D =>
        j_ine (pc := 53) D rfl (fun q D =>
          j_ildn (pc := 56) D rfl rfl rfl fun D =>
          j_iret D rt_318) (fun q =>
          fk_jump cut_318_58 rfl rfl)) (fun q =>
        fk_jump cut_318_58 rfl rfl)) (fun q =>
      have D : fk_D 318 [(64, none, .iconst (-1), 1, 0, (-1), 0), (65, none, .ireturn, 1, 0, 0, 0)] := fq_of2 cd_318 ow_318 cl_318 rfl (pc := 64) (by decide +kernel)
      j_ic (pc := 64) D rfl fun D =>
      j_iret D rt_318)
theorem e_318_58 (d : Nat) (x1 x2 x3 : Int) {h : fi_H} (H : Shp h) : c_318_58 d x1 x2 x3 h =
  c_318_28 d x1 x2 (wI (x3 + 1)) h := by
  unfold c_318_58
  exact
    have D : fk_D 318 [(58, some [0, 1, 2, 3], .iinc 3 1, 3, 0, 1, 0), (61, none, .goto (-33), 3, 28, 0, 0)] := fq_of2 cd_318 ow_318 cl_318 rfl (pc := 58) (by decide +kernel)
    j_inc (pc := 58) (L' := [(3, (0, wI (x3 + 1))), (0, (4, 303)), (1, (0, x1)), (2, (0, x2))]) D rfl rfl rfl (by decide +kernel) rfl fun D =>
    j_goto (pc := 61) D rfl <|
    fk_jump cut_318_28 rfl rfl
theorem m_318 (d : Nat) (x1 x2 : Int) {h : fi_H} (H : Shp h) : fj_run (d + 1) 318 h [(4, 303), (0, x1), (0, x2)] =
  if h 224 303 0 = 0 then
    c_318_26 d x1 x2 h
  else
    if h 225 303 0 = x1 then
      if h 226 303 0 = x2 then
        some (.inl (some (0, 8)), h)
      else
        c_318_26 d x1 x2 h
    else
      c_318_26 d x1 x2 h := by
  rw [fj_run_eq d (by decide) h [(4, 303), (0, x1), (0, x2)] (Nat.le_of_ble_eq_true (by rw [nl_318]; rfl))]
  show gG (fj_run d) 318 0 [(0, (4, 303)), (1, (0, x1)), (2, (0, x2))] [] h = _
  exact
    have D : fk_D 318 [(0, none, .aload_n 0, 1, 0, 0, 0), (1, none, .getfield 208, 3, 224, 100, 4), (4, none, .ifCond .eq 22, 3, 26, 0, 0), (7, none, .aload_n 0, 1, 0, 0, 0), (8, none, .getfield 212, 3, 225, 100, 10), (11, none, .iload_n 1, 1, 0, 0, 0), (12, none, .if_icmp .ne 14, 3, 26, 0, 0), (15, none, .aload_n 0, 1, 0, 0, 0), (16, none, .getfield 215, 3, 226, 100, 10), (19, none, .iload_n 2, 1, 0, 0, 0), (20, none, .if_icmp .ne 6, 3, 26, 0, 0), (23, none, .bipush 8, 2, 0, 8, 0), (25, none, .ireturn, 1, 0, 0, 0)] := fq_of2 cd_318 ow_318 cl_318 rfl (pc := 0) (by decide +kernel)
    j_aldn (pc := 0) D rfl rfl rfl fun D =>
    j_gf (pc := 1) (a := 303) D rfl rfl (by decide) rfl (s0_303 H) rfl fun D =>
    j_ifeq (pc := 4) D rfl (fun q =>
      fk_jump cut_318_26 rfl rfl) (fun q D =>
      j_aldn (pc := 7) D rfl rfl rfl fun D =>
      j_gf (pc := 8) (a := 303) D rfl rfl (by decide) rfl (s0_303 H) rfl fun D =>
      j_ildn (pc := 11) D rfl rfl rfl fun D =>
      j_ine (pc := 12) D rfl (fun q D =>
        j_aldn (pc := 15) D rfl rfl rfl fun D =>
        j_gf (pc := 16) (a := 303) D rfl rfl (by decide) rfl (s0_303 H) rfl fun D =>
        j_ildn (pc := 19) D rfl rfl rfl fun D =>
        j_ine (pc := 20) D rfl (fun q D =>
          j_bp (pc := 23) D rfl fun D =>
          j_iret D rt_318) (fun q =>
          fk_jump cut_318_26 rfl rfl)) (fun q =>
        fk_jump cut_318_26 rfl rfl))
/-! 319 StatuteHouse$Records.find(II)I -/
theorem cd_319 : fi_code 319 = prog_54_method_4_code := rfl
theorem hx_319 : ∀ pc, fi_hat 319 pc = none := fun pc => by unfold fi_hat; rw [show fi_hh 319 = [] from rfl]; rfl
theorem rt_319 : fi_ret 319 = some .int := rfl
theorem nl_319 : fi_nl 319 = 4 := rfl
theorem ow_319 : fi_ow 319 = 16 := rfl
theorem cl_319 : fj_cutT.getD 319 [] = [(12, [0, 3]), (80, [0, 3])] := rfl
theorem cut_319_12 : fj_cut 319 12 = some [0, 3] := by decide +kernel
noncomputable def c_319_12 (d : Nat) (x3 : Int) (h : fi_H) : fk_R := gG (fj_run d) 319 12 [(0, (4, 322)), (3, (0, x3))] [] h
theorem cut_319_80 : fj_cut 319 80 = some [0, 3] := by decide +kernel
noncomputable def c_319_80 (d : Nat) (x3 : Int) (h : fi_H) : fk_R := gG (fj_run d) 319 80 [(0, (4, 322)), (3, (0, x3))] [] h
theorem e_319_12 (d : Nat) (x3 : Int) {h : fi_H} (H : Shp h) : c_319_12 d x3 h =
  if x3 = (-1) then
    some (.inl (some (0, (-1))), h)
  else
    if 0 ≤ x3 ∧ x3 < 500 then
    if h 243 303 0 < h 5 337 x3.toNat then
      c_319_80 d x3 h
    else
      if h 242 303 0 < h 5 335 x3.toNat then
        c_319_80 d x3 h
      else
        if h 5 336 x3.toNat < h 242 303 0 then
          c_319_80 d x3 h
        else
          if h 4 334 x3.toNat = 0 then
            some (.inl (some (0, (-1))), h)
          else
            some (.inl (some (0, x3)), h)
    else none := by
  unfold c_319_12
  exact
    have D : fk_D 319 [(12, some [0, 3], .iload_n 3, 1, 0, 0, 0), (13, none, .iconst (-1), 1, 0, (-1), 0), (14, none, .if_icmp .eq 76, 3, 90, 0, 0), (17, none, .aload_n 0, 1, 0, 0, 0), (18, none, .getfield 35, 3, 128, 116, 12), (21, none, .iload_n 3, 1, 0, 0, 0), (22, none, .caload, 1, 0, 0, 0), (23, none, .aload_n 0, 1, 0, 0, 0), (24, none, .getfield 3, 3, 133, 116, 12), (27, none, .getfield 56, 3, 243, 100, 10), (30, none, .if_icmp .gt 50, 3, 80, 0, 0), (33, none, .aload_n 0, 1, 0, 0, 0), (34, none, .getfield 28, 3, 126, 116, 12), (37, none, .iload_n 3, 1, 0, 0, 0), (38, none, .caload, 1, 0, 0, 0), (39, none, .aload_n 0, 1, 0, 0, 0), (40, none, .getfield 3, 3, 133, 116, 12), (43, none, .getfield 59, 3, 242, 100, 10), (46, none, .if_icmp .gt 34, 3, 80, 0, 0), (49, none, .aload_n 0, 1, 0, 0, 0)] := fq_of2 cd_319 ow_319 cl_319 rfl (pc := 12) (by decide +kernel)
    j_ildn (pc := 12) D rfl rfl rfl fun D =>
    j_ic (pc := 13) D rfl fun D =>
    j_ieq (pc := 14) D rfl (fun q =>
      have D : fk_D 319 [(90, none, .iconst (-1), 1, 0, (-1), 0), (91, none, .ireturn, 1, 0, 0, 0)] := fq_of2 cd_319 ow_319 cl_319 rfl (pc := 90) (by decide +kernel)
      j_ic (pc := 90) D rfl fun D =>
      j_iret D rt_319) (fun q D =>
      j_aldn (pc := 17) D rfl rfl rfl fun D =>
      j_gfc (pc := 18) (a := 322) D rfl rfl (by decide) rfl (s0_322 H) rfl (sf_128_322 H) fun D =>
      j_ildn (pc := 21) D rfl rfl rfl fun D =>
      j_al (pc := 22) (a := 337) (e := 5) D rfl rfl rfl (by decide) (s0_337 H) (s1_337 H) ⟨rfl, rfl, rfl⟩ rfl gn fun qb1 D =>
      j_aldn (pc := 23) D rfl rfl rfl fun D =>
      j_gfc (pc := 24) (a := 322) D rfl rfl (by decide) rfl (s0_322 H) rfl (sf_133_322 H) fun D =>
      j_gf (pc := 27) (a := 303) D rfl rfl (by decide) rfl (s0_303 H) rfl fun D =>
      j_igt (pc := 30) D rfl (fun q =>
        fk_jump cut_319_80 rfl rfl) (fun q D =>
        j_aldn (pc := 33) D rfl rfl rfl fun D =>
        j_gfc (pc := 34) (a := 322) D rfl rfl (by decide) rfl (s0_322 H) rfl (sf_126_322 H) fun D =>
        j_ildn (pc := 37) D rfl rfl rfl fun D =>
        j_al (pc := 38) (a := 335) (e := 5) D rfl rfl rfl (by decide) (s0_335 H) (s1_335 H) ⟨rfl, rfl, rfl⟩ rfl (gy qb1) fun q D =>
        j_aldn (pc := 39) D rfl rfl rfl fun D =>
        j_gfc (pc := 40) (a := 322) D rfl rfl (by decide) rfl (s0_322 H) rfl (sf_133_322 H) fun D =>
        j_gf (pc := 43) (a := 303) D rfl rfl (by decide) rfl (s0_303 H) rfl fun D =>
        j_igt (pc := 46) D rfl (fun q =>
          fk_jump cut_319_80 rfl rfl) (fun q D =>
          j_aldn (pc := 49) D rfl rfl rfl fun D =>
          have D : fk_D 319 [(50, none, .getfield 3, 3, 133, 116, 12), (53, none, .getfield 59, 3, 242, 100, 10), (56, none, .aload_n 0, 1, 0, 0, 0), (57, none, .getfield 32, 3, 127, 116, 12), (60, none, .iload_n 3, 1, 0, 0, 0), (61, none, .caload, 1, 0, 0, 0), (62, none, .if_icmp .gt 18, 3, 80, 0, 0), (65, none, .aload_n 0, 1, 0, 0, 0), (66, none, .getfield 24, 3, 125, 116, 12), (69, none, .iload_n 3, 1, 0, 0, 0), (70, none, .baload, 1, 0, 0, 0), (71, none, .ifCond .eq 7, 3, 78, 0, 0), (74, none, .iload_n 3, 1, 0, 0, 0), (75, none, .goto 4, 3, 79, 0, 0)] := fq_of2 cd_319 ow_319 cl_319 rfl (pc := 50) (by decide +kernel)
          j_gfc (pc := 50) (a := 322) D rfl rfl (by decide) rfl (s0_322 H) rfl (sf_133_322 H) fun D =>
          j_gf (pc := 53) (a := 303) D rfl rfl (by decide) rfl (s0_303 H) rfl fun D =>
          j_aldn (pc := 56) D rfl rfl rfl fun D =>
          j_gfc (pc := 57) (a := 322) D rfl rfl (by decide) rfl (s0_322 H) rfl (sf_127_322 H) fun D =>
          j_ildn (pc := 60) D rfl rfl rfl fun D =>
          j_al (pc := 61) (a := 336) (e := 5) D rfl rfl rfl (by decide) (s0_336 H) (s1_336 H) ⟨rfl, rfl, rfl⟩ rfl (gy qb1) fun q D =>
          j_igt (pc := 62) D rfl (fun q =>
            fk_jump cut_319_80 rfl rfl) (fun q D =>
            j_aldn (pc := 65) D rfl rfl rfl fun D =>
            j_gfc (pc := 66) (a := 322) D rfl rfl (by decide) rfl (s0_322 H) rfl (sf_125_322 H) fun D =>
            j_ildn (pc := 69) D rfl rfl rfl fun D =>
            j_al (pc := 70) (a := 334) (e := 4) D rfl rfl rfl (by decide) (s0_334 H) (s1_334 H) ⟨rfl, rfl, rfl⟩ rfl (gy qb1) fun q D =>
            j_ifeq (pc := 71) D rfl (fun q =>
              have D : fk_D 319 [(78, none, .iconst (-1), 1, 0, (-1), 0), (79, none, .ireturn, 1, 0, 0, 0)] := fq_of2 cd_319 ow_319 cl_319 rfl (pc := 78) (by decide +kernel)
              j_ic (pc := 78) D rfl fun D =>
              j_iret D rt_319) (fun q D =>
              j_ildn (pc := 74) D rfl rfl rfl fun D =>
              j_goto (pc := 75) D rfl <|
              have D : fk_D 319 [(79, none, .ireturn, 1, 0, 0, 0)] := fq_of2 cd_319 ow_319 cl_319 rfl (pc := 79) (by decide +kernel)
              j_iret D rt_319)))))
theorem e_319_80 (d : Nat) (x3 : Int) {h : fi_H} (H : Shp h) : c_319_80 d x3 h =
  if 0 ≤ x3 ∧ x3 < 500 then
  c_319_12 d (h 9 338 x3.toNat) h
  else none := by
  unfold c_319_80
  exact
    have D : fk_D 319 [(80, some [0, 3], .aload_n 0, 1, 0, 0, 0), (81, none, .getfield 38, 3, 129, 116, 12), (84, none, .iload_n 3, 1, 0, 0, 0), (85, none, .saload, 1, 0, 0, 0), (86, none, .istore_n 3, 1, 0, 0, 0), (87, none, .goto (-75), 3, 12, 0, 0)] := fq_of2 cd_319 ow_319 cl_319 rfl (pc := 80) (by decide +kernel)
    j_aldn (pc := 80) D rfl rfl rfl fun D =>
    j_gfc (pc := 81) (a := 322) D rfl rfl (by decide) rfl (s0_322 H) rfl (sf_129_322 H) fun D =>
    j_ildn (pc := 84) D rfl rfl rfl fun D =>
    j_al (pc := 85) (a := 338) (e := 9) D rfl rfl rfl (by decide) (s0_338 H) (s1_338 H) ⟨rfl, rfl, rfl⟩ rfl gn fun qb1 D =>
    j_istn (pc := 86) (L' := [(3, (0, h 9 338 x3.toNat)), (0, (4, 322))]) D rfl nl_319 rfl rfl fun D =>
    j_goto (pc := 87) D rfl <|
    fk_jump cut_319_12 rfl rfl
theorem m_319 (d : Nat) (x1 x2 : Int) {h : fi_H} (H : Shp h) : fj_run (d + 1) 319 h [(4, 322), (0, x1), (0, x2)] =
  if 0 ≤ wI ((wI (40 * x1)) + x2) ∧ wI ((wI (40 * x1)) + x2) < 1200 then
  c_319_12 d (h 9 339 (wI ((wI (40 * x1)) + x2)).toNat) h
  else none := by
  rw [fj_run_eq d (by decide) h [(4, 322), (0, x1), (0, x2)] (Nat.le_of_ble_eq_true (by rw [nl_319]; rfl))]
  show gG (fj_run d) 319 0 [(0, (4, 322)), (1, (0, x1)), (2, (0, x2))] [] h = _
  exact
    have D : fk_D 319 [(0, none, .aload_n 0, 1, 0, 0, 0), (1, none, .getfield 42, 3, 130, 116, 12), (4, none, .bipush 40, 2, 0, 40, 0), (6, none, .iload_n 1, 1, 0, 0, 0), (7, none, .imul, 1, 0, 0, 0), (8, none, .iload_n 2, 1, 0, 0, 0), (9, none, .iadd, 1, 0, 0, 0), (10, none, .saload, 1, 0, 0, 0), (11, none, .istore_n 3, 1, 0, 0, 0)] := fq_of2 cd_319 ow_319 cl_319 rfl (pc := 0) (by decide +kernel)
    j_aldn (pc := 0) D rfl rfl rfl fun D =>
    j_gfc (pc := 1) (a := 322) D rfl rfl (by decide) rfl (s0_322 H) rfl (sf_130_322 H) fun D =>
    j_bp (pc := 4) D rfl fun D =>
    j_ildn (pc := 6) D rfl rfl rfl fun D =>
    j_imul (pc := 7) D rfl fun D =>
    j_ildn (pc := 8) D rfl rfl rfl fun D =>
    j_iadd (pc := 9) D rfl fun D =>
    j_al (pc := 10) (a := 339) (e := 9) D rfl rfl rfl (by decide) (s0_339 H) (s1_339 H) ⟨rfl, rfl, rfl⟩ rfl gn fun qb1 D =>
    j_istn (pc := 11) (L' := [(3, (0, h 9 339 (wI ((wI (40 * x1)) + x2)).toNat)), (0, (4, 322)), (1, (0, x1)), (2, (0, x2))]) D rfl nl_319 rfl rfl fun D =>
    fk_jump cut_319_12 rfl rfl
/-! 320 StatuteHouse$Shelf.take(ILStatuteHouse$Shelf;ILStatuteHouse$Kind;)V -/
theorem cd_320 : fi_code 320 = prog_57_method_2_code := rfl
theorem hx_320 : ∀ pc, fi_hat 320 pc = none := fun pc => by unfold fi_hat; rw [show fi_hh 320 = [] from rfl]; rfl
theorem rt_320 : fi_ret 320 = none := rfl
theorem nl_320 : fi_nl 320 = 5 := rfl
theorem ow_320 : fi_ow 320 = 19 := rfl
theorem cl_320 : fj_cutT.getD 320 [] = [(105, [0, 1, 2, 3]), (159, [])] := rfl
theorem cut_320_105 : fj_cut 320 105 = some [0, 1, 2, 3] := by decide +kernel
noncomputable def c_320_105 (d : Nat) (x0 x1 x2 x3 : Int) (h : fi_H) : fk_R := gG (fj_run d) 320 105 [(0, (4, x0)), (1, (0, x1)), (2, (4, x2)), (3, (0, x3))] [] h
theorem cut_320_159 : fj_cut 320 159 = some [] := by decide +kernel
noncomputable def c_320_159 (d : Nat) (h : fi_H) : fk_R := gG (fj_run d) 320 159 [] [] h
theorem e_320_105 (d : Nat) (x0 x1 x2 x3 : Int) {h : fi_H} (H : Shp h) (hk : h 0 x0.toNat 0 = 119) : c_320_105 d x0 x1 x2 x3 h =
  if h 0 x2.toNat 0 = 119 then
  if h 0 (h 117 x2.toNat 0).toNat 0 = 10 ∧ 0 ≤ x3 ∧ x3 < h 1 (h 117 x2.toNat 0).toNat 0 then
  if 302 < h 117 x0.toNat 0 ∧ h 0 (h 117 x0.toNat 0).toNat 0 = 10 then
  if 0 ≤ x1 ∧ x1 < h 1 (h 117 x0.toNat 0).toNat 0 then
  lt_ (fi_upd h 10 (h 117 x0.toNat 0).toNat x1.toNat (h 10 (h 117 x2.toNat 0).toNat x3.toNat)) fun h2 =>
  some (.inl none, h2)
  else none
  else none
  else none
  else none := by
  unfold c_320_105
  exact
    have D : fk_D 320 [(105, some [0, 1, 2, 3], .aload_n 0, 1, 0, 0, 0), (106, none, .getfield 20, 3, 117, 119, 12), (109, none, .iload_n 1, 1, 0, 0, 0), (110, none, .aload_n 2, 1, 0, 0, 0), (111, none, .getfield 20, 3, 117, (-119), 12), (114, none, .iload_n 3, 1, 0, 0, 0), (115, none, .iaload, 1, 0, 0, 0), (116, none, .iastore, 1, 0, 0, 0), (117, none, .goto 72, 3, 189, 0, 0)] := fq_of2 cd_320 ow_320 cl_320 rfl (pc := 105) (by decide +kernel)
    j_aldn (pc := 105) D rfl rfl rfl fun D =>
    j_gf (pc := 106) (a := x0.toNat) D rfl rfl (nz_cls H.2.1 hk (by decide)) rfl hk rfl fun D =>
    j_ildn (pc := 109) D rfl rfl rfl fun D =>
    j_aldn (pc := 110) D rfl rfl rfl fun D =>
    j_gfo (pc := 111) H.2.1 D rfl rfl rfl rfl fun kc1 D =>
    j_ildn (pc := 114) D rfl rfl rfl fun D =>
    j_alp (pc := 115) (e := 10) H.2.1 D rfl rfl ⟨rfl, rfl, rfl⟩ rfl fun q q2 D =>
    j_asu (pc := 116) (e := 10) D rfl rfl ⟨rfl, rfl, rfl⟩ rfl gn gn (gy rfl) fun h2 eh2 S q q2 D =>
    have T := fj_hs_ok H.1 S
    have hk := cls_st H.1 T.2 hk (by decide)
    have kc1 := cls_st H.1 T.2 kc1 (by decide)
    have H := shp_st H T
    j_goto (pc := 117) D rfl <|
    have D : fk_D 320 [(189, none, .return_, 1, 0, 0, 0)] := fq_of2 cd_320 ow_320 cl_320 rfl (pc := 189) (by decide +kernel)
    j_vret D rt_320
theorem e_320_159 (d : Nat) {h : fi_H} (H : Shp h) : c_320_159 d h =
  some (.inl none, h) := by
  unfold c_320_159
  exact
    have D : fk_D 320 [(159, some [], .goto 30, 3, 189, 0, 0)] := fq_of2 cd_320 ow_320 cl_320 rfl (pc := 159) (by decide +kernel)
    j_goto (pc := 159) D rfl <|
    have D : fk_D 320 [(189, none, .return_, 1, 0, 0, 0)] := fq_of2 cd_320 ow_320 cl_320 rfl (pc := 189) (by decide +kernel)
    j_vret D rt_320
theorem m_320 (d : Nat) (x0 x1 x2 x3 x4 : Int) {h : fi_H} (H : Shp h) (hk : h 0 x0.toNat 0 = 119) : fj_run (d + 1) 320 h [(4, x0), (0, x1), (4, x2), (0, x3), (4, x4)] =
  dv_ (fi_vt 111 (h 0 x4.toNat 0)) fun m4 => ca_ (fj_run d m4 h [(4, x4)]) 0
    (fun v2 h1 =>
    if v2 = 0 then
      if h1 0 x2.toNat 0 = 119 then
      if fi_et 1 (h1 0 (h1 114 x2.toNat 0).toNat 0) ≠ 0 ∧ 0 ≤ x3 ∧ x3 < h1 1 (h1 114 x2.toNat 0).toNat 0 then
      if 302 < h1 114 x0.toNat 0 ∧ fi_et 1 (h1 0 (h1 114 x0.toNat 0).toNat 0) ≠ 0 then
      if 0 ≤ x1 ∧ x1 < h1 1 (h1 114 x0.toNat 0).toNat 0 then
      if fi_rg (fi_et 1 (h1 0 (h1 114 x0.toNat 0).toNat 0)) (h1 (fi_et 1 (h1 0 (h1 114 x2.toNat 0).toNat 0)) (h1 114 x2.toNat 0).toNat x3.toNat) = true then
      lt_ (fi_upd h1 (fi_et 1 (h1 0 (h1 114 x0.toNat 0).toNat 0)) (h1 114 x0.toNat 0).toNat x1.toNat (h1 (fi_et 1 (h1 0 (h1 114 x2.toNat 0).toNat 0)) (h1 114 x2.toNat 0).toNat x3.toNat)) fun h6 =>
      some (.inl none, h6)
      else none
      else none
      else none
      else none
      else none
    else if v2 = 1 then
      if h1 0 x2.toNat 0 = 119 then
      if h1 0 (h1 115 x2.toNat 0).toNat 0 = 10 ∧ 0 ≤ x3 ∧ x3 < h1 1 (h1 115 x2.toNat 0).toNat 0 then
      if 302 < h1 115 x0.toNat 0 ∧ h1 0 (h1 115 x0.toNat 0).toNat 0 = 10 then
      if 0 ≤ x1 ∧ x1 < h1 1 (h1 115 x0.toNat 0).toNat 0 then
      lt_ (fi_upd h1 10 (h1 115 x0.toNat 0).toNat x1.toNat (h1 10 (h1 115 x2.toNat 0).toNat x3.toNat)) fun h8 =>
      some (.inl none, h8)
      else none
      else none
      else none
      else none
    else if v2 = 2 then
      if h1 0 x2.toNat 0 = 119 then
      if h1 0 (h1 119 x2.toNat 0).toNat 0 = 11 ∧ 0 ≤ x3 ∧ x3 < h1 1 (h1 119 x2.toNat 0).toNat 0 then
      if 302 < h1 119 x0.toNat 0 ∧ h1 0 (h1 119 x0.toNat 0).toNat 0 = 11 then
      if 0 ≤ x1 ∧ x1 < h1 1 (h1 119 x0.toNat 0).toNat 0 then
      lt_ (fi_upd h1 11 (h1 119 x0.toNat 0).toNat x1.toNat (h1 11 (h1 119 x2.toNat 0).toNat x3.toNat)) fun h10 =>
      some (.inl none, h10)
      else none
      else none
      else none
      else none
    else if v2 = 3 then
      if h1 0 x2.toNat 0 = 119 then
      if h1 0 (h1 116 x2.toNat 0).toNat 0 = 10 ∧ 0 ≤ x3 ∧ x3 < h1 1 (h1 116 x2.toNat 0).toNat 0 then
      if 302 < h1 116 x0.toNat 0 ∧ h1 0 (h1 116 x0.toNat 0).toNat 0 = 10 then
      if 0 ≤ x1 ∧ x1 < h1 1 (h1 116 x0.toNat 0).toNat 0 then
      lt_ (fi_upd h1 10 (h1 116 x0.toNat 0).toNat x1.toNat (h1 10 (h1 116 x2.toNat 0).toNat x3.toNat)) fun h12 =>
      c_320_105 d x0 x1 x2 x3 h12
      else none
      else none
      else none
      else none
    else if v2 = 4 then
      if h1 0 x2.toNat 0 = 119 then
      if h1 0 (h1 120 x2.toNat 0).toNat 0 = 5 ∧ 0 ≤ x3 ∧ x3 < h1 1 (h1 120 x2.toNat 0).toNat 0 then
      if 302 < h1 120 x0.toNat 0 ∧ h1 0 (h1 120 x0.toNat 0).toNat 0 = 5 then
      if 0 ≤ x1 ∧ x1 < h1 1 (h1 120 x0.toNat 0).toNat 0 then
      if fi_rg 5 (h1 5 (h1 120 x2.toNat 0).toNat x3.toNat) = true then
      lt_ (fi_upd h1 5 (h1 120 x0.toNat 0).toNat x1.toNat (h1 5 (h1 120 x2.toNat 0).toNat x3.toNat)) fun h14 =>
      some (.inl none, h14)
      else none
      else none
      else none
      else none
      else none
    else if v2 = 5 then
      if h1 0 x2.toNat 0 = 119 then
      if h1 0 (h1 121 x2.toNat 0).toNat 0 = 9 ∧ 0 ≤ x3 ∧ x3 < h1 1 (h1 121 x2.toNat 0).toNat 0 then
      if 302 < h1 121 x0.toNat 0 ∧ h1 0 (h1 121 x0.toNat 0).toNat 0 = 9 then
      if 0 ≤ x1 ∧ x1 < h1 1 (h1 121 x0.toNat 0).toNat 0 then
      if fi_rg 9 (h1 9 (h1 121 x2.toNat 0).toNat x3.toNat) = true then
      lt_ (fi_upd h1 9 (h1 121 x0.toNat 0).toNat x1.toNat (h1 9 (h1 121 x2.toNat 0).toNat x3.toNat)) fun h16 =>
      if h16 0 (h16 118 x2.toNat 0).toNat 0 = 10 ∧ 0 ≤ x3 ∧ x3 < h16 1 (h16 118 x2.toNat 0).toNat 0 then
      if 302 < h16 118 x0.toNat 0 ∧ h16 0 (h16 118 x0.toNat 0).toNat 0 = 10 then
      if 0 ≤ x1 ∧ x1 < h16 1 (h16 118 x0.toNat 0).toNat 0 then
      lt_ (fi_upd h16 10 (h16 118 x0.toNat 0).toNat x1.toNat (h16 10 (h16 118 x2.toNat 0).toNat x3.toNat)) fun h17 =>
      c_320_159 d h17
      else none
      else none
      else none
      else none
      else none
      else none
      else none
      else none
    else if v2 = 6 then
      if h1 0 x2.toNat 0 = 119 then
      if h1 0 (h1 122 x2.toNat 0).toNat 0 = 7 ∧ 0 ≤ x3 ∧ x3 < h1 1 (h1 122 x2.toNat 0).toNat 0 then
      if 302 < h1 122 x0.toNat 0 ∧ h1 0 (h1 122 x0.toNat 0).toNat 0 = 7 then
      if 0 ≤ x1 ∧ x1 < h1 1 (h1 122 x0.toNat 0).toNat 0 then
      lt_ (fi_upd h1 7 (h1 122 x0.toNat 0).toNat x1.toNat (h1 7 (h1 122 x2.toNat 0).toNat x3.toNat)) fun h19 =>
      some (.inl none, h19)
      else none
      else none
      else none
      else none
    else 
      if h1 0 x2.toNat 0 = 119 then
      if fi_et 1 (h1 0 (h1 123 x2.toNat 0).toNat 0) ≠ 0 ∧ 0 ≤ x3 ∧ x3 < h1 1 (h1 123 x2.toNat 0).toNat 0 then
      if 302 < h1 123 x0.toNat 0 ∧ fi_et 1 (h1 0 (h1 123 x0.toNat 0).toNat 0) ≠ 0 then
      if 0 ≤ x1 ∧ x1 < h1 1 (h1 123 x0.toNat 0).toNat 0 then
      if fi_rg (fi_et 1 (h1 0 (h1 123 x0.toNat 0).toNat 0)) (h1 (fi_et 1 (h1 0 (h1 123 x2.toNat 0).toNat 0)) (h1 123 x2.toNat 0).toNat x3.toNat) = true then
      lt_ (fi_upd h1 (fi_et 1 (h1 0 (h1 123 x0.toNat 0).toNat 0)) (h1 123 x0.toNat 0).toNat x1.toNat (h1 (fi_et 1 (h1 0 (h1 123 x2.toNat 0).toNat 0)) (h1 123 x2.toNat 0).toNat x3.toNat)) fun h21 =>
      some (.inl none, h21)
      else none
      else none
      else none
      else none
      else none)
    (fun q3 h1 => tx_ q3 h1) := by
  rw [fj_run_eq d (by decide) h [(4, x0), (0, x1), (4, x2), (0, x3), (4, x4)] (Nat.le_of_ble_eq_true (by rw [nl_320]; rfl))]
  show gG (fj_run d) 320 0 [(0, (4, x0)), (1, (0, x1)), (2, (4, x2)), (3, (0, x3)), (4, (4, x4))] [] h = _
  exact
    have D : fk_D 320 [(0, none, .aload 4, 2, 0, 0, 0), (2, none, .invokevirtual 46, 3, 0, 111, 1), (5, none, .tableswitch 172 0 6 #[43, 58, 73, 88, 115, 130, 157], 43, 0, 0, 0)] := fq_of3 cd_320 ow_320 cl_320 rfl (pc := 0) (by decide +kernel)
    j_ald (pc := 0) D rfl rfl rfl fun D =>
    j_ivu (pc := 2) (dd := 111) (a := []) (rest := []) H.2.1 D rfl rfl rfl rfl rfl (fun m4 v2 h1 e1 D =>
      have T := fj_run_ok _ _ _ _ _ _ H.1 e1
      have hk := cls_st H.1 T.2 hk (by decide)
      have H := shp_st H T
      have N : fk_ni (v2) [] := trivial
      j_tc (pc := 5) 0 (t := 48) D N rfl (by decide +kernel) (fun q =>
        have D : fk_D 320 [(48, none, .aload_n 0, 1, 0, 0, 0), (49, none, .getfield 7, 3, 114, 119, 12), (52, none, .iload_n 1, 1, 0, 0, 0), (53, none, .aload_n 2, 1, 0, 0, 0), (54, none, .getfield 7, 3, 114, (-119), 12), (57, none, .iload_n 3, 1, 0, 0, 0), (58, none, .baload, 1, 0, 0, 0), (59, none, .bastore, 1, 0, 0, 0), (60, none, .goto 129, 3, 189, 0, 0)] := fq_of2 cd_320 ow_320 cl_320 rfl (pc := 48) (by decide +kernel)
        j_aldn (pc := 48) D rfl rfl rfl fun D =>
        j_gf (pc := 49) (a := x0.toNat) D rfl rfl (nz_cls H.2.1 hk (by decide)) rfl hk rfl fun D =>
        j_ildn (pc := 52) D rfl rfl rfl fun D =>
        j_aldn (pc := 53) D rfl rfl rfl fun D =>
        j_gfo (pc := 54) H.2.1 D rfl rfl rfl rfl fun kc5 D =>
        j_ildn (pc := 57) D rfl rfl rfl fun D =>
        j_alb (pc := 58) H.2.1 D rfl rfl fun q q2 D =>
        j_asub (pc := 59) D rfl rfl gn gn gn fun h6 eh6 S q q2 D =>
        have T := fj_hs_ok H.1 S
        have hk := cls_st H.1 T.2 hk (by decide)
        have kc5 := cls_st H.1 T.2 kc5 (by decide)
        have H := shp_st H T
        j_goto (pc := 60) D rfl <|
        have D : fk_D 320 [(189, none, .return_, 1, 0, 0, 0)] := fq_of2 cd_320 ow_320 cl_320 rfl (pc := 189) (by decide +kernel)
        j_vret D rt_320) (fun N =>
        j_tc 1 (t := 63) D N rfl (by decide +kernel) (fun q =>
          have D : fk_D 320 [(63, none, .aload_n 0, 1, 0, 0, 0), (64, none, .getfield 13, 3, 115, 119, 12), (67, none, .iload_n 1, 1, 0, 0, 0), (68, none, .aload_n 2, 1, 0, 0, 0), (69, none, .getfield 13, 3, 115, (-119), 12), (72, none, .iload_n 3, 1, 0, 0, 0), (73, none, .iaload, 1, 0, 0, 0), (74, none, .iastore, 1, 0, 0, 0), (75, none, .goto 114, 3, 189, 0, 0)] := fq_of2 cd_320 ow_320 cl_320 rfl (pc := 63) (by decide +kernel)
          j_aldn (pc := 63) D rfl rfl rfl fun D =>
          j_gf (pc := 64) (a := x0.toNat) D rfl rfl (nz_cls H.2.1 hk (by decide)) rfl hk rfl fun D =>
          j_ildn (pc := 67) D rfl rfl rfl fun D =>
          j_aldn (pc := 68) D rfl rfl rfl fun D =>
          j_gfo (pc := 69) H.2.1 D rfl rfl rfl rfl fun kc7 D =>
          j_ildn (pc := 72) D rfl rfl rfl fun D =>
          j_alp (pc := 73) (e := 10) H.2.1 D rfl rfl ⟨rfl, rfl, rfl⟩ rfl fun q q2 D =>
          j_asu (pc := 74) (e := 10) D rfl rfl ⟨rfl, rfl, rfl⟩ rfl gn gn (gy rfl) fun h8 eh8 S q q2 D =>
          have T := fj_hs_ok H.1 S
          have hk := cls_st H.1 T.2 hk (by decide)
          have kc7 := cls_st H.1 T.2 kc7 (by decide)
          have H := shp_st H T
          j_goto (pc := 75) D rfl <|
          have D : fk_D 320 [(189, none, .return_, 1, 0, 0, 0)] := fq_of2 cd_320 ow_320 cl_320 rfl (pc := 189) (by decide +kernel)
          j_vret D rt_320) (fun N =>
          j_tc 2 (t := 78) D N rfl (by decide +kernel) (fun q =>
            have D : fk_D 320 [(78, none, .aload_n 0, 1, 0, 0, 0), (79, none, .getfield 26, 3, 119, 119, 12), (82, none, .iload_n 1, 1, 0, 0, 0), (83, none, .aload_n 2, 1, 0, 0, 0), (84, none, .getfield 26, 3, 119, (-119), 12), (87, none, .iload_n 3, 1, 0, 0, 0), (88, none, .laload, 1, 0, 0, 0), (89, none, .lastore, 1, 0, 0, 0), (90, none, .goto 99, 3, 189, 0, 0)] := fq_of2 cd_320 ow_320 cl_320 rfl (pc := 78) (by decide +kernel)
            j_aldn (pc := 78) D rfl rfl rfl fun D =>
            j_gf (pc := 79) (a := x0.toNat) D rfl rfl (nz_cls H.2.1 hk (by decide)) rfl hk rfl fun D =>
            j_ildn (pc := 82) D rfl rfl rfl fun D =>
            j_aldn (pc := 83) D rfl rfl rfl fun D =>
            j_gfo (pc := 84) H.2.1 D rfl rfl rfl rfl fun kc9 D =>
            j_ildn (pc := 87) D rfl rfl rfl fun D =>
            j_alp (pc := 88) (e := 11) H.2.1 D rfl rfl ⟨rfl, rfl, rfl⟩ rfl fun q q2 D =>
            j_asu (pc := 89) (e := 11) D rfl rfl ⟨rfl, rfl, rfl⟩ rfl gn gn (gy rfl) fun h10 eh10 S q q2 D =>
            have T := fj_hs_ok H.1 S
            have hk := cls_st H.1 T.2 hk (by decide)
            have kc9 := cls_st H.1 T.2 kc9 (by decide)
            have H := shp_st H T
            j_goto (pc := 90) D rfl <|
            have D : fk_D 320 [(189, none, .return_, 1, 0, 0, 0)] := fq_of2 cd_320 ow_320 cl_320 rfl (pc := 189) (by decide +kernel)
            j_vret D rt_320) (fun N =>
            j_tc 3 (t := 93) D N rfl (by decide +kernel) (fun q =>
              have D : fk_D 320 [(93, none, .aload_n 0, 1, 0, 0, 0), (94, none, .getfield 17, 3, 116, 119, 12), (97, none, .iload_n 1, 1, 0, 0, 0), (98, none, .aload_n 2, 1, 0, 0, 0), (99, none, .getfield 17, 3, 116, (-119), 12), (102, none, .iload_n 3, 1, 0, 0, 0), (103, none, .iaload, 1, 0, 0, 0), (104, none, .iastore, 1, 0, 0, 0)] := fq_of2 cd_320 ow_320 cl_320 rfl (pc := 93) (by decide +kernel)
              j_aldn (pc := 93) D rfl rfl rfl fun D =>
              j_gf (pc := 94) (a := x0.toNat) D rfl rfl (nz_cls H.2.1 hk (by decide)) rfl hk rfl fun D =>
              j_ildn (pc := 97) D rfl rfl rfl fun D =>
              j_aldn (pc := 98) D rfl rfl rfl fun D =>
              j_gfo (pc := 99) H.2.1 D rfl rfl rfl rfl fun kc11 D =>
              j_ildn (pc := 102) D rfl rfl rfl fun D =>
              j_alp (pc := 103) (e := 10) H.2.1 D rfl rfl ⟨rfl, rfl, rfl⟩ rfl fun q q2 D =>
              j_asu (pc := 104) (e := 10) D rfl rfl ⟨rfl, rfl, rfl⟩ rfl gn gn (gy rfl) fun h12 eh12 S q q2 D =>
              have T := fj_hs_ok H.1 S
              have hk := cls_st H.1 T.2 hk (by decide)
              have kc11 := cls_st H.1 T.2 kc11 (by decide)
              have H := shp_st H T
              fk_jump cut_320_105 rfl rfl) (fun N =>
              j_tc 4 (t := 120) D N rfl (by decide +kernel) (fun q =>
                have D : fk_D 320 [(120, none, .aload_n 0, 1, 0, 0, 0), (121, none, .getfield 30, 3, 120, 119, 12), (124, none, .iload_n 1, 1, 0, 0, 0), (125, none, .aload_n 2, 1, 0, 0, 0), (126, none, .getfield 30, 3, 120, (-119), 12), (129, none, .iload_n 3, 1, 0, 0, 0), (130, none, .caload, 1, 0, 0, 0), (131, none, .castore, 1, 0, 0, 0), (132, none, .goto 57, 3, 189, 0, 0)] := fq_of2 cd_320 ow_320 cl_320 rfl (pc := 120) (by decide +kernel)
                j_aldn (pc := 120) D rfl rfl rfl fun D =>
                j_gf (pc := 121) (a := x0.toNat) D rfl rfl (nz_cls H.2.1 hk (by decide)) rfl hk rfl fun D =>
                j_ildn (pc := 124) D rfl rfl rfl fun D =>
                j_aldn (pc := 125) D rfl rfl rfl fun D =>
                j_gfo (pc := 126) H.2.1 D rfl rfl rfl rfl fun kc13 D =>
                j_ildn (pc := 129) D rfl rfl rfl fun D =>
                j_alp (pc := 130) (e := 5) H.2.1 D rfl rfl ⟨rfl, rfl, rfl⟩ rfl fun q q2 D =>
                j_asu (pc := 131) (e := 5) D rfl rfl ⟨rfl, rfl, rfl⟩ rfl gn gn gn fun h14 eh14 S q q2 D =>
                have T := fj_hs_ok H.1 S
                have hk := cls_st H.1 T.2 hk (by decide)
                have kc13 := cls_st H.1 T.2 kc13 (by decide)
                have H := shp_st H T
                j_goto (pc := 132) D rfl <|
                have D : fk_D 320 [(189, none, .return_, 1, 0, 0, 0)] := fq_of2 cd_320 ow_320 cl_320 rfl (pc := 189) (by decide +kernel)
                j_vret D rt_320) (fun N =>
                j_tc 5 (t := 135) D N rfl (by decide +kernel) (fun q =>
                  have D : fk_D 320 [(135, none, .aload_n 0, 1, 0, 0, 0), (136, none, .getfield 34, 3, 121, 119, 12), (139, none, .iload_n 1, 1, 0, 0, 0), (140, none, .aload_n 2, 1, 0, 0, 0), (141, none, .getfield 34, 3, 121, (-119), 12), (144, none, .iload_n 3, 1, 0, 0, 0), (145, none, .saload, 1, 0, 0, 0), (146, none, .sastore, 1, 0, 0, 0), (147, none, .aload_n 0, 1, 0, 0, 0), (148, none, .getfield 23, 3, 118, 119, 12), (151, none, .iload_n 1, 1, 0, 0, 0), (152, none, .aload_n 2, 1, 0, 0, 0), (153, none, .getfield 23, 3, 118, 119, 12), (156, none, .iload_n 3, 1, 0, 0, 0), (157, none, .iaload, 1, 0, 0, 0), (158, none, .iastore, 1, 0, 0, 0)] := fq_of2 cd_320 ow_320 cl_320 rfl (pc := 135) (by decide +kernel)
                  j_aldn (pc := 135) D rfl rfl rfl fun D =>
                  j_gf (pc := 136) (a := x0.toNat) D rfl rfl (nz_cls H.2.1 hk (by decide)) rfl hk rfl fun D =>
                  j_ildn (pc := 139) D rfl rfl rfl fun D =>
                  j_aldn (pc := 140) D rfl rfl rfl fun D =>
                  j_gfo (pc := 141) H.2.1 D rfl rfl rfl rfl fun kc15 D =>
                  j_ildn (pc := 144) D rfl rfl rfl fun D =>
                  j_alp (pc := 145) (e := 9) H.2.1 D rfl rfl ⟨rfl, rfl, rfl⟩ rfl fun q q2 D =>
                  j_asu (pc := 146) (e := 9) D rfl rfl ⟨rfl, rfl, rfl⟩ rfl gn gn gn fun h16 eh16 S q q2 D =>
                  have T := fj_hs_ok H.1 S
                  have hk := cls_st H.1 T.2 hk (by decide)
                  have kc15 := cls_st H.1 T.2 kc15 (by decide)
                  have H := shp_st H T
                  j_aldn (pc := 147) D rfl rfl rfl fun D =>
                  j_gf (pc := 148) (a := x0.toNat) D rfl rfl (nz_cls H.2.1 hk (by decide)) rfl hk rfl fun D =>
                  j_ildn (pc := 151) D rfl rfl rfl fun D =>
                  j_aldn (pc := 152) D rfl rfl rfl fun D =>
                  j_gf (pc := 153) (a := x2.toNat) D rfl rfl (nz_cls H.2.1 kc15 (by decide)) rfl kc15 rfl fun D =>
                  j_ildn (pc := 156) D rfl rfl rfl fun D =>
                  j_alp (pc := 157) (e := 10) H.2.1 D rfl rfl ⟨rfl, rfl, rfl⟩ rfl fun q q2 D =>
                  j_asu (pc := 158) (e := 10) D rfl rfl ⟨rfl, rfl, rfl⟩ rfl gn gn (gy rfl) fun h17 eh17 S q q2 D =>
                  have T := fj_hs_ok H.1 S
                  have hk := cls_st H.1 T.2 hk (by decide)
                  have kc15 := cls_st H.1 T.2 kc15 (by decide)
                  have H := shp_st H T
                  fk_jump cut_320_159 rfl rfl) (fun N =>
                  j_tc 6 (t := 162) D N rfl (by decide +kernel) (fun q =>
                    have D : fk_D 320 [(162, none, .aload_n 0, 1, 0, 0, 0), (163, none, .getfield 38, 3, 122, 119, 12), (166, none, .iload_n 1, 1, 0, 0, 0), (167, none, .aload_n 2, 1, 0, 0, 0), (168, none, .getfield 38, 3, 122, (-119), 12), (171, none, .iload_n 3, 1, 0, 0, 0), (172, none, .daload, 1, 0, 0, 0), (173, none, .dastore, 1, 0, 0, 0), (174, none, .goto 15, 3, 189, 0, 0)] := fq_of2 cd_320 ow_320 cl_320 rfl (pc := 162) (by decide +kernel)
                    j_aldn (pc := 162) D rfl rfl rfl fun D =>
                    j_gf (pc := 163) (a := x0.toNat) D rfl rfl (nz_cls H.2.1 hk (by decide)) rfl hk rfl fun D =>
                    j_ildn (pc := 166) D rfl rfl rfl fun D =>
                    j_aldn (pc := 167) D rfl rfl rfl fun D =>
                    j_gfo (pc := 168) H.2.1 D rfl rfl rfl rfl fun kc18 D =>
                    j_ildn (pc := 171) D rfl rfl rfl fun D =>
                    j_alp (pc := 172) (e := 7) H.2.1 D rfl rfl ⟨rfl, rfl, rfl⟩ rfl fun q q2 D =>
                    j_asu (pc := 173) (e := 7) D rfl rfl ⟨rfl, rfl, rfl⟩ rfl gn gn (gy rfl) fun h19 eh19 S q q2 D =>
                    have T := fj_hs_ok H.1 S
                    have hk := cls_st H.1 T.2 hk (by decide)
                    have kc18 := cls_st H.1 T.2 kc18 (by decide)
                    have H := shp_st H T
                    j_goto (pc := 174) D rfl <|
                    have D : fk_D 320 [(189, none, .return_, 1, 0, 0, 0)] := fq_of2 cd_320 ow_320 cl_320 rfl (pc := 189) (by decide +kernel)
                    j_vret D rt_320) (fun N =>
                    j_td (t := 177) D N rfl (by decide +kernel) (by decide +kernel) <|
                    have D : fk_D 320 [(177, none, .aload_n 0, 1, 0, 0, 0), (178, none, .getfield 42, 3, 123, 119, 12), (181, none, .iload_n 1, 1, 0, 0, 0), (182, none, .aload_n 2, 1, 0, 0, 0), (183, none, .getfield 42, 3, 123, (-119), 12), (186, none, .iload_n 3, 1, 0, 0, 0), (187, none, .baload, 1, 0, 0, 0), (188, none, .bastore, 1, 0, 0, 0), (189, none, .return_, 1, 0, 0, 0)] := fq_of2 cd_320 ow_320 cl_320 rfl (pc := 177) (by decide +kernel)
                    j_aldn (pc := 177) D rfl rfl rfl fun D =>
                    j_gf (pc := 178) (a := x0.toNat) D rfl rfl (nz_cls H.2.1 hk (by decide)) rfl hk rfl fun D =>
                    j_ildn (pc := 181) D rfl rfl rfl fun D =>
                    j_aldn (pc := 182) D rfl rfl rfl fun D =>
                    j_gfo (pc := 183) H.2.1 D rfl rfl rfl rfl fun kc20 D =>
                    j_ildn (pc := 186) D rfl rfl rfl fun D =>
                    j_alb (pc := 187) H.2.1 D rfl rfl fun q q2 D =>
                    j_asub (pc := 188) D rfl rfl gn gn gn fun h21 eh21 S q q2 D =>
                    have T := fj_hs_ok H.1 S
                    have hk := cls_st H.1 T.2 hk (by decide)
                    have kc20 := cls_st H.1 T.2 kc20 (by decide)
                    have H := shp_st H T
                    j_vret D rt_320)))))))) (fun m4 q3 h1 e1 =>
      j_tx (hx_320 _))
/-! 321 StatuteHouse.valued(IIILStatuteHouse$Kind;)V -/
theorem cd_321 : fi_code 321 = prog_1_method_40_code := rfl
theorem hx_321 : ∀ pc, fi_hat 321 pc = none := fun pc => by unfold fi_hat; rw [show fi_hh 321 = [] from rfl]; rfl
theorem rt_321 : fi_ret 321 = none := rfl
theorem nl_321 : fi_nl 321 = 5 := rfl
theorem ow_321 : fi_ow 321 = 0 := rfl
theorem cl_321 : fj_cutT.getD 321 [] = [] := rfl
theorem m_321 (d : Nat) (x1 x2 x3 x4 : Int) {h : fi_H} (H : Shp h) : fj_run (d + 1) 321 h [(4, 303), (0, x1), (0, x2), (0, x3), (4, x4)] =
  if x1 = (-1) then
    some (.inl none, h)
  else
    if 0 ≤ x1 ∧ x1 < 300 then
    lt_ (fi_upd h 8 370 x1.toNat (wB x2)) fun h1 =>
    lt_ (fi_upd h1 4 375 x1.toNat 1) fun h3 =>
    ca_ (fj_run d 322 h3 [(4, 309), (0, x3), (4, x4)]) 1
      (fun v5 h4 =>
      lt_ (fi_upd h4 11 373 x1.toNat v5) fun h7 =>
      ca_ (fj_run d 325 h7 [(4, 309), (0, x3), (4, x4)]) 1
        (fun v9 h8 =>
        lt_ (fi_upd h8 11 374 x1.toNat v9) fun h11 =>
        some (.inl none, h11))
        (fun q10 h8 => tx_ q10 h8))
      (fun q6 h4 => tx_ q6 h4)
    else none := by
  rw [fj_run_eq d (by decide) h [(4, 303), (0, x1), (0, x2), (0, x3), (4, x4)] (Nat.le_of_ble_eq_true (by rw [nl_321]; rfl))]
  show gG (fj_run d) 321 0 [(0, (4, 303)), (1, (0, x1)), (2, (0, x2)), (3, (0, x3)), (4, (4, x4))] [] h = _
  exact
    have D : fk_D 321 [(0, none, .iload_n 1, 1, 0, 0, 0), (1, none, .iconst (-1), 1, 0, (-1), 0), (2, none, .if_icmp .ne 4, 3, 6, 0, 0), (5, none, .return_, 1, 0, 0, 0)] := fq_of2 cd_321 ow_321 cl_321 rfl (pc := 0) (by decide +kernel)
    j_ildn (pc := 0) D rfl rfl rfl fun D =>
    j_ic (pc := 1) D rfl fun D =>
    j_ine (pc := 2) D rfl (fun q D =>
      j_vret D rt_321) (fun q =>
      have D : fk_D 321 [(6, none, .aload_n 0, 1, 0, 0, 0), (7, none, .getfield 436, 3, 257, 100, 12), (10, none, .iload_n 1, 1, 0, 0, 0), (11, none, .iload_n 2, 1, 0, 0, 0), (12, none, .i2b, 1, 0, 0, 0), (13, none, .bastore, 1, 0, 0, 0), (14, none, .aload_n 0, 1, 0, 0, 0), (15, none, .getfield 439, 3, 262, 100, 12), (18, none, .iload_n 1, 1, 0, 0, 0), (19, none, .iconst 1, 1, 0, 1, 0), (20, none, .bastore, 1, 0, 0, 0), (21, none, .aload_n 0, 1, 0, 0, 0), (22, none, .getfield 442, 3, 260, 100, 12), (25, none, .iload_n 1, 1, 0, 0, 0), (26, none, .aload_n 0, 1, 0, 0, 0), (27, none, .getfield 113, 3, 213, 100, 12), (30, none, .iload_n 3, 1, 0, 0, 0), (31, none, .aload 4, 2, 0, 0, 0), (33, none, .invokevirtual 200, 3, 2, 124, 2), (36, none, .lastore, 1, 0, 0, 0)] := fq_of2 cd_321 ow_321 cl_321 rfl (pc := 6) (by decide +kernel)
      j_aldn (pc := 6) D rfl rfl rfl fun D =>
      j_gfc (pc := 7) (a := 303) D rfl rfl (by decide) rfl (s0_303 H) rfl (sf_257_303 H) fun D =>
      j_ildn (pc := 10) D rfl rfl rfl fun D =>
      j_ildn (pc := 11) D rfl rfl rfl fun D =>
      j_i2b (pc := 12) D rfl fun D =>
      j_as (pc := 13) (a := 370) (e := 8) D rfl ⟨rfl, rfl⟩ rfl (by decide) (s0_370 H) (s1_370 H) ⟨rfl, rfl, rfl⟩ rfl gn (gy (fk_rgB _)) fun h1 eh1 S qb2 D =>
      have T := fj_hs_ok H.1 S
      have H := shp_st H T
      j_aldn (pc := 14) D rfl rfl rfl fun D =>
      j_gfc (pc := 15) (a := 303) D rfl rfl (by decide) rfl (s0_303 H) rfl (sf_262_303 H) fun D =>
      j_ildn (pc := 18) D rfl rfl rfl fun D =>
      j_ic (pc := 19) D rfl fun D =>
      j_as (pc := 20) (a := 375) (e := 4) D rfl ⟨rfl, rfl⟩ rfl (by decide) (s0_375 H) (s1_375 H) ⟨rfl, rfl, rfl⟩ rfl (gy qb2) (gy (by decide)) fun h3 eh3 S q D =>
      have T := fj_hs_ok H.1 S
      have H := shp_st H T
      j_aldn (pc := 21) D rfl rfl rfl fun D =>
      j_gfc (pc := 22) (a := 303) D rfl rfl (by decide) rfl (s0_303 H) rfl (sf_260_303 H) fun D =>
      j_ildn (pc := 25) D rfl rfl rfl fun D =>
      j_aldn (pc := 26) D rfl rfl rfl fun D =>
      j_gfc (pc := 27) (a := 303) D rfl rfl (by decide) rfl (s0_303 H) rfl (sf_213_303 H) fun D =>
      j_ildn (pc := 30) D rfl rfl rfl fun D =>
      j_ald (pc := 31) D rfl rfl rfl fun D =>
      j_iv (pc := 33) (m := 322) (dd := 124) (a := [(0, x3), (4, x4)]) (rest := [(0, x1), (4, 373)]) D rfl rfl rfl rfl rfl (by decide) (s0_309 H) (by decide +kernel) (fun v5 h4 e1 D =>
        have T := fj_run_ok _ _ _ _ _ _ H.1 e1
        have H := shp_st H T
        j_as (pc := 36) (a := 373) (e := 11) D rfl ⟨rfl, rfl⟩ rfl (by decide) (s0_373 H) (s1_373 H) ⟨rfl, rfl, rfl⟩ rfl (gy qb2) (gy rfl) fun h7 eh7 S q D =>
        have T := fj_hs_ok H.1 S
        have H := shp_st H T
        have D : fk_D 321 [(37, none, .aload_n 0, 1, 0, 0, 0), (38, none, .getfield 445, 3, 261, 100, 12), (41, none, .iload_n 1, 1, 0, 0, 0), (42, none, .aload_n 0, 1, 0, 0, 0), (43, none, .getfield 113, 3, 213, 100, 12), (46, none, .iload_n 3, 1, 0, 0, 0), (47, none, .aload 4, 2, 0, 0, 0), (49, none, .invokevirtual 448, 3, 2, 137, 2), (52, none, .lastore, 1, 0, 0, 0), (53, none, .return_, 1, 0, 0, 0)] := fq_of2 cd_321 ow_321 cl_321 rfl (pc := 37) (by decide +kernel)
        j_aldn (pc := 37) D rfl rfl rfl fun D =>
        j_gfc (pc := 38) (a := 303) D rfl rfl (by decide) rfl (s0_303 H) rfl (sf_261_303 H) fun D =>
        j_ildn (pc := 41) D rfl rfl rfl fun D =>
        j_aldn (pc := 42) D rfl rfl rfl fun D =>
        j_gfc (pc := 43) (a := 303) D rfl rfl (by decide) rfl (s0_303 H) rfl (sf_213_303 H) fun D =>
        j_ildn (pc := 46) D rfl rfl rfl fun D =>
        j_ald (pc := 47) D rfl rfl rfl fun D =>
        j_iv (pc := 49) (m := 325) (dd := 137) (a := [(0, x3), (4, x4)]) (rest := [(0, x1), (4, 374)]) D rfl rfl rfl rfl rfl (by decide) (s0_309 H) (by decide +kernel) (fun v9 h8 e1 D =>
          have T := fj_run_ok _ _ _ _ _ _ H.1 e1
          have H := shp_st H T
          j_as (pc := 52) (a := 374) (e := 11) D rfl ⟨rfl, rfl⟩ rfl (by decide) (s0_374 H) (s1_374 H) ⟨rfl, rfl, rfl⟩ rfl (gy qb2) (gy rfl) fun h11 eh11 S q D =>
          have T := fj_hs_ok H.1 S
          have H := shp_st H T
          j_vret D rt_321) (fun q10 h8 e1 =>
          j_tx (hx_321 _))) (fun q6 h4 e1 =>
        j_tx (hx_321 _)))
