/-! forms of methods 322..343, printed by gen/forms.py -/
set_option maxRecDepth 100000
/-! 322 StatuteHouse$Shelf.first(ILStatuteHouse$Kind;)J -/
theorem cd_322 : fi_code 322 = prog_57_method_3_code := rfl
theorem hx_322 : ∀ pc, fi_hat 322 pc = none := fun pc => by unfold fi_hat; rw [show fi_hh 322 = [] from rfl]; rfl
theorem rt_322 : fi_ret 322 = some .long := rfl
theorem nl_322 : fi_nl 322 = 3 := rfl
theorem ow_322 : fi_ow 322 = 19 := rfl
theorem cl_322 : fj_cutT.getD 322 [] = [(102, [0, 1])] := rfl
theorem cut_322_102 : fj_cut 322 102 = some [0, 1] := by decide +kernel
noncomputable def c_322_102 (d : Nat) (x0 x1 : Int) (h : fi_H) : fk_R := gG (fj_run d) 322 102 [(0, (4, x0)), (1, (0, x1))] [] h
theorem e_322_102 (d : Nat) (x0 x1 : Int) {h : fi_H} (H : Shp h) (hk : h 0 x0.toNat 0 = 119) : c_322_102 d x0 x1 h =
  if h 0 (h 122 x0.toNat 0).toNat 0 = 7 ∧ 0 ≤ x1 ∧ x1 < h 1 (h 122 x0.toNat 0).toNat 0 then
  ca_ (fj_run d 323 h [(3, h 7 (h 122 x0.toNat 0).toNat x1.toNat)]) 1
    (fun v2 h1 =>
    some (.inl (some (1, v2)), h1))
    (fun q3 h1 => tx_ q3 h1)
  else none := by
  unfold c_322_102
  exact
    have D : fk_D 322 [(102, some [0, 1], .aload_n 0, 1, 0, 0, 0), (103, none, .getfield 38, 3, 122, 119, 12), (106, none, .iload_n 1, 1, 0, 0, 0), (107, none, .daload, 1, 0, 0, 0), (108, none, .invokestatic 52, 3, 1, 323, 2), (111, none, .lreturn, 1, 0, 0, 0)] := fq_of2 cd_322 ow_322 cl_322 rfl (pc := 102) (by decide +kernel)
    j_aldn (pc := 102) D rfl rfl rfl fun D =>
    j_gf (pc := 103) (a := x0.toNat) D rfl rfl (nz_cls H.2.1 hk (by decide)) rfl hk rfl fun D =>
    j_ildn (pc := 106) D rfl rfl rfl fun D =>
    j_alp (pc := 107) (e := 7) H.2.1 D rfl rfl ⟨rfl, rfl, rfl⟩ rfl fun q q2 D =>
    j_is (pc := 108) (m := 323) (a := [(3, h 7 (h 122 x0.toNat 0).toNat x1.toNat)]) (rest := []) D rfl rfl rfl rfl (fun v2 h1 e1 D =>
      have T := fj_run_ok _ _ _ _ _ _ H.1 e1
      have hk := cls_st H.1 T.2 hk (by decide)
      have H := shp_st H T
      j_lret D rt_322) (fun q3 h1 e1 =>
      j_tx (hx_322 _))
theorem m_322 (d : Nat) (x0 x1 x2 : Int) {h : fi_H} (H : Shp h) (hk : h 0 x0.toNat 0 = 119) : fj_run (d + 1) 322 h [(4, x0), (0, x1), (4, x2)] =
  dv_ (fi_vt 111 (h 0 x2.toNat 0)) fun m4 => ca_ (fj_run d m4 h [(4, x2)]) 0
    (fun v2 h1 =>
    if v2 = 0 then
      if fi_et 1 (h1 0 (h1 114 x0.toNat 0).toNat 0) ≠ 0 ∧ 0 ≤ x1 ∧ x1 < h1 1 (h1 114 x0.toNat 0).toNat 0 then
      if h1 (fi_et 1 (h1 0 (h1 114 x0.toNat 0).toNat 0)) (h1 114 x0.toNat 0).toNat x1.toNat = 0 then
        some (.inl (some (1, 0)), h1)
      else
        some (.inl (some (1, 1)), h1)
      else none
    else if v2 = 1 then
      if h1 0 (h1 115 x0.toNat 0).toNat 0 = 10 ∧ 0 ≤ x1 ∧ x1 < h1 1 (h1 115 x0.toNat 0).toNat 0 then
      some (.inl (some (1, wI (h1 10 (h1 115 x0.toNat 0).toNat x1.toNat))), h1)
      else none
    else if v2 = 2 then
      if h1 0 (h1 119 x0.toNat 0).toNat 0 = 11 ∧ 0 ≤ x1 ∧ x1 < h1 1 (h1 119 x0.toNat 0).toNat 0 then
      some (.inl (some (1, h1 11 (h1 119 x0.toNat 0).toNat x1.toNat)), h1)
      else none
    else if v2 = 3 then
      if h1 0 (h1 116 x0.toNat 0).toNat 0 = 10 ∧ 0 ≤ x1 ∧ x1 < h1 1 (h1 116 x0.toNat 0).toNat 0 then
      some (.inl (some (1, wI (h1 10 (h1 116 x0.toNat 0).toNat x1.toNat))), h1)
      else none
    else if v2 = 4 then
      if h1 0 (h1 120 x0.toNat 0).toNat 0 = 5 ∧ 0 ≤ x1 ∧ x1 < h1 1 (h1 120 x0.toNat 0).toNat 0 then
      some (.inl (some (1, wI (h1 5 (h1 120 x0.toNat 0).toNat x1.toNat))), h1)
      else none
    else if v2 = 5 then
      if h1 0 (h1 121 x0.toNat 0).toNat 0 = 9 ∧ 0 ≤ x1 ∧ x1 < h1 1 (h1 121 x0.toNat 0).toNat 0 then
      some (.inl (some (1, wI (h1 9 (h1 121 x0.toNat 0).toNat x1.toNat))), h1)
      else none
    else if v2 = 6 then
      c_322_102 d x0 x1 h1
    else 
      if fi_et 1 (h1 0 (h1 123 x0.toNat 0).toNat 0) ≠ 0 ∧ 0 ≤ x1 ∧ x1 < h1 1 (h1 123 x0.toNat 0).toNat 0 then
      some (.inl (some (1, wI (h1 (fi_et 1 (h1 0 (h1 123 x0.toNat 0).toNat 0)) (h1 123 x0.toNat 0).toNat x1.toNat))), h1)
      else none)
    (fun q3 h1 => tx_ q3 h1) := by
  rw [fj_run_eq d (by decide) h [(4, x0), (0, x1), (4, x2)] (Nat.le_of_ble_eq_true (by rw [nl_322]; rfl))]
  show gG (fj_run d) 322 0 [(0, (4, x0)), (1, (0, x1)), (2, (4, x2))] [] h = _
  exact
    have D : fk_D 322 [(0, none, .aload_n 2, 1, 0, 0, 0), (1, none, .invokevirtual 46, 3, 0, 111, 1), (4, none, .tableswitch 108 0 6 #[44, 59, 67, 74, 82, 90, 98], 44, 0, 0, 0)] := fq_of3 cd_322 ow_322 cl_322 rfl (pc := 0) (by decide +kernel)
    j_aldn (pc := 0) D rfl rfl rfl fun D =>
    j_ivu (pc := 1) (dd := 111) (a := []) (rest := []) H.2.1 D rfl rfl rfl rfl rfl (fun m4 v2 h1 e1 D =>
      have T := fj_run_ok _ _ _ _ _ _ H.1 e1
      have hk := cls_st H.1 T.2 hk (by decide)
      have H := shp_st H T
      have N : fk_ni (v2) [] := trivial
      j_tc (pc := 4) 0 (t := 48) D N rfl (by decide +kernel) (fun q =>
        have D : fk_D 322 [(48, none, .aload_n 0, 1, 0, 0, 0), (49, none, .getfield 7, 3, 114, 119, 12), (52, none, .iload_n 1, 1, 0, 0, 0), (53, none, .baload, 1, 0, 0, 0), (54, none, .ifCond .eq 7, 3, 61, 0, 0), (57, none, .lconst 1, 1, 0, 0, 0), (58, none, .goto 4, 3, 62, 0, 0)] := fq_of2 cd_322 ow_322 cl_322 rfl (pc := 48) (by decide +kernel)
        j_aldn (pc := 48) D rfl rfl rfl fun D =>
        j_gf (pc := 49) (a := x0.toNat) D rfl rfl (nz_cls H.2.1 hk (by decide)) rfl hk rfl fun D =>
        j_ildn (pc := 52) D rfl rfl rfl fun D =>
        j_alb (pc := 53) H.2.1 D rfl rfl fun q q2 D =>
        j_ifeq (pc := 54) D rfl (fun q =>
          have D : fk_D 322 [(61, none, .lconst 0, 1, 0, 0, 0), (62, none, .lreturn, 1, 0, 0, 0)] := fq_of2 cd_322 ow_322 cl_322 rfl (pc := 61) (by decide +kernel)
          j_c0 (pc := 61) (v := (1, 0)) D rfl rfl (by decide +kernel) fun D =>
          j_lret D rt_322) (fun q D =>
          j_c0 (pc := 57) (v := (1, 1)) D rfl rfl (by decide +kernel) fun D =>
          j_goto (pc := 58) D rfl <|
          have D : fk_D 322 [(62, none, .lreturn, 1, 0, 0, 0)] := fq_of2 cd_322 ow_322 cl_322 rfl (pc := 62) (by decide +kernel)
          j_lret D rt_322)) (fun N =>
        j_tc 1 (t := 63) D N rfl (by decide +kernel) (fun q =>
          have D : fk_D 322 [(63, none, .aload_n 0, 1, 0, 0, 0), (64, none, .getfield 13, 3, 115, 119, 12), (67, none, .iload_n 1, 1, 0, 0, 0), (68, none, .iaload, 1, 0, 0, 0), (69, none, .i2l, 1, 0, 0, 0), (70, none, .lreturn, 1, 0, 0, 0)] := fq_of2 cd_322 ow_322 cl_322 rfl (pc := 63) (by decide +kernel)
          j_aldn (pc := 63) D rfl rfl rfl fun D =>
          j_gf (pc := 64) (a := x0.toNat) D rfl rfl (nz_cls H.2.1 hk (by decide)) rfl hk rfl fun D =>
          j_ildn (pc := 67) D rfl rfl rfl fun D =>
          j_alp (pc := 68) (e := 10) H.2.1 D rfl rfl ⟨rfl, rfl, rfl⟩ rfl fun q q2 D =>
          j_i2l (pc := 69) D rfl fun D =>
          j_lret D rt_322) (fun N =>
          j_tc 2 (t := 71) D N rfl (by decide +kernel) (fun q =>
            have D : fk_D 322 [(71, none, .aload_n 0, 1, 0, 0, 0), (72, none, .getfield 26, 3, 119, 119, 12), (75, none, .iload_n 1, 1, 0, 0, 0), (76, none, .laload, 1, 0, 0, 0), (77, none, .lreturn, 1, 0, 0, 0)] := fq_of2 cd_322 ow_322 cl_322 rfl (pc := 71) (by decide +kernel)
            j_aldn (pc := 71) D rfl rfl rfl fun D =>
            j_gf (pc := 72) (a := x0.toNat) D rfl rfl (nz_cls H.2.1 hk (by decide)) rfl hk rfl fun D =>
            j_ildn (pc := 75) D rfl rfl rfl fun D =>
            j_alp (pc := 76) (e := 11) H.2.1 D rfl rfl ⟨rfl, rfl, rfl⟩ rfl fun q q2 D =>
            j_lret D rt_322) (fun N =>
            j_tc 3 (t := 78) D N rfl (by decide +kernel) (fun q =>
              have D : fk_D 322 [(78, none, .aload_n 0, 1, 0, 0, 0), (79, none, .getfield 17, 3, 116, 119, 12), (82, none, .iload_n 1, 1, 0, 0, 0), (83, none, .iaload, 1, 0, 0, 0), (84, none, .i2l, 1, 0, 0, 0), (85, none, .lreturn, 1, 0, 0, 0)] := fq_of2 cd_322 ow_322 cl_322 rfl (pc := 78) (by decide +kernel)
              j_aldn (pc := 78) D rfl rfl rfl fun D =>
              j_gf (pc := 79) (a := x0.toNat) D rfl rfl (nz_cls H.2.1 hk (by decide)) rfl hk rfl fun D =>
              j_ildn (pc := 82) D rfl rfl rfl fun D =>
              j_alp (pc := 83) (e := 10) H.2.1 D rfl rfl ⟨rfl, rfl, rfl⟩ rfl fun q q2 D =>
              j_i2l (pc := 84) D rfl fun D =>
              j_lret D rt_322) (fun N =>
              j_tc 4 (t := 86) D N rfl (by decide +kernel) (fun q =>
                have D : fk_D 322 [(86, none, .aload_n 0, 1, 0, 0, 0), (87, none, .getfield 30, 3, 120, 119, 12), (90, none, .iload_n 1, 1, 0, 0, 0), (91, none, .caload, 1, 0, 0, 0), (92, none, .i2l, 1, 0, 0, 0), (93, none, .lreturn, 1, 0, 0, 0)] := fq_of2 cd_322 ow_322 cl_322 rfl (pc := 86) (by decide +kernel)
                j_aldn (pc := 86) D rfl rfl rfl fun D =>
                j_gf (pc := 87) (a := x0.toNat) D rfl rfl (nz_cls H.2.1 hk (by decide)) rfl hk rfl fun D =>
                j_ildn (pc := 90) D rfl rfl rfl fun D =>
                j_alp (pc := 91) (e := 5) H.2.1 D rfl rfl ⟨rfl, rfl, rfl⟩ rfl fun q q2 D =>
                j_i2l (pc := 92) D rfl fun D =>
                j_lret D rt_322) (fun N =>
                j_tc 5 (t := 94) D N rfl (by decide +kernel) (fun q =>
                  have D : fk_D 322 [(94, none, .aload_n 0, 1, 0, 0, 0), (95, none, .getfield 34, 3, 121, 119, 12), (98, none, .iload_n 1, 1, 0, 0, 0), (99, none, .saload, 1, 0, 0, 0), (100, none, .i2l, 1, 0, 0, 0), (101, none, .lreturn, 1, 0, 0, 0)] := fq_of2 cd_322 ow_322 cl_322 rfl (pc := 94) (by decide +kernel)
                  j_aldn (pc := 94) D rfl rfl rfl fun D =>
                  j_gf (pc := 95) (a := x0.toNat) D rfl rfl (nz_cls H.2.1 hk (by decide)) rfl hk rfl fun D =>
                  j_ildn (pc := 98) D rfl rfl rfl fun D =>
                  j_alp (pc := 99) (e := 9) H.2.1 D rfl rfl ⟨rfl, rfl, rfl⟩ rfl fun q q2 D =>
                  j_i2l (pc := 100) D rfl fun D =>
                  j_lret D rt_322) (fun N =>
                  j_tc 6 (t := 102) D N rfl (by decide +kernel) (fun q =>
                    fk_jump cut_322_102 rfl rfl) (fun N =>
                    j_td (t := 112) D N rfl (by decide +kernel) (by decide +kernel) <|
                    have D : fk_D 322 [(112, none, .aload_n 0, 1, 0, 0, 0), (113, none, .getfield 42, 3, 123, 119, 12), (116, none, .iload_n 1, 1, 0, 0, 0), (117, none, .baload, 1, 0, 0, 0), (118, none, .i2l, 1, 0, 0, 0), (119, none, .lreturn, 1, 0, 0, 0)] := fq_of2 cd_322 ow_322 cl_322 rfl (pc := 112) (by decide +kernel)
                    j_aldn (pc := 112) D rfl rfl rfl fun D =>
                    j_gf (pc := 113) (a := x0.toNat) D rfl rfl (nz_cls H.2.1 hk (by decide)) rfl hk rfl fun D =>
                    j_ildn (pc := 116) D rfl rfl rfl fun D =>
                    j_alb (pc := 117) H.2.1 D rfl rfl fun q q2 D =>
                    j_i2l (pc := 118) D rfl fun D =>
                    j_lret D rt_322)))))))) (fun m4 q3 h1 e1 =>
      j_tx (hx_322 _))
/-! 323 java/lang/Double.doubleToLongBits(D)J -/
theorem cd_323 : fi_code 323 = prog_74_method_23_code := rfl
theorem hx_323 : ∀ pc, fi_hat 323 pc = none := fun pc => by unfold fi_hat; rw [show fi_hh 323 = [] from rfl]; rfl
theorem rt_323 : fi_ret 323 = some .long := rfl
theorem nl_323 : fi_nl 323 = 2 := rfl
theorem ow_323 : fi_ow 323 = 69 := rfl
theorem cl_323 : fj_cutT.getD 323 [] = [] := rfl
theorem m_323 (d : Nat) (x0 : Int) {h : fi_H} (H : Shp h) : fj_run (d + 1) 323 h [(3, x0)] =
  ca_ (fj_run d 324 h [(3, x0)]) 0
    (fun v2 h1 =>
    if v2 = 0 then
      ca_ (fj_run d 1002 h1 [(3, x0)]) 1
        (fun v5 h4 =>
        some (.inl (some (1, v5)), h4))
        (fun q6 h4 => tx_ q6 h4)
    else
      some (.inl (some (1, 9221120237041090560)), h1))
    (fun q3 h1 => tx_ q3 h1) := by
  rw [fj_run_eq d (by decide) h [(3, x0)] (Nat.le_of_ble_eq_true (by rw [nl_323]; rfl))]
  show gG (fj_run d) 323 0 [(0, (3, x0))] [] h = _
  exact
    have D : fk_D 323 [(0, none, .dload_n 0, 1, 0, 0, 0), (1, none, .invokestatic 122, 3, 1, 324, 1), (4, none, .ifCond .ne 8, 3, 12, 0, 0), (7, none, .dload_n 0, 1, 0, 0, 0), (8, none, .invokestatic 134, 3, 1, 1002, 2), (11, none, .lreturn, 1, 0, 0, 0)] := fq_of2 cd_323 ow_323 cl_323 rfl (pc := 0) (by decide +kernel)
    j_dldn (pc := 0) D rfl rfl rfl fun D =>
    j_is (pc := 1) (m := 324) (a := [(3, x0)]) (rest := []) D rfl rfl rfl rfl (fun v2 h1 e1 D =>
      have T := fj_run_ok _ _ _ _ _ _ H.1 e1
      have H := shp_st H T
      j_ifne (pc := 4) D rfl (fun q D =>
        j_dldn (pc := 7) D rfl rfl rfl fun D =>
        j_is (pc := 8) (m := 1002) (a := [(3, x0)]) (rest := []) D rfl rfl rfl rfl (fun v5 h4 e1 D =>
          have T := fj_run_ok _ _ _ _ _ _ H.1 e1
          have H := shp_st H T
          j_lret D rt_323) (fun q6 h4 e1 =>
          j_tx (hx_323 _))) (fun q =>
        have D : fk_D 323 [(12, none, .ldc2_w 137, 3, 1, 9221120237041090560, 0), (15, none, .lreturn, 1, 0, 0, 0)] := fq_of2 cd_323 ow_323 cl_323 rfl (pc := 12) (by decide +kernel)
        j_ldc2 (pc := 12) D rfl fun D =>
        j_lret D rt_323)) (fun q3 h1 e1 =>
      j_tx (hx_323 _))
/-! 324 java/lang/Double.isNaN(D)Z -/
theorem cd_324 : fi_code 324 = prog_74_method_6_code := rfl
theorem hx_324 : ∀ pc, fi_hat 324 pc = none := fun pc => by unfold fi_hat; rw [show fi_hh 324 = [] from rfl]; rfl
theorem rt_324 : fi_ret 324 = some .boolean := rfl
theorem nl_324 : fi_nl 324 = 2 := rfl
theorem ow_324 : fi_ow 324 = 69 := rfl
theorem cl_324 : fj_cutT.getD 324 [] = [] := rfl
theorem m_324 (d : Nat) (x0 : Int) {h : fi_H} (H : Shp h) : fj_run (d + 1) 324 h [(3, x0)] =
  if dl_ x0 x0 = 0 then
    some (.inl (some (0, 0)), h)
  else
    some (.inl (some (0, 1)), h) := by
  rw [fj_run_eq d (by decide) h [(3, x0)] (Nat.le_of_ble_eq_true (by rw [nl_324]; rfl))]
  show gG (fj_run d) 324 0 [(0, (3, x0))] [] h = _
  exact
    have D : fk_D 324 [(0, none, .dload_n 0, 1, 0, 0, 0), (1, none, .dload_n 0, 1, 0, 0, 0), (2, none, .dcmp .l, 1, 0, 0, 0), (3, none, .ifCond .eq 7, 3, 10, 0, 0), (6, none, .iconst 1, 1, 0, 1, 0), (7, none, .goto 4, 3, 11, 0, 0)] := fq_of2 cd_324 ow_324 cl_324 rfl (pc := 0) (by decide +kernel)
    j_dldn (pc := 0) D rfl rfl rfl fun D =>
    j_dldn (pc := 1) D rfl rfl rfl fun D =>
    j_dcmpl (pc := 2) D rfl fun D =>
    j_ifeq (pc := 3) D rfl (fun q =>
      have D : fk_D 324 [(10, none, .iconst 0, 1, 0, 0, 0), (11, none, .ireturn, 1, 0, 0, 0)] := fq_of2 cd_324 ow_324 cl_324 rfl (pc := 10) (by decide +kernel)
      j_ic (pc := 10) D rfl fun D =>
      j_zret D rt_324 (gy (by decide))) (fun q D =>
      j_ic (pc := 6) D rfl fun D =>
      j_goto (pc := 7) D rfl <|
      have D : fk_D 324 [(11, none, .ireturn, 1, 0, 0, 0)] := fq_of2 cd_324 ow_324 cl_324 rfl (pc := 11) (by decide +kernel)
      j_zret D rt_324 (gy (by decide)))
/-! 325 StatuteHouse$Shelf.second(ILStatuteHouse$Kind;)J -/
theorem cd_325 : fi_code 325 = prog_57_method_4_code := rfl
theorem hx_325 : ∀ pc, fi_hat 325 pc = none := fun pc => by unfold fi_hat; rw [show fi_hh 325 = [] from rfl]; rfl
theorem rt_325 : fi_ret 325 = some .long := rfl
theorem nl_325 : fi_nl 325 = 3 := rfl
theorem ow_325 : fi_ow 325 = 19 := rfl
theorem cl_325 : fj_cutT.getD 325 [] = [] := rfl
theorem m_325 (d : Nat) (x0 x1 x2 : Int) {h : fi_H} (H : Shp h) (hk : h 0 x0.toNat 0 = 119) : fj_run (d + 1) 325 h [(4, x0), (0, x1), (4, x2)] =
  if x2 = 5 then
    if h 0 (h 117 x0.toNat 0).toNat 0 = 10 ∧ 0 ≤ x1 ∧ x1 < h 1 (h 117 x0.toNat 0).toNat 0 then
    some (.inl (some (1, wI (h 10 (h 117 x0.toNat 0).toNat x1.toNat))), h)
    else none
  else
    if x2 = 7 then
      if h 0 (h 118 x0.toNat 0).toNat 0 = 10 ∧ 0 ≤ x1 ∧ x1 < h 1 (h 118 x0.toNat 0).toNat 0 then
      some (.inl (some (1, wI (h 10 (h 118 x0.toNat 0).toNat x1.toNat))), h)
      else none
    else
      some (.inl (some (1, 0)), h) := by
  rw [fj_run_eq d (by decide) h [(4, x0), (0, x1), (4, x2)] (Nat.le_of_ble_eq_true (by rw [nl_325]; rfl))]
  show gG (fj_run d) 325 0 [(0, (4, x0)), (1, (0, x1)), (2, (4, x2))] [] h = _
  exact
    have D : fk_D 325 [(0, none, .aload_n 2, 1, 0, 0, 0), (1, none, .getstatic 58, 3, 4, 5, 0), (4, none, .if_acmp .ne 13, 3, 17, 0, 0), (7, none, .aload_n 0, 1, 0, 0, 0), (8, none, .getfield 20, 3, 117, 119, 12), (11, none, .iload_n 1, 1, 0, 0, 0), (12, none, .iaload, 1, 0, 0, 0), (13, none, .i2l, 1, 0, 0, 0), (14, none, .goto 21, 3, 35, 0, 0)] := fq_of2 cd_325 ow_325 cl_325 rfl (pc := 0) (by decide +kernel)
    j_aldn (pc := 0) D rfl rfl rfl fun D =>
    j_gs (pc := 1) D rfl fun D =>
    j_ane (pc := 4) D rfl (fun q D =>
      j_aldn (pc := 7) D rfl rfl rfl fun D =>
      j_gf (pc := 8) (a := x0.toNat) D rfl rfl (nz_cls H.2.1 hk (by decide)) rfl hk rfl fun D =>
      j_ildn (pc := 11) D rfl rfl rfl fun D =>
      j_alp (pc := 12) (e := 10) H.2.1 D rfl rfl ⟨rfl, rfl, rfl⟩ rfl fun q q2 D =>
      j_i2l (pc := 13) D rfl fun D =>
      j_goto (pc := 14) D rfl <|
      have D : fk_D 325 [(35, none, .lreturn, 1, 0, 0, 0)] := fq_of2 cd_325 ow_325 cl_325 rfl (pc := 35) (by decide +kernel)
      j_lret D rt_325) (fun q =>
      have D : fk_D 325 [(17, none, .aload_n 2, 1, 0, 0, 0), (18, none, .getstatic 62, 3, 4, 7, 0), (21, none, .if_acmp .ne 13, 3, 34, 0, 0), (24, none, .aload_n 0, 1, 0, 0, 0), (25, none, .getfield 23, 3, 118, 119, 12), (28, none, .iload_n 1, 1, 0, 0, 0), (29, none, .iaload, 1, 0, 0, 0), (30, none, .i2l, 1, 0, 0, 0), (31, none, .goto 4, 3, 35, 0, 0)] := fq_of2 cd_325 ow_325 cl_325 rfl (pc := 17) (by decide +kernel)
      j_aldn (pc := 17) D rfl rfl rfl fun D =>
      j_gs (pc := 18) D rfl fun D =>
      j_ane (pc := 21) D rfl (fun q D =>
        j_aldn (pc := 24) D rfl rfl rfl fun D =>
        j_gf (pc := 25) (a := x0.toNat) D rfl rfl (nz_cls H.2.1 hk (by decide)) rfl hk rfl fun D =>
        j_ildn (pc := 28) D rfl rfl rfl fun D =>
        j_alp (pc := 29) (e := 10) H.2.1 D rfl rfl ⟨rfl, rfl, rfl⟩ rfl fun q q2 D =>
        j_i2l (pc := 30) D rfl fun D =>
        j_goto (pc := 31) D rfl <|
        have D : fk_D 325 [(35, none, .lreturn, 1, 0, 0, 0)] := fq_of2 cd_325 ow_325 cl_325 rfl (pc := 35) (by decide +kernel)
        j_lret D rt_325) (fun q =>
        have D : fk_D 325 [(34, none, .lconst 0, 1, 0, 0, 0), (35, none, .lreturn, 1, 0, 0, 0)] := fq_of2 cd_325 ow_325 cl_325 rfl (pc := 34) (by decide +kernel)
        j_c0 (pc := 34) (v := (1, 0)) D rfl rfl (by decide +kernel) fun D =>
        j_lret D rt_325))
/-! 326 StatuteHouse$Has.work(I)V -/
theorem cd_326 : fi_code 326 = prog_37_method_3_code := rfl
theorem hx_326 : ∀ pc, fi_hat 326 pc = none := fun pc => by unfold fi_hat; rw [show fi_hh 326 = [] from rfl]; rfl
theorem rt_326 : fi_ret 326 = none := rfl
theorem nl_326 : fi_nl 326 = 2 := rfl
theorem ow_326 : fi_ow 326 = 9 := rfl
theorem cl_326 : fj_cutT.getD 326 [] = [] := rfl
theorem m_326 (d : Nat) (x0 x1 : Int) {h : fi_H} (H : Shp h) (hk : h 0 x0.toNat 0 = 109) (ht346 : h 346 x0.toNat 0 = 303) : fj_run (d + 1) 326 h [(4, x0), (0, x1)] =
  cv_ (fj_run d 313 h [(4, 303)])
    (fun h1 =>
    ca_ (fj_run d 327 h1 [(4, 303), (0, h1 241 303 0), (0, h1 347 x0.toNat 0)]) 0
      (fun v5 h4 =>
      if 0 ≤ x1 ∧ x1 < 700 then
      if fi_rg 4 v5 = true then
      lt_ (fi_upd h4 4 310 x1.toNat v5) fun h7 =>
      some (.inl none, h7)
      else none
      else none)
      (fun q6 h4 => tx_ q6 h4))
    (fun q3 h1 => tx_ q3 h1) := by
  rw [fj_run_eq d (by decide) h [(4, x0), (0, x1)] (Nat.le_of_ble_eq_true (by rw [nl_326]; rfl))]
  show gG (fj_run d) 326 0 [(0, (4, x0)), (1, (0, x1))] [] h = _
  exact
    have D : fk_D 326 [(0, none, .aload_n 0, 1, 0, 0, 0), (1, none, .getfield 1, 3, 346, 109, 12), (4, none, .invokevirtual 19, 3, 0, 135, 0), (7, none, .aload_n 0, 1, 0, 0, 0), (8, none, .getfield 1, 3, 346, 109, 12), (11, none, .getfield 25, 3, 213, 100, 12), (14, none, .getfield 29, 3, 114, 119, 12), (17, none, .iload_n 1, 1, 0, 0, 0), (18, none, .aload_n 0, 1, 0, 0, 0), (19, none, .getfield 1, 3, 346, 109, 12), (22, none, .aload_n 0, 1, 0, 0, 0), (23, none, .getfield 1, 3, 346, 109, 12), (26, none, .getfield 35, 3, 241, 100, 10), (29, none, .aload_n 0, 1, 0, 0, 0), (30, none, .getfield 39, 3, 347, 109, 10), (33, none, .invokevirtual 42, 3, 2, 219, 1), (36, none, .bastore, 1, 0, 0, 0), (37, none, .return_, 1, 0, 0, 0)] := fq_of2 cd_326 ow_326 cl_326 rfl (pc := 0) (by decide +kernel)
    j_aldn (pc := 0) D rfl rfl rfl fun D =>
    j_gfc (pc := 1) (a := x0.toNat) D rfl rfl (nz_cls H.2.1 hk (by decide)) rfl hk rfl ht346 fun D =>
    j_ivv (pc := 4) (m := 313) (dd := 135) (a := []) (rest := []) D rfl rfl rfl rfl rfl (by decide) (s0_303 H) (by decide +kernel) (fun h1 e1 D =>
      have T := fj_run_ok _ _ _ _ _ _ H.1 e1
      have ht346 := fin_st H.1 T.2 hk (by decide) (by decide +kernel) ht346 (by decide)
      have hk := cls_st H.1 T.2 hk (by decide)
      have H := shp_st H T
      j_aldn (pc := 7) D rfl rfl rfl fun D =>
      j_gfc (pc := 8) (a := x0.toNat) D rfl rfl (nz_cls H.2.1 hk (by decide)) rfl hk rfl ht346 fun D =>
      j_gfc (pc := 11) (a := 303) D rfl rfl (by decide) rfl (s0_303 H) rfl (sf_213_303 H) fun D =>
      j_gfc (pc := 14) (a := 309) D rfl rfl (by decide) rfl (s0_309 H) rfl (sf_114_309 H) fun D =>
      j_ildn (pc := 17) D rfl rfl rfl fun D =>
      j_aldn (pc := 18) D rfl rfl rfl fun D =>
      j_gfc (pc := 19) (a := x0.toNat) D rfl rfl (nz_cls H.2.1 hk (by decide)) rfl hk rfl ht346 fun D =>
      j_aldn (pc := 22) D rfl rfl rfl fun D =>
      j_gfc (pc := 23) (a := x0.toNat) D rfl rfl (nz_cls H.2.1 hk (by decide)) rfl hk rfl ht346 fun D =>
      j_gf (pc := 26) (a := 303) D rfl rfl (by decide) rfl (s0_303 H) rfl fun D =>
      j_aldn (pc := 29) D rfl rfl rfl fun D =>
      j_gf (pc := 30) (a := x0.toNat) D rfl rfl (nz_cls H.2.1 hk (by decide)) rfl hk rfl fun D =>
      j_iv (pc := 33) (m := 327) (dd := 219) (a := [(0, h1 241 303 0), (0, h1 347 x0.toNat 0)]) (rest := [(0, x1), (4, 310)]) D rfl rfl rfl rfl rfl (by decide) (s0_303 H) (by decide +kernel) (fun v5 h4 e1 D =>
        have T := fj_run_ok _ _ _ _ _ _ H.1 e1
        have ht346 := fin_st H.1 T.2 hk (by decide) (by decide +kernel) ht346 (by decide)
        have hk := cls_st H.1 T.2 hk (by decide)
        have H := shp_st H T
        j_as (pc := 36) (a := 310) (e := 4) D rfl ⟨rfl, rfl⟩ rfl (by decide) (s0_310 H) (s1_310 H) ⟨rfl, rfl, rfl⟩ rfl gn gn fun h7 eh7 S qb8 D =>
        have T := fj_hs_ok H.1 S
        have ht346 := fin_st H.1 T.2 hk (by decide) (by decide +kernel) ht346 (by decide)
        have hk := cls_st H.1 T.2 hk (by decide)
        have H := shp_st H T
        j_vret D rt_326) (fun q6 h4 e1 =>
        j_tx (hx_326 _))) (fun q3 h1 e1 =>
      j_tx (hx_326 _))
/-! 327 StatuteHouse.tells(II)Z -/
theorem cd_327 : fi_code 327 = prog_1_method_26_code := rfl
theorem hx_327 : ∀ pc, fi_hat 327 pc = none := fun pc => by unfold fi_hat; rw [show fi_hh 327 = [] from rfl]; rfl
theorem rt_327 : fi_ret 327 = some .boolean := rfl
theorem nl_327 : fi_nl 327 = 3 := rfl
theorem ow_327 : fi_ow 327 = 0 := rfl
theorem cl_327 : fj_cutT.getD 327 [] = [(17, [0, 1, 2])] := rfl
theorem cut_327_17 : fj_cut 327 17 = some [0, 1, 2] := by decide +kernel
noncomputable def c_327_17 (d : Nat) (x1 x2 : Int) (h : fi_H) : fk_R := gG (fj_run d) 327 17 [(0, (4, 303)), (1, (0, x1)), (2, (0, x2))] [] h
theorem e_327_17 (d : Nat) (x1 x2 : Int) {h : fi_H} (H : Shp h) : c_327_17 d x1 x2 h =
  ca_ (fj_run d 319 h [(4, 322), (0, x1), (0, x2)]) 0
    (fun v2 h1 =>
    if v2 = (-1) then
      some (.inl (some (0, 0)), h1)
    else
      some (.inl (some (0, 1)), h1))
    (fun q3 h1 => tx_ q3 h1) := by
  unfold c_327_17
  exact
    have D : fk_D 327 [(17, some [0, 1, 2], .aload_n 0, 1, 0, 0, 0), (18, none, .getfield 234, 3, 218, 100, 12), (21, none, .iload_n 1, 1, 0, 0, 0), (22, none, .iload_n 2, 1, 0, 0, 0), (23, none, .invokevirtual 238, 3, 2, 127, 1), (26, none, .iconst (-1), 1, 0, (-1), 0), (27, none, .if_icmp .eq 7, 3, 34, 0, 0), (30, none, .iconst 1, 1, 0, 1, 0), (31, none, .goto 4, 3, 35, 0, 0)] := fq_of2 cd_327 ow_327 cl_327 rfl (pc := 17) (by decide +kernel)
    j_aldn (pc := 17) D rfl rfl rfl fun D =>
    j_gfc (pc := 18) (a := 303) D rfl rfl (by decide) rfl (s0_303 H) rfl (sf_218_303 H) fun D =>
    j_ildn (pc := 21) D rfl rfl rfl fun D =>
    j_ildn (pc := 22) D rfl rfl rfl fun D =>
    j_iv (pc := 23) (m := 319) (dd := 127) (a := [(0, x1), (0, x2)]) (rest := []) D rfl rfl rfl rfl rfl (by decide) (s0_322 H) (by decide +kernel) (fun v2 h1 e1 D =>
      have T := fj_run_ok _ _ _ _ _ _ H.1 e1
      have H := shp_st H T
      j_ic (pc := 26) D rfl fun D =>
      j_ieq (pc := 27) D rfl (fun q =>
        have D : fk_D 327 [(34, none, .iconst 0, 1, 0, 0, 0), (35, none, .ireturn, 1, 0, 0, 0)] := fq_of2 cd_327 ow_327 cl_327 rfl (pc := 34) (by decide +kernel)
        j_ic (pc := 34) D rfl fun D =>
        j_zret D rt_327 (gy (by decide))) (fun q D =>
        j_ic (pc := 30) D rfl fun D =>
        j_goto (pc := 31) D rfl <|
        have D : fk_D 327 [(35, none, .ireturn, 1, 0, 0, 0)] := fq_of2 cd_327 ow_327 cl_327 rfl (pc := 35) (by decide +kernel)
        j_zret D rt_327 (gy (by decide)))) (fun q3 h1 e1 =>
      j_tx (hx_327 _))
theorem m_327 (d : Nat) (x1 x2 : Int) {h : fi_H} (H : Shp h) : fj_run (d + 1) 327 h [(4, 303), (0, x1), (0, x2)] =
  if h 223 303 0 = 0 then
    c_327_17 d x1 x2 h
  else
    ca_ (fj_run d 318 h [(4, 303), (0, x1), (0, x2)]) 0
      (fun v2 h1 =>
      if v2 = (-1) then
        c_327_17 d x1 x2 h1
      else
        some (.inl (some (0, 1)), h1))
      (fun q3 h1 => tx_ q3 h1) := by
  rw [fj_run_eq d (by decide) h [(4, 303), (0, x1), (0, x2)] (Nat.le_of_ble_eq_true (by rw [nl_327]; rfl))]
  show gG (fj_run d) 327 0 [(0, (4, 303)), (1, (0, x1)), (2, (0, x2))] [] h = _
  exact
    have D : fk_D 327 [(0, none, .aload_n 0, 1, 0, 0, 0), (1, none, .getfield 227, 3, 223, 100, 4), (4, none, .ifCond .eq 13, 3, 17, 0, 0), (7, none, .aload_n 0, 1, 0, 0, 0), (8, none, .iload_n 1, 1, 0, 0, 0), (9, none, .iload_n 2, 1, 0, 0, 0), (10, none, .invokevirtual 230, 3, 2, 126, 1), (13, none, .iconst (-1), 1, 0, (-1), 0), (14, none, .if_icmp .ne 16, 3, 30, 0, 0)] := fq_of2 cd_327 ow_327 cl_327 rfl (pc := 0) (by decide +kernel)
    j_aldn (pc := 0) D rfl rfl rfl fun D =>
    j_gf (pc := 1) (a := 303) D rfl rfl (by decide) rfl (s0_303 H) rfl fun D =>
    j_ifeq (pc := 4) D rfl (fun q =>
      fk_jump cut_327_17 rfl rfl) (fun q D =>
      j_aldn (pc := 7) D rfl rfl rfl fun D =>
      j_ildn (pc := 8) D rfl rfl rfl fun D =>
      j_ildn (pc := 9) D rfl rfl rfl fun D =>
      j_iv (pc := 10) (m := 318) (dd := 126) (a := [(0, x1), (0, x2)]) (rest := []) D rfl rfl rfl rfl rfl (by decide) (s0_303 H) (by decide +kernel) (fun v2 h1 e1 D =>
        have T := fj_run_ok _ _ _ _ _ _ H.1 e1
        have H := shp_st H T
        j_ic (pc := 13) D rfl fun D =>
        j_ine (pc := 14) D rfl (fun q D =>
          fk_jump cut_327_17 rfl rfl) (fun q =>
          have D : fk_D 327 [(30, none, .iconst 1, 1, 0, 1, 0), (31, none, .goto 4, 3, 35, 0, 0)] := fq_of2 cd_327 ow_327 cl_327 rfl (pc := 30) (by decide +kernel)
          j_ic (pc := 30) D rfl fun D =>
          j_goto (pc := 31) D rfl <|
          have D : fk_D 327 [(35, none, .ireturn, 1, 0, 0, 0)] := fq_of2 cd_327 ow_327 cl_327 rfl (pc := 35) (by decide +kernel)
          j_zret D rt_327 (gy (by decide)))) (fun q3 h1 e1 =>
        j_tx (hx_327 _)))
/-! 328 StatuteHouse$Months.work(I)V -/
theorem cd_328 : fi_code 328 = prog_47_method_2_code := rfl
theorem rt_328 : fi_ret 328 = none := rfl
theorem nl_328 : fi_nl 328 = 9 := rfl
theorem ow_328 : fi_ow 328 = 11 := rfl
theorem cl_328 : fj_cutT.getD 328 [] = [(66, [0, 1, 2, 3, 4]), (91, [0, 1, 3]), (122, [0, 1, 3, 5, 6, 7]), (214, [0, 1, 3, 5, 6, 7]), (217, [0, 6]), (229, [0, 6])] := rfl
theorem cut_328_66 : fj_cut 328 66 = some [0, 1, 2, 3, 4] := by decide +kernel
noncomputable def c_328_66 (d : Nat) (x0 x1 x2 x3 x4 : Int) (h : fi_H) : fk_R := gG (fj_run d) 328 66 [(0, (4, x0)), (1, (0, x1)), (2, (0, x2)), (3, (0, x3)), (4, (0, x4))] [] h
theorem cut_328_91 : fj_cut 328 91 = some [0, 1, 3] := by decide +kernel
noncomputable def c_328_91 (d : Nat) (x0 x1 x3 s0 : Int) (h : fi_H) : fk_R := gG (fj_run d) 328 91 [(0, (4, x0)), (1, (0, x1)), (3, (0, x3))] [(0, s0)] h
theorem cut_328_122 : fj_cut 328 122 = some [0, 1, 3, 5, 6, 7] := by decide +kernel
noncomputable def c_328_122 (d : Nat) (x0 x1 x3 x5 x6 x7 : Int) (h : fi_H) : fk_R := gG (fj_run d) 328 122 [(0, (4, x0)), (1, (0, x1)), (3, (0, x3)), (5, (0, x5)), (6, (0, x6)), (7, (0, x7))] [] h
theorem cut_328_214 : fj_cut 328 214 = some [0, 1, 3, 5, 6, 7] := by decide +kernel
noncomputable def c_328_214 (d : Nat) (x0 x1 x3 x5 x6 x7 : Int) (h : fi_H) : fk_R := gG (fj_run d) 328 214 [(0, (4, x0)), (1, (0, x1)), (3, (0, x3)), (5, (0, x5)), (6, (0, x6)), (7, (0, x7))] [] h
theorem cut_328_217 : fj_cut 328 217 = some [0, 6] := by decide +kernel
noncomputable def c_328_217 (d : Nat) (x0 x6 : Int) (h : fi_H) : fk_R := gG (fj_run d) 328 217 [(0, (4, x0)), (6, (0, x6))] [] h
theorem cut_328_229 : fj_cut 328 229 = some [0, 6] := by decide +kernel
noncomputable def c_328_229 (d : Nat) (x0 x6 s0 : Int) (h : fi_H) : fk_R := gG (fj_run d) 328 229 [(0, (4, x0)), (6, (0, x6))] [(4, s0)] h
theorem e_328_66 (d : Nat) (x0 x1 x2 x3 x4 : Int) {h : fi_H} (H : Shp h) (hk : h 0 x0.toNat 0 = 111) (ht352 : h 352 x0.toNat 0 = 303) : c_328_66 d x0 x1 x2 x3 x4 h =
  if x4 = x2 then
    c_328_91 d x0 x1 x3 x4 h
  else
    ca_ (fj_run d 350 h [(4, 306), (0, x4), (0, 1), (0, 0)]) 0
      (fun v2 h1 =>
      c_328_91 d x0 x1 x3 v2 h1)
      (fun q3 h1 => tx_ q3 h1) := by
  unfold c_328_66
  exact
    have D : fk_D 328 [(66, some [0, 1, 2, 3, 4], .iload 4, 2, 0, 0, 0), (68, none, .iload_n 2, 1, 0, 0, 0), (69, none, .if_icmp .ne 8, 3, 77, 0, 0), (72, none, .iload 4, 2, 0, 0, 0), (74, none, .goto 17, 3, 91, 0, 0)] := fq_of2 cd_328 ow_328 cl_328 rfl (pc := 66) (by decide +kernel)
    j_ild (pc := 66) D rfl rfl rfl fun D =>
    j_ildn (pc := 68) D rfl rfl rfl fun D =>
    j_ine (pc := 69) D rfl (fun q D =>
      j_ild (pc := 72) D rfl rfl rfl fun D =>
      j_goto (pc := 74) D rfl <|
      fk_jump cut_328_91 rfl rfl) (fun q =>
      have D : fk_D 328 [(77, none, .aload_n 0, 1, 0, 0, 0), (78, none, .getfield 3, 3, 352, 111, 12), (81, none, .getfield 57, 3, 209, 100, 12), (84, none, .iload 4, 2, 0, 0, 0), (86, none, .iconst 1, 1, 0, 1, 0), (87, none, .iconst 0, 1, 0, 0, 0), (88, none, .invokevirtual 67, 3, 3, 119, 1)] := fq_of2 cd_328 ow_328 cl_328 rfl (pc := 77) (by decide +kernel)
      j_aldn (pc := 77) D rfl rfl rfl fun D =>
      j_gfc (pc := 78) (a := x0.toNat) D rfl rfl (nz_cls H.2.1 hk (by decide)) rfl hk rfl ht352 fun D =>
      j_gfc (pc := 81) (a := 303) D rfl rfl (by decide) rfl (s0_303 H) rfl (sf_209_303 H) fun D =>
      j_ild (pc := 84) D rfl rfl rfl fun D =>
      j_ic (pc := 86) D rfl fun D =>
      j_ic (pc := 87) D rfl fun D =>
      j_iv (pc := 88) (m := 350) (dd := 119) (a := [(0, x4), (0, 1), (0, 0)]) (rest := []) D rfl rfl rfl rfl rfl (by decide) (s0_306 H) (by decide +kernel) (fun v2 h1 e1 D =>
        have T := fj_run_ok _ _ _ _ _ _ H.1 e1
        have ht352 := fin_st H.1 T.2 hk (by decide) (by decide +kernel) ht352 (by decide)
        have hk := cls_st H.1 T.2 hk (by decide)
        have H := shp_st H T
        fk_jump cut_328_91 rfl rfl) (fun q3 h1 e1 =>
        j_tx (by decide +kernel)))
theorem e_328_91 (d : Nat) (x0 x1 x3 s0 : Int) {h : fi_H} (H : Shp h) (hk : h 0 x0.toNat 0 = 111) (ht352 : h 352 x0.toNat 0 = 303) : c_328_91 d x0 x1 x3 s0 h =
  cv_ (fj_run d 215 h [(4, 309), (0, x1), (4, h 340 x0.toNat 0), (1, 0), (1, 1)])
    (fun h1 =>
    c_328_122 d x0 x1 x3 s0 (h1 242 303 0) 0 h1)
    (fun q3 h1 => tx_ q3 h1) := by
  unfold c_328_91
  exact
    have D : fk_D 328 [(91, some [0, 1, 3], .istore 5, 2, 0, 0, 0), (93, none, .aload_n 0, 1, 0, 0, 0), (94, none, .getfield 3, 3, 352, 111, 12), (97, none, .getfield 47, 3, 213, 100, 12), (100, none, .iload_n 1, 1, 0, 0, 0), (101, none, .aload_n 0, 1, 0, 0, 0), (102, none, .getfield 71, 3, 340, 111, 12), (105, none, .lconst 0, 1, 0, 0, 0), (106, none, .lconst 1, 1, 0, 0, 0), (107, none, .invokestatic 72, 3, 5, 215, 0), (110, none, .aload_n 0, 1, 0, 0, 0), (111, none, .getfield 3, 3, 352, 111, 12), (114, none, .getfield 76, 3, 242, 100, 10), (117, none, .istore 6, 2, 0, 0, 0), (119, none, .iconst 0, 1, 0, 0, 0), (120, none, .istore 7, 2, 0, 0, 0)] := fq_of2 cd_328 ow_328 cl_328 rfl (pc := 91) (by decide +kernel)
    j_ist (pc := 91) (L' := [(5, (0, s0)), (0, (4, x0)), (1, (0, x1)), (3, (0, x3))]) D rfl nl_328 rfl rfl fun D =>
    j_aldn (pc := 93) D rfl rfl rfl fun D =>
    j_gfc (pc := 94) (a := x0.toNat) D rfl rfl (nz_cls H.2.1 hk (by decide)) rfl hk rfl ht352 fun D =>
    j_gfc (pc := 97) (a := 303) D rfl rfl (by decide) rfl (s0_303 H) rfl (sf_213_303 H) fun D =>
    j_ildn (pc := 100) D rfl rfl rfl fun D =>
    j_aldn (pc := 101) D rfl rfl rfl fun D =>
    j_gf (pc := 102) (a := x0.toNat) D rfl rfl (nz_cls H.2.1 hk (by decide)) rfl hk rfl fun D =>
    j_c0 (pc := 105) (v := (1, 0)) D rfl rfl (by decide +kernel) fun D =>
    j_c0 (pc := 106) (v := (1, 1)) D rfl rfl (by decide +kernel) fun D =>
    j_isv (pc := 107) (m := 215) (a := [(4, 309), (0, x1), (4, h 340 x0.toNat 0), (1, 0), (1, 1)]) (rest := []) D rfl rfl rfl rfl (fun h1 e1 D =>
      have T := fj_run_ok _ _ _ _ _ _ H.1 e1
      have ht352 := fin_st H.1 T.2 hk (by decide) (by decide +kernel) ht352 (by decide)
      have hk := cls_st H.1 T.2 hk (by decide)
      have H := shp_st H T
      j_aldn (pc := 110) D rfl rfl rfl fun D =>
      j_gfc (pc := 111) (a := x0.toNat) D rfl rfl (nz_cls H.2.1 hk (by decide)) rfl hk rfl ht352 fun D =>
      j_gf (pc := 114) (a := 303) D rfl rfl (by decide) rfl (s0_303 H) rfl fun D =>
      j_ist (pc := 117) (L' := [(6, (0, h1 242 303 0)), (5, (0, s0)), (0, (4, x0)), (1, (0, x1)), (3, (0, x3))]) D rfl nl_328 rfl rfl fun D =>
      j_ic (pc := 119) D rfl fun D =>
      j_ist (pc := 120) (L' := [(7, (0, 0)), (6, (0, h1 242 303 0)), (5, (0, s0)), (0, (4, x0)), (1, (0, x1)), (3, (0, x3))]) D rfl nl_328 rfl rfl fun D =>
      fk_jump cut_328_122 rfl rfl) (fun q3 h1 e1 =>
      j_tx (by decide +kernel))
theorem e_328_122 (d : Nat) (x0 x1 x3 x5 x6 x7 : Int) {h : fi_H} (H : Shp h) (hk : h 0 x0.toNat 0 = 111) (ht352 : h 352 x0.toNat 0 = 303) : c_328_122 d x0 x1 x3 x5 x6 x7 h =
  if x5 = (-1) then
    c_328_217 d x0 x6 h
  else
    if x3 < x5 then
      c_328_217 d x0 x6 h
    else
      if x7 = 60 then
        ca_ (fj_run d 310 h [(4, 303), (0, 5)]) 4
          (fun v2 h1 =>
          if v2 ≠ 0 then
          ta_ (v2.toNat) h1 (c_328_229 d x0 x6 (v2.toNat : Int) h1)
          else none)
          (fun q3 h1 => ta_ q3 h1 (c_328_229 d x0 x6 (q3 : Int) h1))
      else
        lt_ (fi_upd h 242 303 0 x5) fun h4 =>
        dv_ (fi_vt 136 (h4 0 (h4 349 x0.toNat 0).toNat 0)) fun m8 => cv_ (fj_run d m8 h4 [(4, h4 349 x0.toNat 0), (0, wI (x1 + 1))])
          (fun h5 =>
          lt_ (fi_upd h5 242 303 0 x6) fun h9 =>
          cv_ (fj_run d 346 h9 [(4, 303), (0, x1), (4, h9 340 x0.toNat 0), (4, h9 340 x0.toNat 0), (0, 1)])
            (fun h10 =>
            ca_ (fj_run d 350 h10 [(4, 306), (0, x5), (0, 1), (0, 0)]) 0
              (fun v14 h13 =>
              c_328_214 d x0 x1 x3 v14 x6 (wI (x7 + 1)) h13)
              (fun q15 h13 => ta_ q15 h13 (c_328_229 d x0 x6 (q15 : Int) h13)))
            (fun q12 h10 => ta_ q12 h10 (c_328_229 d x0 x6 (q12 : Int) h10)))
          (fun q7 h5 => ta_ q7 h5 (c_328_229 d x0 x6 (q7 : Int) h5)) := by
  unfold c_328_122
  exact
    have D : fk_D 328 [(122, some [0, 1, 3, 5, 6, 7], .iload 5, 2, 0, 0, 0), (124, none, .iconst (-1), 1, 0, (-1), 0), (125, none, .if_icmp .eq 92, 3, 217, 0, 0), (128, none, .iload 5, 2, 0, 0, 0), (130, none, .iload_n 3, 1, 0, 0, 0), (131, none, .if_icmp .gt 86, 3, 217, 0, 0), (134, none, .iload 7, 2, 0, 0, 0), (136, none, .bipush 60, 2, 0, 60, 0), (138, none, .if_icmp .ne 12, 3, 150, 0, 0), (141, none, .aload_n 0, 1, 0, 0, 0), (142, none, .getfield 3, 3, 352, 111, 12), (145, none, .iconst 5, 1, 0, 5, 0), (146, none, .invokevirtual 79, 3, 1, 112, 5), (149, none, .athrow, 1, 0, 0, 0)] := fq_of2 cd_328 ow_328 cl_328 rfl (pc := 122) (by decide +kernel)
    j_ild (pc := 122) D rfl rfl rfl fun D =>
    j_ic (pc := 124) D rfl fun D =>
    j_ieq (pc := 125) D rfl (fun q =>
      fk_jump cut_328_217 rfl rfl) (fun q D =>
      j_ild (pc := 128) D rfl rfl rfl fun D =>
      j_ildn (pc := 130) D rfl rfl rfl fun D =>
      j_igt (pc := 131) D rfl (fun q =>
        fk_jump cut_328_217 rfl rfl) (fun q D =>
        j_ild (pc := 134) D rfl rfl rfl fun D =>
        j_bp (pc := 136) D rfl fun D =>
        j_ine (pc := 138) D rfl (fun q D =>
          j_aldn (pc := 141) D rfl rfl rfl fun D =>
          j_gfc (pc := 142) (a := x0.toNat) D rfl rfl (nz_cls H.2.1 hk (by decide)) rfl hk rfl ht352 fun D =>
          j_ic (pc := 145) D rfl fun D =>
          j_iv (pc := 146) (m := 310) (dd := 112) (a := [(0, 5)]) (rest := []) D rfl rfl rfl rfl rfl (by decide) (s0_303 H) (by decide +kernel) (fun v2 h1 e1 D =>
            have T := fj_run_ok _ _ _ _ _ _ H.1 e1
            have ht352 := fin_st H.1 T.2 hk (by decide) (by decide +kernel) ht352 (by decide)
            have hk := cls_st H.1 T.2 hk (by decide)
            have H := shp_st H T
            j_at (pc := 149) D gn <|
            j_ta (fk_at (cu := none) (by decide +kernel) rfl) (s := 122) (e := 217) (hp := 229) (by decide +kernel) <|
            fk_jump cut_328_229 rfl rfl) (fun q3 h1 e1 =>
            j_ta (fk_at (cu := none) (by decide +kernel) rfl) (s := 122) (e := 217) (hp := 229) (by decide +kernel) <|
            fk_jump cut_328_229 rfl rfl)) (fun q =>
          have D : fk_D 328 [(150, none, .iinc 7 1, 3, 0, 1, 0), (153, none, .aload_n 0, 1, 0, 0, 0), (154, none, .getfield 3, 3, 352, 111, 12), (157, none, .iload 5, 2, 0, 0, 0), (159, none, .putfield 76, 3, 242, 100, 10), (162, none, .aload_n 0, 1, 0, 0, 0), (163, none, .getfield 29, 3, 349, 111, 12), (166, none, .iload_n 1, 1, 0, 0, 0), (167, none, .iconst 1, 1, 0, 1, 0), (168, none, .iadd, 1, 0, 0, 0), (169, none, .invokevirtual 43, 3, 1, 136, 0), (172, none, .aload_n 0, 1, 0, 0, 0), (173, none, .getfield 3, 3, 352, 111, 12), (176, none, .iload 6, 2, 0, 0, 0), (178, none, .putfield 76, 3, 242, 100, 10), (181, none, .aload_n 0, 1, 0, 0, 0), (182, none, .getfield 3, 3, 352, 111, 12), (185, none, .iload_n 1, 1, 0, 0, 0), (186, none, .aload_n 0, 1, 0, 0, 0), (187, none, .getfield 71, 3, 340, 111, 12)] := fq_of2 cd_328 ow_328 cl_328 rfl (pc := 150) (by decide +kernel)
          j_inc (pc := 150) (L' := [(7, (0, wI (x7 + 1))), (0, (4, x0)), (1, (0, x1)), (3, (0, x3)), (5, (0, x5)), (6, (0, x6))]) D rfl rfl rfl (by decide +kernel) rfl fun D =>
          j_aldn (pc := 153) D rfl rfl rfl fun D =>
          j_gfc (pc := 154) (a := x0.toNat) D rfl rfl (nz_cls H.2.1 hk (by decide)) rfl hk rfl ht352 fun D =>
          j_ild (pc := 157) D rfl rfl rfl fun D =>
          j_pf (pc := 159) (a := 303) D rfl rfl rfl (s0_303 H) rfl rfl (gy (by decide)) (gy rfl) fun h4 eh4 S D =>
          have T := fj_hs_ok H.1 S
          have ht352 := fin_st H.1 T.2 hk (by decide) (by decide +kernel) ht352 (by decide)
          have hk := cls_st H.1 T.2 hk (by decide)
          have H := shp_st H T
          j_aldn (pc := 162) D rfl rfl rfl fun D =>
          j_gf (pc := 163) (a := x0.toNat) D rfl rfl (nz_cls H.2.1 hk (by decide)) rfl hk rfl fun D =>
          j_ildn (pc := 166) D rfl rfl rfl fun D =>
          j_ic (pc := 167) D rfl fun D =>
          j_iadd (pc := 168) D rfl fun D =>
          j_ivuv (pc := 169) (dd := 136) (a := [(0, wI (x1 + 1))]) (rest := []) H.2.1 D rfl rfl rfl rfl rfl (fun m8 h5 e1 D =>
            have T := fj_run_ok _ _ _ _ _ _ H.1 e1
            have ht352 := fin_st H.1 T.2 hk (by decide) (by decide +kernel) ht352 (by decide)
            have hk := cls_st H.1 T.2 hk (by decide)
            have H := shp_st H T
            j_aldn (pc := 172) D rfl rfl rfl fun D =>
            j_gfc (pc := 173) (a := x0.toNat) D rfl rfl (nz_cls H.2.1 hk (by decide)) rfl hk rfl ht352 fun D =>
            j_ild (pc := 176) D rfl rfl rfl fun D =>
            j_pf (pc := 178) (a := 303) D rfl rfl rfl (s0_303 H) rfl rfl (gy (by decide)) (gy rfl) fun h9 eh9 S D =>
            have T := fj_hs_ok H.1 S
            have ht352 := fin_st H.1 T.2 hk (by decide) (by decide +kernel) ht352 (by decide)
            have hk := cls_st H.1 T.2 hk (by decide)
            have H := shp_st H T
            j_aldn (pc := 181) D rfl rfl rfl fun D =>
            j_gfc (pc := 182) (a := x0.toNat) D rfl rfl (nz_cls H.2.1 hk (by decide)) rfl hk rfl ht352 fun D =>
            j_ildn (pc := 185) D rfl rfl rfl fun D =>
            j_aldn (pc := 186) D rfl rfl rfl fun D =>
            j_gf (pc := 187) (a := x0.toNat) D rfl rfl (nz_cls H.2.1 hk (by decide)) rfl hk rfl fun D =>
            have D : fk_D 328 [(190, none, .aload_n 0, 1, 0, 0, 0), (191, none, .getfield 71, 3, 340, 111, 12), (194, none, .iconst 1, 1, 0, 1, 0), (195, none, .invokevirtual 83, 3, 4, 221, 0), (198, none, .aload_n 0, 1, 0, 0, 0), (199, none, .getfield 3, 3, 352, 111, 12), (202, none, .getfield 57, 3, 209, 100, 12), (205, none, .iload 5, 2, 0, 0, 0), (207, none, .iconst 1, 1, 0, 1, 0), (208, none, .iconst 0, 1, 0, 0, 0), (209, none, .invokevirtual 67, 3, 3, 119, 1), (212, none, .istore 5, 2, 0, 0, 0)] := fq_of2 cd_328 ow_328 cl_328 rfl (pc := 190) (by decide +kernel)
            j_aldn (pc := 190) D rfl rfl rfl fun D =>
            j_gf (pc := 191) (a := x0.toNat) D rfl rfl (nz_cls H.2.1 hk (by decide)) rfl hk rfl fun D =>
            j_ic (pc := 194) D rfl fun D =>
            j_ivv (pc := 195) (m := 346) (dd := 221) (a := [(0, x1), (4, h9 340 x0.toNat 0), (4, h9 340 x0.toNat 0), (0, 1)]) (rest := []) D rfl rfl rfl rfl rfl (by decide) (s0_303 H) (by decide +kernel) (fun h10 e1 D =>
              have T := fj_run_ok _ _ _ _ _ _ H.1 e1
              have ht352 := fin_st H.1 T.2 hk (by decide) (by decide +kernel) ht352 (by decide)
              have hk := cls_st H.1 T.2 hk (by decide)
              have H := shp_st H T
              j_aldn (pc := 198) D rfl rfl rfl fun D =>
              j_gfc (pc := 199) (a := x0.toNat) D rfl rfl (nz_cls H.2.1 hk (by decide)) rfl hk rfl ht352 fun D =>
              j_gfc (pc := 202) (a := 303) D rfl rfl (by decide) rfl (s0_303 H) rfl (sf_209_303 H) fun D =>
              j_ild (pc := 205) D rfl rfl rfl fun D =>
              j_ic (pc := 207) D rfl fun D =>
              j_ic (pc := 208) D rfl fun D =>
              j_iv (pc := 209) (m := 350) (dd := 119) (a := [(0, x5), (0, 1), (0, 0)]) (rest := []) D rfl rfl rfl rfl rfl (by decide) (s0_306 H) (by decide +kernel) (fun v14 h13 e1 D =>
                have T := fj_run_ok _ _ _ _ _ _ H.1 e1
                have ht352 := fin_st H.1 T.2 hk (by decide) (by decide +kernel) ht352 (by decide)
                have hk := cls_st H.1 T.2 hk (by decide)
                have H := shp_st H T
                j_ist (pc := 212) (L' := [(5, (0, v14)), (7, (0, wI (x7 + 1))), (0, (4, x0)), (1, (0, x1)), (3, (0, x3)), (6, (0, x6))]) D rfl nl_328 rfl rfl fun D =>
                fk_jump cut_328_214 rfl rfl) (fun q15 h13 e1 =>
                j_ta (fk_at (cu := none) (by decide +kernel) rfl) (s := 122) (e := 217) (hp := 229) (by decide +kernel) <|
                fk_jump cut_328_229 rfl rfl)) (fun q12 h10 e1 =>
              j_ta (fk_at (cu := none) (by decide +kernel) rfl) (s := 122) (e := 217) (hp := 229) (by decide +kernel) <|
              fk_jump cut_328_229 rfl rfl)) (fun m8 q7 h5 e1 =>
            j_ta (fk_at (cu := none) (by decide +kernel) rfl) (s := 122) (e := 217) (hp := 229) (by decide +kernel) <|
            fk_jump cut_328_229 rfl rfl))))
theorem e_328_214 (d : Nat) (x0 x1 x3 x5 x6 x7 : Int) {h : fi_H} (H : Shp h) (hk : h 0 x0.toNat 0 = 111) (ht352 : h 352 x0.toNat 0 = 303) : c_328_214 d x0 x1 x3 x5 x6 x7 h =
  c_328_122 d x0 x1 x3 x5 x6 x7 h := by
  unfold c_328_214
  exact
    have D : fk_D 328 [(214, some [0, 1, 3, 5, 6, 7], .goto (-92), 3, 122, 0, 0)] := fq_of2 cd_328 ow_328 cl_328 rfl (pc := 214) (by decide +kernel)
    j_goto (pc := 214) D rfl <|
    fk_jump cut_328_122 rfl rfl
theorem e_328_217 (d : Nat) (x0 x6 : Int) {h : fi_H} (H : Shp h) (hk : h 0 x0.toNat 0 = 111) (ht352 : h 352 x0.toNat 0 = 303) : c_328_217 d x0 x6 h =
  lt_ (fi_upd h 242 303 0 x6) fun h1 =>
  some (.inl none, h1) := by
  unfold c_328_217
  exact
    have D : fk_D 328 [(217, some [0, 6], .aload_n 0, 1, 0, 0, 0), (218, none, .getfield 3, 3, 352, 111, 12), (221, none, .iload 6, 2, 0, 0, 0), (223, none, .putfield 76, 3, 242, 100, 10), (226, none, .goto 17, 3, 243, 0, 0)] := fq_of2 cd_328 ow_328 cl_328 rfl (pc := 217) (by decide +kernel)
    j_aldn (pc := 217) D rfl rfl rfl fun D =>
    j_gfc (pc := 218) (a := x0.toNat) D rfl rfl (nz_cls H.2.1 hk (by decide)) rfl hk rfl ht352 fun D =>
    j_ild (pc := 221) D rfl rfl rfl fun D =>
    j_pf (pc := 223) (a := 303) D rfl rfl rfl (s0_303 H) rfl rfl (gy (by decide)) (gy rfl) fun h1 eh1 S D =>
    have T := fj_hs_ok H.1 S
    have ht352 := fin_st H.1 T.2 hk (by decide) (by decide +kernel) ht352 (by decide)
    have hk := cls_st H.1 T.2 hk (by decide)
    have H := shp_st H T
    j_goto (pc := 226) D rfl <|
    have D : fk_D 328 [(243, none, .return_, 1, 0, 0, 0)] := fq_of2 cd_328 ow_328 cl_328 rfl (pc := 243) (by decide +kernel)
    j_vret D rt_328
theorem e_328_229 (d : Nat) (x0 x6 s0 : Int) {h : fi_H} (H : Shp h) (hk : h 0 x0.toNat 0 = 111) (ht352 : h 352 x0.toNat 0 = 303) : c_328_229 d x0 x6 s0 h =
  lt_ (fi_upd h 242 303 0 x6) fun h1 =>
  if s0 ≠ 0 then
  tx_ s0.toNat h1
  else none := by
  unfold c_328_229
  exact
    have D : fk_D 328 [(229, some [0, 6], .astore 8, 2, 0, 0, 0), (231, none, .aload_n 0, 1, 0, 0, 0), (232, none, .getfield 3, 3, 352, 111, 12), (235, none, .iload 6, 2, 0, 0, 0), (237, none, .putfield 76, 3, 242, 100, 10), (240, none, .aload 8, 2, 0, 0, 0), (242, none, .athrow, 1, 0, 0, 0)] := fq_of2 cd_328 ow_328 cl_328 rfl (pc := 229) (by decide +kernel)
    j_ast (pc := 229) (L' := [(8, (4, s0)), (0, (4, x0)), (6, (0, x6))]) D rfl nl_328 rfl rfl fun D =>
    j_aldn (pc := 231) D rfl rfl rfl fun D =>
    j_gfc (pc := 232) (a := x0.toNat) D rfl rfl (nz_cls H.2.1 hk (by decide)) rfl hk rfl ht352 fun D =>
    j_ild (pc := 235) D rfl rfl rfl fun D =>
    j_pf (pc := 237) (a := 303) D rfl rfl rfl (s0_303 H) rfl rfl (gy (by decide)) (gy rfl) fun h1 eh1 S D =>
    have T := fj_hs_ok H.1 S
    have ht352 := fin_st H.1 T.2 hk (by decide) (by decide +kernel) ht352 (by decide)
    have hk := cls_st H.1 T.2 hk (by decide)
    have H := shp_st H T
    j_ald (pc := 240) D rfl rfl rfl fun D =>
    j_at (pc := 242) D gn <|
    j_tx (by decide +kernel)
theorem m_328 (d : Nat) (x0 x1 : Int) {h : fi_H} (H : Shp h) (hk : h 0 x0.toNat 0 = 111) (ht352 : h 352 x0.toNat 0 = 303) : fj_run (d + 1) 328 h [(4, x0), (0, x1)] =
  cv_ (fj_run d 313 h [(4, 303)])
    (fun h1 =>
    dv_ (fi_vt 136 (h1 0 (h1 350 x0.toNat 0).toNat 0)) fun m7 => cv_ (fj_run d m7 h1 [(4, h1 350 x0.toNat 0), (0, x1)])
      (fun h4 =>
      dv_ (fi_vt 136 (h4 0 (h4 351 x0.toNat 0).toNat 0)) fun m11 => cv_ (fj_run d m11 h4 [(4, h4 351 x0.toNat 0), (0, wI (x1 + 1))])
        (fun h8 =>
        if 0 ≤ x1 ∧ x1 < 700 then
        if 0 ≤ wI (x1 + 1) ∧ wI (x1 + 1) < 700 then
        ca_ (fj_run d 367 h8 [(4, 306), (0, h8 5 316 x1.toNat)]) 0
          (fun v15 h14 =>
          c_328_66 d x0 x1 (h8 5 316 x1.toNat) (h8 5 316 (wI (x1 + 1)).toNat) v15 h14)
          (fun q16 h14 => tx_ q16 h14)
        else none
        else none)
        (fun q10 h8 => tx_ q10 h8))
      (fun q6 h4 => tx_ q6 h4))
    (fun q3 h1 => tx_ q3 h1) := by
  rw [fj_run_eq d (by decide) h [(4, x0), (0, x1)] (Nat.le_of_ble_eq_true (by rw [nl_328]; rfl))]
  show gG (fj_run d) 328 0 [(0, (4, x0)), (1, (0, x1))] [] h = _
  exact
    have D : fk_D 328 [(0, none, .aload_n 0, 1, 0, 0, 0), (1, none, .getfield 3, 3, 352, 111, 12), (4, none, .invokevirtual 39, 3, 0, 135, 0), (7, none, .aload_n 0, 1, 0, 0, 0), (8, none, .getfield 33, 3, 350, 111, 12), (11, none, .iload_n 1, 1, 0, 0, 0), (12, none, .invokevirtual 43, 3, 1, 136, 0), (15, none, .aload_n 0, 1, 0, 0, 0), (16, none, .getfield 36, 3, 351, 111, 12), (19, none, .iload_n 1, 1, 0, 0, 0), (20, none, .iconst 1, 1, 0, 1, 0), (21, none, .iadd, 1, 0, 0, 0), (22, none, .invokevirtual 43, 3, 1, 136, 0), (25, none, .aload_n 0, 1, 0, 0, 0), (26, none, .getfield 3, 3, 352, 111, 12), (29, none, .getfield 47, 3, 213, 100, 12), (32, none, .getfield 51, 3, 120, 119, 12), (35, none, .iload_n 1, 1, 0, 0, 0), (36, none, .caload, 1, 0, 0, 0), (37, none, .istore_n 2, 1, 0, 0, 0)] := fq_of2 cd_328 ow_328 cl_328 rfl (pc := 0) (by decide +kernel)
    j_aldn (pc := 0) D rfl rfl rfl fun D =>
    j_gfc (pc := 1) (a := x0.toNat) D rfl rfl (nz_cls H.2.1 hk (by decide)) rfl hk rfl ht352 fun D =>
    j_ivv (pc := 4) (m := 313) (dd := 135) (a := []) (rest := []) D rfl rfl rfl rfl rfl (by decide) (s0_303 H) (by decide +kernel) (fun h1 e1 D =>
      have T := fj_run_ok _ _ _ _ _ _ H.1 e1
      have ht352 := fin_st H.1 T.2 hk (by decide) (by decide +kernel) ht352 (by decide)
      have hk := cls_st H.1 T.2 hk (by decide)
      have H := shp_st H T
      j_aldn (pc := 7) D rfl rfl rfl fun D =>
      j_gf (pc := 8) (a := x0.toNat) D rfl rfl (nz_cls H.2.1 hk (by decide)) rfl hk rfl fun D =>
      j_ildn (pc := 11) D rfl rfl rfl fun D =>
      j_ivuv (pc := 12) (dd := 136) (a := [(0, x1)]) (rest := []) H.2.1 D rfl rfl rfl rfl rfl (fun m7 h4 e1 D =>
        have T := fj_run_ok _ _ _ _ _ _ H.1 e1
        have ht352 := fin_st H.1 T.2 hk (by decide) (by decide +kernel) ht352 (by decide)
        have hk := cls_st H.1 T.2 hk (by decide)
        have H := shp_st H T
        j_aldn (pc := 15) D rfl rfl rfl fun D =>
        j_gf (pc := 16) (a := x0.toNat) D rfl rfl (nz_cls H.2.1 hk (by decide)) rfl hk rfl fun D =>
        j_ildn (pc := 19) D rfl rfl rfl fun D =>
        j_ic (pc := 20) D rfl fun D =>
        j_iadd (pc := 21) D rfl fun D =>
        j_ivuv (pc := 22) (dd := 136) (a := [(0, wI (x1 + 1))]) (rest := []) H.2.1 D rfl rfl rfl rfl rfl (fun m11 h8 e1 D =>
          have T := fj_run_ok _ _ _ _ _ _ H.1 e1
          have ht352 := fin_st H.1 T.2 hk (by decide) (by decide +kernel) ht352 (by decide)
          have hk := cls_st H.1 T.2 hk (by decide)
          have H := shp_st H T
          j_aldn (pc := 25) D rfl rfl rfl fun D =>
          j_gfc (pc := 26) (a := x0.toNat) D rfl rfl (nz_cls H.2.1 hk (by decide)) rfl hk rfl ht352 fun D =>
          j_gfc (pc := 29) (a := 303) D rfl rfl (by decide) rfl (s0_303 H) rfl (sf_213_303 H) fun D =>
          j_gfc (pc := 32) (a := 309) D rfl rfl (by decide) rfl (s0_309 H) rfl (sf_120_309 H) fun D =>
          j_ildn (pc := 35) D rfl rfl rfl fun D =>
          j_al (pc := 36) (a := 316) (e := 5) D rfl rfl rfl (by decide) (s0_316 H) (s1_316 H) ⟨rfl, rfl, rfl⟩ rfl gn fun qb12 D =>
          j_istn (pc := 37) (L' := [(2, (0, h8 5 316 x1.toNat)), (0, (4, x0)), (1, (0, x1))]) D rfl nl_328 rfl rfl fun D =>
          have D : fk_D 328 [(38, none, .aload_n 0, 1, 0, 0, 0), (39, none, .getfield 3, 3, 352, 111, 12), (42, none, .getfield 47, 3, 213, 100, 12), (45, none, .getfield 51, 3, 120, 119, 12), (48, none, .iload_n 1, 1, 0, 0, 0), (49, none, .iconst 1, 1, 0, 1, 0), (50, none, .iadd, 1, 0, 0, 0), (51, none, .caload, 1, 0, 0, 0), (52, none, .istore_n 3, 1, 0, 0, 0), (53, none, .aload_n 0, 1, 0, 0, 0), (54, none, .getfield 3, 3, 352, 111, 12), (57, none, .getfield 57, 3, 209, 100, 12), (60, none, .iload_n 2, 1, 0, 0, 0), (61, none, .invokevirtual 61, 3, 1, 193, 1), (64, none, .istore 4, 2, 0, 0, 0)] := fq_of2 cd_328 ow_328 cl_328 rfl (pc := 38) (by decide +kernel)
          j_aldn (pc := 38) D rfl rfl rfl fun D =>
          j_gfc (pc := 39) (a := x0.toNat) D rfl rfl (nz_cls H.2.1 hk (by decide)) rfl hk rfl ht352 fun D =>
          j_gfc (pc := 42) (a := 303) D rfl rfl (by decide) rfl (s0_303 H) rfl (sf_213_303 H) fun D =>
          j_gfc (pc := 45) (a := 309) D rfl rfl (by decide) rfl (s0_309 H) rfl (sf_120_309 H) fun D =>
          j_ildn (pc := 48) D rfl rfl rfl fun D =>
          j_ic (pc := 49) D rfl fun D =>
          j_iadd (pc := 50) D rfl fun D =>
          j_al (pc := 51) (a := 316) (e := 5) D rfl rfl rfl (by decide) (s0_316 H) (s1_316 H) ⟨rfl, rfl, rfl⟩ rfl gn fun qb13 D =>
          j_istn (pc := 52) (L' := [(3, (0, h8 5 316 (wI (x1 + 1)).toNat)), (2, (0, h8 5 316 x1.toNat)), (0, (4, x0)), (1, (0, x1))]) D rfl nl_328 rfl rfl fun D =>
          j_aldn (pc := 53) D rfl rfl rfl fun D =>
          j_gfc (pc := 54) (a := x0.toNat) D rfl rfl (nz_cls H.2.1 hk (by decide)) rfl hk rfl ht352 fun D =>
          j_gfc (pc := 57) (a := 303) D rfl rfl (by decide) rfl (s0_303 H) rfl (sf_209_303 H) fun D =>
          j_ildn (pc := 60) D rfl rfl rfl fun D =>
          j_iv (pc := 61) (m := 367) (dd := 193) (a := [(0, h8 5 316 x1.toNat)]) (rest := []) D rfl rfl rfl rfl rfl (by decide) (s0_306 H) (by decide +kernel) (fun v15 h14 e1 D =>
            have T := fj_run_ok _ _ _ _ _ _ H.1 e1
            have ht352 := fin_st H.1 T.2 hk (by decide) (by decide +kernel) ht352 (by decide)
            have hk := cls_st H.1 T.2 hk (by decide)
            have H := shp_st H T
            j_ist (pc := 64) (L' := [(4, (0, v15)), (3, (0, h8 5 316 (wI (x1 + 1)).toNat)), (2, (0, h8 5 316 x1.toNat)), (0, (4, x0)), (1, (0, x1))]) D rfl nl_328 rfl rfl fun D =>
            fk_jump cut_328_66 rfl rfl) (fun q16 h14 e1 =>
            j_tx (by decide +kernel))) (fun m11 q10 h8 e1 =>
          j_tx (by decide +kernel))) (fun m7 q6 h4 e1 =>
        j_tx (by decide +kernel))) (fun q3 h1 e1 =>
      j_tx (by decide +kernel))
/-! 329 StatuteHouse$One.work(I)V -/
theorem cd_329 : fi_code 329 = prog_49_method_2_code := rfl
theorem hx_329 : ∀ pc, fi_hat 329 pc = none := fun pc => by unfold fi_hat; rw [show fi_hh 329 = [] from rfl]; rfl
theorem rt_329 : fi_ret 329 = none := rfl
theorem nl_329 : fi_nl 329 = 2 := rfl
theorem ow_329 : fi_ow 329 = 12 := rfl
theorem cl_329 : fj_cutT.getD 329 [] = [(91, []), (173, []), (255, [])] := rfl
theorem cut_329_91 : fj_cut 329 91 = some [] := by decide +kernel
noncomputable def c_329_91 (d : Nat) (s0 s1 s2 : Int) (h : fi_H) : fk_R := gG (fj_run d) 329 91 [] [(0, s2), (0, s1), (4, s0)] h
theorem cut_329_173 : fj_cut 329 173 = some [] := by decide +kernel
noncomputable def c_329_173 (d : Nat) (h : fi_H) : fk_R := gG (fj_run d) 329 173 [] [] h
theorem cut_329_255 : fj_cut 329 255 = some [] := by decide +kernel
noncomputable def c_329_255 (d : Nat) (h : fi_H) : fk_R := gG (fj_run d) 329 255 [] [] h
theorem e_329_91 (d : Nat) (s0 s1 s2 : Int) {h : fi_H} (H : Shp h) : c_329_91 d s0 s1 s2 h =
  if 302 < s0 ∧ fi_et 1 (h 0 s0.toNat 0) ≠ 0 then
  if 0 ≤ s1 ∧ s1 < h 1 s0.toNat 0 then
  if fi_rg (fi_et 1 (h 0 s0.toNat 0)) s2 = true then
  lt_ (fi_upd h (fi_et 1 (h 0 s0.toNat 0)) s0.toNat s1.toNat s2) fun h1 =>
  c_329_255 d h1
  else none
  else none
  else none := by
  unfold c_329_91
  exact
    have D : fk_D 329 [(91, some [], .bastore, 1, 0, 0, 0), (92, none, .goto 163, 3, 255, 0, 0)] := fq_of2 cd_329 ow_329 cl_329 rfl (pc := 91) (by decide +kernel)
    j_asub (pc := 91) D rfl rfl gn gn gn fun h1 eh1 S q q2 D =>
    have T := fj_hs_ok H.1 S
    have H := shp_st H T
    j_goto (pc := 92) D rfl <|
    fk_jump cut_329_255 rfl rfl
theorem e_329_173 (d : Nat) {h : fi_H} (H : Shp h) : c_329_173 d h =
  c_329_255 d h := by
  unfold c_329_173
  exact
    have D : fk_D 329 [(173, some [], .goto 82, 3, 255, 0, 0)] := fq_of2 cd_329 ow_329 cl_329 rfl (pc := 173) (by decide +kernel)
    j_goto (pc := 173) D rfl <|
    fk_jump cut_329_255 rfl rfl
theorem e_329_255 (d : Nat) {h : fi_H} (H : Shp h) : c_329_255 d h =
  some (.inl none, h) := by
  unfold c_329_255
  exact
    have D : fk_D 329 [(255, some [], .return_, 1, 0, 0, 0)] := fq_of2 cd_329 ow_329 cl_329 rfl (pc := 255) (by decide +kernel)
    j_vret D rt_329
theorem m_329 (d : Nat) (x0 x1 : Int) {h : fi_H} (H : Shp h) (hk : h 0 x0.toNat 0 = 112) (ht371 : h 371 x0.toNat 0 = 303) : fj_run (d + 1) 329 h [(4, x0), (0, x1)] =
  cv_ (fj_run d 313 h [(4, 303)])
    (fun h1 =>
    dv_ (fi_vt 136 (h1 0 (h1 370 x0.toNat 0).toNat 0)) fun m7 => cv_ (fj_run d m7 h1 [(4, h1 370 x0.toNat 0), (0, x1)])
      (fun h4 =>
      dv_ (fi_vt 111 (h4 0 (h4 340 x0.toNat 0).toNat 0)) fun m11 => ca_ (fj_run d m11 h4 [(4, h4 340 x0.toNat 0)]) 0
        (fun v9 h8 =>
        if v9 = 0 then
          if 0 ≤ x1 ∧ x1 < 700 then
          if h8 4 310 x1.toNat = 0 then
            c_329_91 d 310 x1 1 h8
          else
            c_329_91 d 310 x1 0 h8
          else none
        else if v9 = 1 then
          if 0 ≤ x1 ∧ x1 < 700 then
          cv_ (fj_run d 353 h8 [(4, 303), (0, x1), (1, wJ (-(wI (h8 10 311 x1.toNat))))])
            (fun h14 =>
            c_329_255 d h14)
            (fun q16 h14 => tx_ q16 h14)
          else none
        else if v9 = 2 then
          if 0 ≤ x1 ∧ x1 < 700 then
          lt_ (fi_upd h8 11 315 x1.toNat (wJ (-(h8 11 315 x1.toNat)))) fun h18 =>
          c_329_255 d h18
          else none
        else if v9 = 3 then
          if 0 ≤ x1 ∧ x1 < 700 then
          lt_ (fi_upd h8 10 312 x1.toNat (wI (-(h8 10 312 x1.toNat)))) fun h20 =>
          c_329_173 d h20
          else none
        else if v9 = 5 then
          if 0 ≤ x1 ∧ x1 < 700 then
          lt_ (fi_upd h8 9 317 x1.toNat (wS (wI (-(h8 9 317 x1.toNat))))) fun h22 =>
          lt_ (fi_upd h22 10 314 x1.toNat (wI (-(h22 10 314 x1.toNat)))) fun h23 =>
          c_329_255 d h23
          else none
        else 
          if 0 ≤ x1 ∧ x1 < 700 then
          lt_ (fi_upd h8 7 318 x1.toNat (dneg_ (h8 7 318 x1.toNat))) fun h25 =>
          c_329_255 d h25
          else none)
        (fun q10 h8 => tx_ q10 h8))
      (fun q6 h4 => tx_ q6 h4))
    (fun q3 h1 => tx_ q3 h1) := by
  rw [fj_run_eq d (by decide) h [(4, x0), (0, x1)] (Nat.le_of_ble_eq_true (by rw [nl_329]; rfl))]
  show gG (fj_run d) 329 0 [(0, (4, x0)), (1, (0, x1))] [] h = _
  exact
    have D : fk_D 329 [(0, none, .aload_n 0, 1, 0, 0, 0), (1, none, .getfield 1, 3, 371, 112, 12), (4, none, .invokevirtual 25, 3, 0, 135, 0), (7, none, .aload_n 0, 1, 0, 0, 0), (8, none, .getfield 21, 3, 370, 112, 12), (11, none, .iload_n 1, 1, 0, 0, 0), (12, none, .invokevirtual 31, 3, 1, 136, 0), (15, none, .aload_n 0, 1, 0, 0, 0), (16, none, .getfield 35, 3, 340, 112, 12), (19, none, .invokevirtual 36, 3, 0, 111, 1), (22, none, .tableswitch 208 0 5 #[38, 73, 98, 126, 208, 154], 38, 0, 0, 0)] := fq_of3 cd_329 ow_329 cl_329 rfl (pc := 0) (by decide +kernel)
    j_aldn (pc := 0) D rfl rfl rfl fun D =>
    j_gfc (pc := 1) (a := x0.toNat) D rfl rfl (nz_cls H.2.1 hk (by decide)) rfl hk rfl ht371 fun D =>
    j_ivv (pc := 4) (m := 313) (dd := 135) (a := []) (rest := []) D rfl rfl rfl rfl rfl (by decide) (s0_303 H) (by decide +kernel) (fun h1 e1 D =>
      have T := fj_run_ok _ _ _ _ _ _ H.1 e1
      have ht371 := fin_st H.1 T.2 hk (by decide) (by decide +kernel) ht371 (by decide)
      have hk := cls_st H.1 T.2 hk (by decide)
      have H := shp_st H T
      j_aldn (pc := 7) D rfl rfl rfl fun D =>
      j_gf (pc := 8) (a := x0.toNat) D rfl rfl (nz_cls H.2.1 hk (by decide)) rfl hk rfl fun D =>
      j_ildn (pc := 11) D rfl rfl rfl fun D =>
      j_ivuv (pc := 12) (dd := 136) (a := [(0, x1)]) (rest := []) H.2.1 D rfl rfl rfl rfl rfl (fun m7 h4 e1 D =>
        have T := fj_run_ok _ _ _ _ _ _ H.1 e1
        have ht371 := fin_st H.1 T.2 hk (by decide) (by decide +kernel) ht371 (by decide)
        have hk := cls_st H.1 T.2 hk (by decide)
        have H := shp_st H T
        j_aldn (pc := 15) D rfl rfl rfl fun D =>
        j_gf (pc := 16) (a := x0.toNat) D rfl rfl (nz_cls H.2.1 hk (by decide)) rfl hk rfl fun D =>
        j_ivu (pc := 19) (dd := 111) (a := []) (rest := []) H.2.1 D rfl rfl rfl rfl rfl (fun m11 v9 h8 e1 D =>
          have T := fj_run_ok _ _ _ _ _ _ H.1 e1
          have ht371 := fin_st H.1 T.2 hk (by decide) (by decide +kernel) ht371 (by decide)
          have hk := cls_st H.1 T.2 hk (by decide)
          have H := shp_st H T
          have N : fk_ni (v9) [] := trivial
          j_tc (pc := 22) 0 (t := 60) D N rfl (by decide +kernel) (fun q =>
            have D : fk_D 329 [(60, none, .aload_n 0, 1, 0, 0, 0), (61, none, .getfield 1, 3, 371, 112, 12), (64, none, .getfield 42, 3, 213, 100, 12), (67, none, .getfield 46, 3, 114, 119, 12), (70, none, .iload_n 1, 1, 0, 0, 0), (71, none, .aload_n 0, 1, 0, 0, 0), (72, none, .getfield 1, 3, 371, 112, 12), (75, none, .getfield 42, 3, 213, 100, 12), (78, none, .getfield 46, 3, 114, 119, 12), (81, none, .iload_n 1, 1, 0, 0, 0), (82, none, .baload, 1, 0, 0, 0), (83, none, .ifCond .ne 7, 3, 90, 0, 0), (86, none, .iconst 1, 1, 0, 1, 0), (87, none, .goto 4, 3, 91, 0, 0)] := fq_of2 cd_329 ow_329 cl_329 rfl (pc := 60) (by decide +kernel)
            j_aldn (pc := 60) D rfl rfl rfl fun D =>
            j_gfc (pc := 61) (a := x0.toNat) D rfl rfl (nz_cls H.2.1 hk (by decide)) rfl hk rfl ht371 fun D =>
            j_gfc (pc := 64) (a := 303) D rfl rfl (by decide) rfl (s0_303 H) rfl (sf_213_303 H) fun D =>
            j_gfc (pc := 67) (a := 309) D rfl rfl (by decide) rfl (s0_309 H) rfl (sf_114_309 H) fun D =>
            j_ildn (pc := 70) D rfl rfl rfl fun D =>
            j_aldn (pc := 71) D rfl rfl rfl fun D =>
            j_gfc (pc := 72) (a := x0.toNat) D rfl rfl (nz_cls H.2.1 hk (by decide)) rfl hk rfl ht371 fun D =>
            j_gfc (pc := 75) (a := 303) D rfl rfl (by decide) rfl (s0_303 H) rfl (sf_213_303 H) fun D =>
            j_gfc (pc := 78) (a := 309) D rfl rfl (by decide) rfl (s0_309 H) rfl (sf_114_309 H) fun D =>
            j_ildn (pc := 81) D rfl rfl rfl fun D =>
            j_al (pc := 82) (a := 310) (e := 4) D rfl rfl rfl (by decide) (s0_310 H) (s1_310 H) ⟨rfl, rfl, rfl⟩ rfl gn fun qb12 D =>
            j_ifne (pc := 83) D rfl (fun q D =>
              j_ic (pc := 86) D rfl fun D =>
              j_goto (pc := 87) D rfl <|
              fk_jump cut_329_91 rfl rfl) (fun q =>
              have D : fk_D 329 [(90, none, .iconst 0, 1, 0, 0, 0)] := fq_of2 cd_329 ow_329 cl_329 rfl (pc := 90) (by decide +kernel)
              j_ic (pc := 90) D rfl fun D =>
              fk_jump cut_329_91 rfl rfl)) (fun N =>
            j_tc 1 (t := 95) D N rfl (by decide +kernel) (fun q =>
              have D : fk_D 329 [(95, none, .aload_n 0, 1, 0, 0, 0), (96, none, .getfield 1, 3, 371, 112, 12), (99, none, .iload_n 1, 1, 0, 0, 0), (100, none, .aload_n 0, 1, 0, 0, 0), (101, none, .getfield 1, 3, 371, 112, 12), (104, none, .getfield 42, 3, 213, 100, 12), (107, none, .getfield 52, 3, 115, 119, 12), (110, none, .iload_n 1, 1, 0, 0, 0), (111, none, .iaload, 1, 0, 0, 0), (112, none, .i2l, 1, 0, 0, 0), (113, none, .lneg, 1, 0, 0, 0), (114, none, .invokevirtual 56, 3, 2, 121, 0), (117, none, .goto 138, 3, 255, 0, 0)] := fq_of2 cd_329 ow_329 cl_329 rfl (pc := 95) (by decide +kernel)
              j_aldn (pc := 95) D rfl rfl rfl fun D =>
              j_gfc (pc := 96) (a := x0.toNat) D rfl rfl (nz_cls H.2.1 hk (by decide)) rfl hk rfl ht371 fun D =>
              j_ildn (pc := 99) D rfl rfl rfl fun D =>
              j_aldn (pc := 100) D rfl rfl rfl fun D =>
              j_gfc (pc := 101) (a := x0.toNat) D rfl rfl (nz_cls H.2.1 hk (by decide)) rfl hk rfl ht371 fun D =>
              j_gfc (pc := 104) (a := 303) D rfl rfl (by decide) rfl (s0_303 H) rfl (sf_213_303 H) fun D =>
              j_gfc (pc := 107) (a := 309) D rfl rfl (by decide) rfl (s0_309 H) rfl (sf_115_309 H) fun D =>
              j_ildn (pc := 110) D rfl rfl rfl fun D =>
              j_al (pc := 111) (a := 311) (e := 10) D rfl rfl rfl (by decide) (s0_311 H) (s1_311 H) ⟨rfl, rfl, rfl⟩ rfl gn fun qb13 D =>
              j_i2l (pc := 112) D rfl fun D =>
              j_lneg (pc := 113) D rfl fun D =>
              j_ivv (pc := 114) (m := 353) (dd := 121) (a := [(0, x1), (1, wJ (-(wI (h8 10 311 x1.toNat))))]) (rest := []) D rfl rfl rfl rfl rfl (by decide) (s0_303 H) (by decide +kernel) (fun h14 e1 D =>
                have T := fj_run_ok _ _ _ _ _ _ H.1 e1
                have ht371 := fin_st H.1 T.2 hk (by decide) (by decide +kernel) ht371 (by decide)
                have hk := cls_st H.1 T.2 hk (by decide)
                have H := shp_st H T
                j_goto (pc := 117) D rfl <|
                fk_jump cut_329_255 rfl rfl) (fun q16 h14 e1 =>
                j_tx (hx_329 _))) (fun N =>
              j_tc 2 (t := 120) D N rfl (by decide +kernel) (fun q =>
                have D : fk_D 329 [(120, none, .aload_n 0, 1, 0, 0, 0), (121, none, .getfield 1, 3, 371, 112, 12), (124, none, .getfield 42, 3, 213, 100, 12), (127, none, .getfield 60, 3, 119, 119, 12), (130, none, .iload_n 1, 1, 0, 0, 0), (131, none, .aload_n 0, 1, 0, 0, 0), (132, none, .getfield 1, 3, 371, 112, 12), (135, none, .getfield 42, 3, 213, 100, 12), (138, none, .getfield 60, 3, 119, 119, 12), (141, none, .iload_n 1, 1, 0, 0, 0), (142, none, .laload, 1, 0, 0, 0), (143, none, .lneg, 1, 0, 0, 0), (144, none, .lastore, 1, 0, 0, 0), (145, none, .goto 110, 3, 255, 0, 0)] := fq_of2 cd_329 ow_329 cl_329 rfl (pc := 120) (by decide +kernel)
                j_aldn (pc := 120) D rfl rfl rfl fun D =>
                j_gfc (pc := 121) (a := x0.toNat) D rfl rfl (nz_cls H.2.1 hk (by decide)) rfl hk rfl ht371 fun D =>
                j_gfc (pc := 124) (a := 303) D rfl rfl (by decide) rfl (s0_303 H) rfl (sf_213_303 H) fun D =>
                j_gfc (pc := 127) (a := 309) D rfl rfl (by decide) rfl (s0_309 H) rfl (sf_119_309 H) fun D =>
                j_ildn (pc := 130) D rfl rfl rfl fun D =>
                j_aldn (pc := 131) D rfl rfl rfl fun D =>
                j_gfc (pc := 132) (a := x0.toNat) D rfl rfl (nz_cls H.2.1 hk (by decide)) rfl hk rfl ht371 fun D =>
                j_gfc (pc := 135) (a := 303) D rfl rfl (by decide) rfl (s0_303 H) rfl (sf_213_303 H) fun D =>
                j_gfc (pc := 138) (a := 309) D rfl rfl (by decide) rfl (s0_309 H) rfl (sf_119_309 H) fun D =>
                j_ildn (pc := 141) D rfl rfl rfl fun D =>
                j_al (pc := 142) (a := 315) (e := 11) D rfl rfl rfl (by decide) (s0_315 H) (s1_315 H) ⟨rfl, rfl, rfl⟩ rfl gn fun qb17 D =>
                j_lneg (pc := 143) D rfl fun D =>
                j_as (pc := 144) (a := 315) (e := 11) D rfl ⟨rfl, rfl⟩ rfl (by decide) (s0_315 H) (s1_315 H) ⟨rfl, rfl, rfl⟩ rfl (gy qb17) (gy rfl) fun h18 eh18 S q D =>
                have T := fj_hs_ok H.1 S
                have ht371 := fin_st H.1 T.2 hk (by decide) (by decide +kernel) ht371 (by decide)
                have hk := cls_st H.1 T.2 hk (by decide)
                have H := shp_st H T
                j_goto (pc := 145) D rfl <|
                fk_jump cut_329_255 rfl rfl) (fun N =>
                j_tc 3 (t := 148) D N rfl (by decide +kernel) (fun q =>
                  have D : fk_D 329 [(148, none, .aload_n 0, 1, 0, 0, 0), (149, none, .getfield 1, 3, 371, 112, 12), (152, none, .getfield 42, 3, 213, 100, 12), (155, none, .getfield 64, 3, 116, 119, 12), (158, none, .iload_n 1, 1, 0, 0, 0), (159, none, .aload_n 0, 1, 0, 0, 0), (160, none, .getfield 1, 3, 371, 112, 12), (163, none, .getfield 42, 3, 213, 100, 12), (166, none, .getfield 64, 3, 116, 119, 12), (169, none, .iload_n 1, 1, 0, 0, 0), (170, none, .iaload, 1, 0, 0, 0), (171, none, .ineg, 1, 0, 0, 0), (172, none, .iastore, 1, 0, 0, 0)] := fq_of2 cd_329 ow_329 cl_329 rfl (pc := 148) (by decide +kernel)
                  j_aldn (pc := 148) D rfl rfl rfl fun D =>
                  j_gfc (pc := 149) (a := x0.toNat) D rfl rfl (nz_cls H.2.1 hk (by decide)) rfl hk rfl ht371 fun D =>
                  j_gfc (pc := 152) (a := 303) D rfl rfl (by decide) rfl (s0_303 H) rfl (sf_213_303 H) fun D =>
                  j_gfc (pc := 155) (a := 309) D rfl rfl (by decide) rfl (s0_309 H) rfl (sf_116_309 H) fun D =>
                  j_ildn (pc := 158) D rfl rfl rfl fun D =>
                  j_aldn (pc := 159) D rfl rfl rfl fun D =>
                  j_gfc (pc := 160) (a := x0.toNat) D rfl rfl (nz_cls H.2.1 hk (by decide)) rfl hk rfl ht371 fun D =>
                  j_gfc (pc := 163) (a := 303) D rfl rfl (by decide) rfl (s0_303 H) rfl (sf_213_303 H) fun D =>
                  j_gfc (pc := 166) (a := 309) D rfl rfl (by decide) rfl (s0_309 H) rfl (sf_116_309 H) fun D =>
                  j_ildn (pc := 169) D rfl rfl rfl fun D =>
                  j_al (pc := 170) (a := 312) (e := 10) D rfl rfl rfl (by decide) (s0_312 H) (s1_312 H) ⟨rfl, rfl, rfl⟩ rfl gn fun qb19 D =>
                  j_ineg (pc := 171) D rfl fun D =>
                  j_as (pc := 172) (a := 312) (e := 10) D rfl ⟨rfl, rfl⟩ rfl (by decide) (s0_312 H) (s1_312 H) ⟨rfl, rfl, rfl⟩ rfl (gy qb19) (gy rfl) fun h20 eh20 S q D =>
                  have T := fj_hs_ok H.1 S
                  have ht371 := fin_st H.1 T.2 hk (by decide) (by decide +kernel) ht371 (by decide)
                  have hk := cls_st H.1 T.2 hk (by decide)
                  have H := shp_st H T
                  fk_jump cut_329_173 rfl rfl) (fun N =>
                  j_tc 5 (t := 176) D N rfl (by decide +kernel) (fun q =>
                    have D : fk_D 329 [(176, none, .aload_n 0, 1, 0, 0, 0), (177, none, .getfield 1, 3, 371, 112, 12), (180, none, .getfield 42, 3, 213, 100, 12), (183, none, .getfield 67, 3, 121, 119, 12), (186, none, .iload_n 1, 1, 0, 0, 0), (187, none, .aload_n 0, 1, 0, 0, 0), (188, none, .getfield 1, 3, 371, 112, 12), (191, none, .getfield 42, 3, 213, 100, 12), (194, none, .getfield 67, 3, 121, 119, 12), (197, none, .iload_n 1, 1, 0, 0, 0), (198, none, .saload, 1, 0, 0, 0), (199, none, .ineg, 1, 0, 0, 0), (200, none, .i2s, 1, 0, 0, 0), (201, none, .sastore, 1, 0, 0, 0), (202, none, .aload_n 0, 1, 0, 0, 0), (203, none, .getfield 1, 3, 371, 112, 12), (206, none, .getfield 42, 3, 213, 100, 12), (209, none, .getfield 71, 3, 118, 119, 12), (212, none, .iload_n 1, 1, 0, 0, 0), (213, none, .aload_n 0, 1, 0, 0, 0)] := fq_of2 cd_329 ow_329 cl_329 rfl (pc := 176) (by decide +kernel)
                    j_aldn (pc := 176) D rfl rfl rfl fun D =>
                    j_gfc (pc := 177) (a := x0.toNat) D rfl rfl (nz_cls H.2.1 hk (by decide)) rfl hk rfl ht371 fun D =>
                    j_gfc (pc := 180) (a := 303) D rfl rfl (by decide) rfl (s0_303 H) rfl (sf_213_303 H) fun D =>
                    j_gfc (pc := 183) (a := 309) D rfl rfl (by decide) rfl (s0_309 H) rfl (sf_121_309 H) fun D =>
                    j_ildn (pc := 186) D rfl rfl rfl fun D =>
                    j_aldn (pc := 187) D rfl rfl rfl fun D =>
                    j_gfc (pc := 188) (a := x0.toNat) D rfl rfl (nz_cls H.2.1 hk (by decide)) rfl hk rfl ht371 fun D =>
                    j_gfc (pc := 191) (a := 303) D rfl rfl (by decide) rfl (s0_303 H) rfl (sf_213_303 H) fun D =>
                    j_gfc (pc := 194) (a := 309) D rfl rfl (by decide) rfl (s0_309 H) rfl (sf_121_309 H) fun D =>
                    j_ildn (pc := 197) D rfl rfl rfl fun D =>
                    j_al (pc := 198) (a := 317) (e := 9) D rfl rfl rfl (by decide) (s0_317 H) (s1_317 H) ⟨rfl, rfl, rfl⟩ rfl gn fun qb21 D =>
                    j_ineg (pc := 199) D rfl fun D =>
                    j_i2s (pc := 200) D rfl fun D =>
                    j_as (pc := 201) (a := 317) (e := 9) D rfl ⟨rfl, rfl⟩ rfl (by decide) (s0_317 H) (s1_317 H) ⟨rfl, rfl, rfl⟩ rfl (gy qb21) (gy (fk_rgS _)) fun h22 eh22 S q D =>
                    have T := fj_hs_ok H.1 S
                    have ht371 := fin_st H.1 T.2 hk (by decide) (by decide +kernel) ht371 (by decide)
                    have hk := cls_st H.1 T.2 hk (by decide)
                    have H := shp_st H T
                    j_aldn (pc := 202) D rfl rfl rfl fun D =>
                    j_gfc (pc := 203) (a := x0.toNat) D rfl rfl (nz_cls H.2.1 hk (by decide)) rfl hk rfl ht371 fun D =>
                    j_gfc (pc := 206) (a := 303) D rfl rfl (by decide) rfl (s0_303 H) rfl (sf_213_303 H) fun D =>
                    j_gfc (pc := 209) (a := 309) D rfl rfl (by decide) rfl (s0_309 H) rfl (sf_118_309 H) fun D =>
                    j_ildn (pc := 212) D rfl rfl rfl fun D =>
                    j_aldn (pc := 213) D rfl rfl rfl fun D =>
                    have D : fk_D 329 [(214, none, .getfield 1, 3, 371, 112, 12), (217, none, .getfield 42, 3, 213, 100, 12), (220, none, .getfield 71, 3, 118, 119, 12), (223, none, .iload_n 1, 1, 0, 0, 0), (224, none, .iaload, 1, 0, 0, 0), (225, none, .ineg, 1, 0, 0, 0), (226, none, .iastore, 1, 0, 0, 0), (227, none, .goto 28, 3, 255, 0, 0)] := fq_of2 cd_329 ow_329 cl_329 rfl (pc := 214) (by decide +kernel)
                    j_gfc (pc := 214) (a := x0.toNat) D rfl rfl (nz_cls H.2.1 hk (by decide)) rfl hk rfl ht371 fun D =>
                    j_gfc (pc := 217) (a := 303) D rfl rfl (by decide) rfl (s0_303 H) rfl (sf_213_303 H) fun D =>
                    j_gfc (pc := 220) (a := 309) D rfl rfl (by decide) rfl (s0_309 H) rfl (sf_118_309 H) fun D =>
                    j_ildn (pc := 223) D rfl rfl rfl fun D =>
                    j_al (pc := 224) (a := 314) (e := 10) D rfl rfl rfl (by decide) (s0_314 H) (s1_314 H) ⟨rfl, rfl, rfl⟩ rfl (gy qb21) fun q D =>
                    j_ineg (pc := 225) D rfl fun D =>
                    j_as (pc := 226) (a := 314) (e := 10) D rfl ⟨rfl, rfl⟩ rfl (by decide) (s0_314 H) (s1_314 H) ⟨rfl, rfl, rfl⟩ rfl (gy qb21) (gy rfl) fun h23 eh23 S q D =>
                    have T := fj_hs_ok H.1 S
                    have ht371 := fin_st H.1 T.2 hk (by decide) (by decide +kernel) ht371 (by decide)
                    have hk := cls_st H.1 T.2 hk (by decide)
                    have H := shp_st H T
                    j_goto (pc := 227) D rfl <|
                    fk_jump cut_329_255 rfl rfl) (fun N =>
                    j_td (t := 230) D N rfl (by decide +kernel) (by decide +kernel) <|
                    have D : fk_D 329 [(230, none, .aload_n 0, 1, 0, 0, 0), (231, none, .getfield 1, 3, 371, 112, 12), (234, none, .getfield 42, 3, 213, 100, 12), (237, none, .getfield 74, 3, 122, 119, 12), (240, none, .iload_n 1, 1, 0, 0, 0), (241, none, .aload_n 0, 1, 0, 0, 0), (242, none, .getfield 1, 3, 371, 112, 12), (245, none, .getfield 42, 3, 213, 100, 12), (248, none, .getfield 74, 3, 122, 119, 12), (251, none, .iload_n 1, 1, 0, 0, 0), (252, none, .daload, 1, 0, 0, 0), (253, none, .dneg, 1, 0, 0, 0), (254, none, .dastore, 1, 0, 0, 0)] := fq_of2 cd_329 ow_329 cl_329 rfl (pc := 230) (by decide +kernel)
                    j_aldn (pc := 230) D rfl rfl rfl fun D =>
                    j_gfc (pc := 231) (a := x0.toNat) D rfl rfl (nz_cls H.2.1 hk (by decide)) rfl hk rfl ht371 fun D =>
                    j_gfc (pc := 234) (a := 303) D rfl rfl (by decide) rfl (s0_303 H) rfl (sf_213_303 H) fun D =>
                    j_gfc (pc := 237) (a := 309) D rfl rfl (by decide) rfl (s0_309 H) rfl (sf_122_309 H) fun D =>
                    j_ildn (pc := 240) D rfl rfl rfl fun D =>
                    j_aldn (pc := 241) D rfl rfl rfl fun D =>
                    j_gfc (pc := 242) (a := x0.toNat) D rfl rfl (nz_cls H.2.1 hk (by decide)) rfl hk rfl ht371 fun D =>
                    j_gfc (pc := 245) (a := 303) D rfl rfl (by decide) rfl (s0_303 H) rfl (sf_213_303 H) fun D =>
                    j_gfc (pc := 248) (a := 309) D rfl rfl (by decide) rfl (s0_309 H) rfl (sf_122_309 H) fun D =>
                    j_ildn (pc := 251) D rfl rfl rfl fun D =>
                    j_al (pc := 252) (a := 318) (e := 7) D rfl rfl rfl (by decide) (s0_318 H) (s1_318 H) ⟨rfl, rfl, rfl⟩ rfl gn fun qb24 D =>
                    j_dneg (pc := 253) D rfl fun D =>
                    j_as (pc := 254) (a := 318) (e := 7) D rfl ⟨rfl, rfl⟩ rfl (by decide) (s0_318 H) (s1_318 H) ⟨rfl, rfl, rfl⟩ rfl (gy qb24) (gy rfl) fun h25 eh25 S q D =>
                    have T := fj_hs_ok H.1 S
                    have ht371 := fin_st H.1 T.2 hk (by decide) (by decide +kernel) ht371 (by decide)
                    have hk := cls_st H.1 T.2 hk (by decide)
                    have H := shp_st H T
                    fk_jump cut_329_255 rfl rfl)))))) (fun m11 q10 h8 e1 =>
          j_tx (hx_329 _))) (fun m7 q6 h4 e1 =>
        j_tx (hx_329 _))) (fun q3 h1 e1 =>
      j_tx (hx_329 _))
/-! 330 StatuteHouse$Plain.work(I)V -/
theorem cd_330 : fi_code 330 = prog_52_method_2_code := rfl
theorem hx_330 : ∀ pc, fi_hat 330 pc = none := fun pc => by unfold fi_hat; rw [show fi_hh 330 = [] from rfl]; rfl
theorem rt_330 : fi_ret 330 = none := rfl
theorem nl_330 : fi_nl 330 = 2 := rfl
theorem ow_330 : fi_ow 330 = 14 := rfl
theorem cl_330 : fj_cutT.getD 330 [] = [(75, [])] := rfl
theorem cut_330_75 : fj_cut 330 75 = some [] := by decide +kernel
noncomputable def c_330_75 (d : Nat) (s0 s1 s2 : Int) (h : fi_H) : fk_R := gG (fj_run d) 330 75 [] [(0, s2), (0, s1), (4, s0)] h
theorem e_330_75 (d : Nat) (s0 s1 s2 : Int) {h : fi_H} (H : Shp h) : c_330_75 d s0 s1 s2 h =
  if 302 < s0 ∧ fi_et 1 (h 0 s0.toNat 0) ≠ 0 then
  if 0 ≤ s1 ∧ s1 < h 1 s0.toNat 0 then
  if fi_rg (fi_et 1 (h 0 s0.toNat 0)) s2 = true then
  lt_ (fi_upd h (fi_et 1 (h 0 s0.toNat 0)) s0.toNat s1.toNat s2) fun h1 =>
  some (.inl none, h1)
  else none
  else none
  else none := by
  unfold c_330_75
  exact
    have D : fk_D 330 [(75, some [], .bastore, 1, 0, 0, 0), (76, none, .return_, 1, 0, 0, 0)] := fq_of2 cd_330 ow_330 cl_330 rfl (pc := 75) (by decide +kernel)
    j_asub (pc := 75) D rfl rfl gn gn gn fun h1 eh1 S q q2 D =>
    have T := fj_hs_ok H.1 S
    have H := shp_st H T
    j_vret D rt_330
theorem m_330 (d : Nat) (x0 x1 : Int) {h : fi_H} (H : Shp h) (hk : h 0 x0.toNat 0 = 114) (ht345 : h 345 x0.toNat 0 = 303) : fj_run (d + 1) 330 h [(4, x0), (0, x1)] =
  cv_ (fj_run d 313 h [(4, 303)])
    (fun h1 =>
    if h1 340 x0.toNat 0 = 6 then
      if 0 ≤ x1 ∧ x1 < 700 then
      lt_ (fi_upd h1 5 316 x1.toNat (wC (h1 242 303 0))) fun h4 =>
      some (.inl none, h4)
      else none
    else
      dv_ (fi_vt 216 (h1 0 (h1 344 x0.toNat 0).toNat 0)) fun m9 => ca_ (fj_run d m9 h1 [(4, h1 344 x0.toNat 0), (4, 235)]) 0
        (fun v7 h6 =>
        if v7 = 0 then
          c_330_75 d 319 x1 0 h6
        else
          c_330_75 d 319 x1 (wB (h6 241 303 0)) h6)
        (fun q8 h6 => tx_ q8 h6))
    (fun q3 h1 => tx_ q3 h1) := by
  rw [fj_run_eq d (by decide) h [(4, x0), (0, x1)] (Nat.le_of_ble_eq_true (by rw [nl_330]; rfl))]
  show gG (fj_run d) 330 0 [(0, (4, x0)), (1, (0, x1))] [] h = _
  exact
    have D : fk_D 330 [(0, none, .aload_n 0, 1, 0, 0, 0), (1, none, .getfield 1, 3, 345, 114, 12), (4, none, .invokevirtual 34, 3, 0, 135, 0), (7, none, .aload_n 0, 1, 0, 0, 0), (8, none, .getfield 40, 3, 340, 114, 12), (11, none, .getstatic 15, 3, 4, 6, 0), (14, none, .if_acmp .ne 26, 3, 40, 0, 0), (17, none, .aload_n 0, 1, 0, 0, 0), (18, none, .getfield 1, 3, 345, 114, 12), (21, none, .getfield 43, 3, 213, 100, 12), (24, none, .getfield 47, 3, 120, 119, 12), (27, none, .iload_n 1, 1, 0, 0, 0), (28, none, .aload_n 0, 1, 0, 0, 0), (29, none, .getfield 1, 3, 345, 114, 12), (32, none, .getfield 53, 3, 242, 100, 10), (35, none, .i2c, 1, 0, 0, 0), (36, none, .castore, 1, 0, 0, 0), (37, none, .goto 39, 3, 76, 0, 0)] := fq_of2 cd_330 ow_330 cl_330 rfl (pc := 0) (by decide +kernel)
    j_aldn (pc := 0) D rfl rfl rfl fun D =>
    j_gfc (pc := 1) (a := x0.toNat) D rfl rfl (nz_cls H.2.1 hk (by decide)) rfl hk rfl ht345 fun D =>
    j_ivv (pc := 4) (m := 313) (dd := 135) (a := []) (rest := []) D rfl rfl rfl rfl rfl (by decide) (s0_303 H) (by decide +kernel) (fun h1 e1 D =>
      have T := fj_run_ok _ _ _ _ _ _ H.1 e1
      have ht345 := fin_st H.1 T.2 hk (by decide) (by decide +kernel) ht345 (by decide)
      have hk := cls_st H.1 T.2 hk (by decide)
      have H := shp_st H T
      j_aldn (pc := 7) D rfl rfl rfl fun D =>
      j_gf (pc := 8) (a := x0.toNat) D rfl rfl (nz_cls H.2.1 hk (by decide)) rfl hk rfl fun D =>
      j_gs (pc := 11) D rfl fun D =>
      j_ane (pc := 14) D rfl (fun q D =>
        j_aldn (pc := 17) D rfl rfl rfl fun D =>
        j_gfc (pc := 18) (a := x0.toNat) D rfl rfl (nz_cls H.2.1 hk (by decide)) rfl hk rfl ht345 fun D =>
        j_gfc (pc := 21) (a := 303) D rfl rfl (by decide) rfl (s0_303 H) rfl (sf_213_303 H) fun D =>
        j_gfc (pc := 24) (a := 309) D rfl rfl (by decide) rfl (s0_309 H) rfl (sf_120_309 H) fun D =>
        j_ildn (pc := 27) D rfl rfl rfl fun D =>
        j_aldn (pc := 28) D rfl rfl rfl fun D =>
        j_gfc (pc := 29) (a := x0.toNat) D rfl rfl (nz_cls H.2.1 hk (by decide)) rfl hk rfl ht345 fun D =>
        j_gf (pc := 32) (a := 303) D rfl rfl (by decide) rfl (s0_303 H) rfl fun D =>
        j_i2c (pc := 35) D rfl fun D =>
        j_as (pc := 36) (a := 316) (e := 5) D rfl ⟨rfl, rfl⟩ rfl (by decide) (s0_316 H) (s1_316 H) ⟨rfl, rfl, rfl⟩ rfl gn (gy (fk_rgC _)) fun h4 eh4 S qb5 D =>
        have T := fj_hs_ok H.1 S
        have ht345 := fin_st H.1 T.2 hk (by decide) (by decide +kernel) ht345 (by decide)
        have hk := cls_st H.1 T.2 hk (by decide)
        have H := shp_st H T
        j_goto (pc := 37) D rfl <|
        have D : fk_D 330 [(76, none, .return_, 1, 0, 0, 0)] := fq_of2 cd_330 ow_330 cl_330 rfl (pc := 76) (by decide +kernel)
        j_vret D rt_330) (fun q =>
        have D : fk_D 330 [(40, none, .aload_n 0, 1, 0, 0, 0), (41, none, .getfield 1, 3, 345, 114, 12), (44, none, .getfield 43, 3, 213, 100, 12), (47, none, .getfield 56, 3, 123, 119, 12), (50, none, .iload_n 1, 1, 0, 0, 0), (51, none, .aload_n 0, 1, 0, 0, 0), (52, none, .getfield 30, 3, 344, 114, 12), (55, none, .ldc 60, 2, 4, 235, 0), (57, none, .invokevirtual 9, 3, 1, 216, 1), (60, none, .ifCond .eq 14, 3, 74, 0, 0), (63, none, .aload_n 0, 1, 0, 0, 0), (64, none, .getfield 1, 3, 345, 114, 12), (67, none, .getfield 62, 3, 241, 100, 10), (70, none, .i2b, 1, 0, 0, 0), (71, none, .goto 4, 3, 75, 0, 0)] := fq_of2 cd_330 ow_330 cl_330 rfl (pc := 40) (by decide +kernel)
        j_aldn (pc := 40) D rfl rfl rfl fun D =>
        j_gfc (pc := 41) (a := x0.toNat) D rfl rfl (nz_cls H.2.1 hk (by decide)) rfl hk rfl ht345 fun D =>
        j_gfc (pc := 44) (a := 303) D rfl rfl (by decide) rfl (s0_303 H) rfl (sf_213_303 H) fun D =>
        j_gfc (pc := 47) (a := 309) D rfl rfl (by decide) rfl (s0_309 H) rfl (sf_123_309 H) fun D =>
        j_ildn (pc := 50) D rfl rfl rfl fun D =>
        j_aldn (pc := 51) D rfl rfl rfl fun D =>
        j_gf (pc := 52) (a := x0.toNat) D rfl rfl (nz_cls H.2.1 hk (by decide)) rfl hk rfl fun D =>
        j_ldc (pc := 55) D rfl fun D =>
        j_ivu (pc := 57) (dd := 216) (a := [(4, 235)]) (rest := [(0, x1), (4, 319)]) H.2.1 D rfl rfl rfl rfl rfl (fun m9 v7 h6 e1 D =>
          have T := fj_run_ok _ _ _ _ _ _ H.1 e1
          have ht345 := fin_st H.1 T.2 hk (by decide) (by decide +kernel) ht345 (by decide)
          have hk := cls_st H.1 T.2 hk (by decide)
          have H := shp_st H T
          j_ifeq (pc := 60) D rfl (fun q =>
            have D : fk_D 330 [(74, none, .iconst 0, 1, 0, 0, 0)] := fq_of2 cd_330 ow_330 cl_330 rfl (pc := 74) (by decide +kernel)
            j_ic (pc := 74) D rfl fun D =>
            fk_jump cut_330_75 rfl rfl) (fun q D =>
            j_aldn (pc := 63) D rfl rfl rfl fun D =>
            j_gfc (pc := 64) (a := x0.toNat) D rfl rfl (nz_cls H.2.1 hk (by decide)) rfl hk rfl ht345 fun D =>
            j_gf (pc := 67) (a := 303) D rfl rfl (by decide) rfl (s0_303 H) rfl fun D =>
            j_i2b (pc := 70) D rfl fun D =>
            j_goto (pc := 71) D rfl <|
            fk_jump cut_330_75 rfl rfl)) (fun m9 q8 h6 e1 =>
          j_tx (hx_330 _)))) (fun q3 h1 e1 =>
      j_tx (hx_330 _))
/-! 331 StatuteHouse$SetPart.work(I)V -/
theorem cd_331 : fi_code 331 = prog_56_method_2_code := rfl
theorem rt_331 : fi_ret 331 = none := rfl
theorem nl_331 : fi_nl 331 = 7 := rfl
theorem ow_331 : fi_ow 331 = 18 := rfl
theorem cl_331 : fj_cutT.getD 331 [] = [(37, [0, 1, 2, 3]), (93, [0, 1, 2, 3]), (94, [0, 1, 2, 3]), (114, [0, 1, 2, 3]), (119, [0, 1, 2, 3, 4, 5]), (187, [0, 1, 2, 3, 4, 5]), (226, [0, 1, 2, 3, 4, 5]), (243, [0, 2]), (280, [0])] := rfl
theorem cut_331_37 : fj_cut 331 37 = some [0, 1, 2, 3] := by decide +kernel
noncomputable def c_331_37 (d : Nat) (x0 x1 x2 x3 : Int) (h : fi_H) : fk_R := gG (fj_run d) 331 37 [(0, (4, x0)), (1, (0, x1)), (2, (0, x2)), (3, (0, x3))] [] h
theorem cut_331_93 : fj_cut 331 93 = some [0, 1, 2, 3] := by decide +kernel
noncomputable def c_331_93 (d : Nat) (x0 x1 x2 x3 s0 s1 s2 : Int) (h : fi_H) : fk_R := gG (fj_run d) 331 93 [(0, (4, x0)), (1, (0, x1)), (2, (0, x2)), (3, (0, x3))] [(0, s2), (0, s1), (4, s0)] h
theorem cut_331_94 : fj_cut 331 94 = some [0, 1, 2, 3] := by decide +kernel
noncomputable def c_331_94 (d : Nat) (x0 x1 x2 x3 : Int) (h : fi_H) : fk_R := gG (fj_run d) 331 94 [(0, (4, x0)), (1, (0, x1)), (2, (0, x2)), (3, (0, x3))] [] h
theorem cut_331_114 : fj_cut 331 114 = some [0, 1, 2, 3] := by decide +kernel
noncomputable def c_331_114 (d : Nat) (x0 x1 x2 x3 s0 : Int) (h : fi_H) : fk_R := gG (fj_run d) 331 114 [(0, (4, x0)), (1, (0, x1)), (2, (0, x2)), (3, (0, x3))] [(0, s0)] h
theorem cut_331_119 : fj_cut 331 119 = some [0, 1, 2, 3, 4, 5] := by decide +kernel
noncomputable def c_331_119 (d : Nat) (x0 x1 x2 x3 x4 x5 : Int) (h : fi_H) : fk_R := gG (fj_run d) 331 119 [(0, (4, x0)), (1, (0, x1)), (2, (0, x2)), (3, (0, x3)), (4, (0, x4)), (5, (0, x5))] [] h
theorem cut_331_187 : fj_cut 331 187 = some [0, 1, 2, 3, 4, 5] := by decide +kernel
noncomputable def c_331_187 (d : Nat) (x0 x1 x2 x3 x4 x5 : Int) (h : fi_H) : fk_R := gG (fj_run d) 331 187 [(0, (4, x0)), (1, (0, x1)), (2, (0, x2)), (3, (0, x3)), (4, (0, x4)), (5, (0, x5))] [] h
theorem cut_331_226 : fj_cut 331 226 = some [0, 1, 2, 3, 4, 5] := by decide +kernel
noncomputable def c_331_226 (d : Nat) (x0 x1 x2 x3 x4 x5 : Int) (h : fi_H) : fk_R := gG (fj_run d) 331 226 [(0, (4, x0)), (1, (0, x1)), (2, (0, x2)), (3, (0, x3)), (4, (0, x4)), (5, (0, x5))] [] h
theorem cut_331_243 : fj_cut 331 243 = some [0, 2] := by decide +kernel
noncomputable def c_331_243 (d : Nat) (x0 x2 s0 : Int) (h : fi_H) : fk_R := gG (fj_run d) 331 243 [(0, (4, x0)), (2, (0, x2))] [(4, s0)] h
theorem cut_331_280 : fj_cut 331 280 = some [0] := by decide +kernel
noncomputable def c_331_280 (d : Nat) (x0 : Int) (h : fi_H) : fk_R := gG (fj_run d) 331 280 [(0, (4, x0))] [] h
theorem e_331_37 (d : Nat) (x0 x1 x2 x3 : Int) {h : fi_H} (H : Shp h) (hk : h 0 x0.toNat 0 = 118) (ht356 : h 356 x0.toNat 0 = 303) : c_331_37 d x0 x1 x2 x3 h =
  cv_ (fj_run d 215 h [(4, 309), (0, x1), (4, h 340 x0.toNat 0), (1, 0), (1, 1)])
    (fun h1 =>
    c_331_94 d x0 x1 x2 x3 h1)
    (fun q3 h1 => tx_ q3 h1) := by
  unfold c_331_37
  exact
    have D : fk_D 331 [(37, some [0, 1, 2, 3], .aload_n 0, 1, 0, 0, 0), (38, none, .getfield 3, 3, 356, 118, 12), (41, none, .getfield 45, 3, 213, 100, 12), (44, none, .iload_n 1, 1, 0, 0, 0), (45, none, .aload_n 0, 1, 0, 0, 0), (46, none, .getfield 49, 3, 340, 118, 12), (49, none, .lconst 0, 1, 0, 0, 0), (50, none, .lconst 1, 1, 0, 0, 0), (51, none, .invokestatic 53, 3, 5, 215, 0), (54, none, .goto 40, 3, 94, 0, 0)] := fq_of2 cd_331 ow_331 cl_331 rfl (pc := 37) (by decide +kernel)
    j_aldn (pc := 37) D rfl rfl rfl fun D =>
    j_gfc (pc := 38) (a := x0.toNat) D rfl rfl (nz_cls H.2.1 hk (by decide)) rfl hk rfl ht356 fun D =>
    j_gfc (pc := 41) (a := 303) D rfl rfl (by decide) rfl (s0_303 H) rfl (sf_213_303 H) fun D =>
    j_ildn (pc := 44) D rfl rfl rfl fun D =>
    j_aldn (pc := 45) D rfl rfl rfl fun D =>
    j_gf (pc := 46) (a := x0.toNat) D rfl rfl (nz_cls H.2.1 hk (by decide)) rfl hk rfl fun D =>
    j_c0 (pc := 49) (v := (1, 0)) D rfl rfl (by decide +kernel) fun D =>
    j_c0 (pc := 50) (v := (1, 1)) D rfl rfl (by decide +kernel) fun D =>
    j_isv (pc := 51) (m := 215) (a := [(4, 309), (0, x1), (4, h 340 x0.toNat 0), (1, 0), (1, 1)]) (rest := []) D rfl rfl rfl rfl (fun h1 e1 D =>
      have T := fj_run_ok _ _ _ _ _ _ H.1 e1
      have ht356 := fin_st H.1 T.2 hk (by decide) (by decide +kernel) ht356 (by decide)
      have hk := cls_st H.1 T.2 hk (by decide)
      have H := shp_st H T
      j_goto (pc := 54) D rfl <|
      fk_jump cut_331_94 rfl rfl) (fun q3 h1 e1 =>
      j_tx (by decide +kernel))
theorem e_331_93 (d : Nat) (x0 x1 x2 x3 s0 s1 s2 : Int) {h : fi_H} (H : Shp h) (hk : h 0 x0.toNat 0 = 118) (ht356 : h 356 x0.toNat 0 = 303) : c_331_93 d x0 x1 x2 x3 s0 s1 s2 h =
  if 302 < s0 ∧ fi_et 1 (h 0 s0.toNat 0) ≠ 0 then
  if 0 ≤ s1 ∧ s1 < h 1 s0.toNat 0 then
  if fi_rg (fi_et 1 (h 0 s0.toNat 0)) s2 = true then
  lt_ (fi_upd h (fi_et 1 (h 0 s0.toNat 0)) s0.toNat s1.toNat s2) fun h1 =>
  c_331_94 d x0 x1 x2 x3 h1
  else none
  else none
  else none := by
  unfold c_331_93
  exact
    have D : fk_D 331 [(93, some [0, 1, 2, 3], .bastore, 1, 0, 0, 0)] := fq_of2 cd_331 ow_331 cl_331 rfl (pc := 93) (by decide +kernel)
    j_asub (pc := 93) D rfl rfl gn gn gn fun h1 eh1 S q q2 D =>
    have T := fj_hs_ok H.1 S
    have ht356 := fin_st H.1 T.2 hk (by decide) (by decide +kernel) ht356 (by decide)
    have hk := cls_st H.1 T.2 hk (by decide)
    have H := shp_st H T
    fk_jump cut_331_94 rfl rfl
theorem e_331_94 (d : Nat) (x0 x1 x2 x3 : Int) {h : fi_H} (H : Shp h) (hk : h 0 x0.toNat 0 = 118) (ht356 : h 356 x0.toNat 0 = 303) : c_331_94 d x0 x1 x2 x3 h =
  if h 355 x0.toNat 0 = (-1) then
    ca_ (fj_run d 332 h [(4, 303), (0, x2)]) 0
      (fun v2 h1 =>
      c_331_114 d x0 x1 x2 x3 v2 h1)
      (fun q3 h1 => tx_ q3 h1)
  else
    c_331_114 d x0 x1 x2 x3 0 h := by
  unfold c_331_94
  exact
    have D : fk_D 331 [(94, some [0, 1, 2, 3], .aload_n 0, 1, 0, 0, 0), (95, none, .getfield 27, 3, 355, 118, 10), (98, none, .iconst (-1), 1, 0, (-1), 0), (99, none, .if_icmp .ne 14, 3, 113, 0, 0), (102, none, .aload_n 0, 1, 0, 0, 0), (103, none, .getfield 3, 3, 356, 118, 12), (106, none, .iload_n 2, 1, 0, 0, 0), (107, none, .invokevirtual 71, 3, 1, 222, 1), (110, none, .goto 4, 3, 114, 0, 0)] := fq_of2 cd_331 ow_331 cl_331 rfl (pc := 94) (by decide +kernel)
    j_aldn (pc := 94) D rfl rfl rfl fun D =>
    j_gf (pc := 95) (a := x0.toNat) D rfl rfl (nz_cls H.2.1 hk (by decide)) rfl hk rfl fun D =>
    j_ic (pc := 98) D rfl fun D =>
    j_ine (pc := 99) D rfl (fun q D =>
      j_aldn (pc := 102) D rfl rfl rfl fun D =>
      j_gfc (pc := 103) (a := x0.toNat) D rfl rfl (nz_cls H.2.1 hk (by decide)) rfl hk rfl ht356 fun D =>
      j_ildn (pc := 106) D rfl rfl rfl fun D =>
      j_iv (pc := 107) (m := 332) (dd := 222) (a := [(0, x2)]) (rest := []) D rfl rfl rfl rfl rfl (by decide) (s0_303 H) (by decide +kernel) (fun v2 h1 e1 D =>
        have T := fj_run_ok _ _ _ _ _ _ H.1 e1
        have ht356 := fin_st H.1 T.2 hk (by decide) (by decide +kernel) ht356 (by decide)
        have hk := cls_st H.1 T.2 hk (by decide)
        have H := shp_st H T
        j_goto (pc := 110) D rfl <|
        fk_jump cut_331_114 rfl rfl) (fun q3 h1 e1 =>
        j_tx (by decide +kernel))) (fun q =>
      have D : fk_D 331 [(113, none, .iconst 0, 1, 0, 0, 0)] := fq_of2 cd_331 ow_331 cl_331 rfl (pc := 113) (by decide +kernel)
      j_ic (pc := 113) D rfl fun D =>
      fk_jump cut_331_114 rfl rfl)
theorem e_331_114 (d : Nat) (x0 x1 x2 x3 s0 : Int) {h : fi_H} (H : Shp h) (hk : h 0 x0.toNat 0 = 118) (ht356 : h 356 x0.toNat 0 = 303) : c_331_114 d x0 x1 x2 x3 s0 h =
  c_331_119 d x0 x1 x2 x3 s0 0 h := by
  unfold c_331_114
  exact
    have D : fk_D 331 [(114, some [0, 1, 2, 3], .istore 4, 2, 0, 0, 0), (116, none, .iconst 0, 1, 0, 0, 0), (117, none, .istore 5, 2, 0, 0, 0)] := fq_of2 cd_331 ow_331 cl_331 rfl (pc := 114) (by decide +kernel)
    j_ist (pc := 114) (L' := [(4, (0, s0)), (0, (4, x0)), (1, (0, x1)), (2, (0, x2)), (3, (0, x3))]) D rfl nl_331 rfl rfl fun D =>
    j_ic (pc := 116) D rfl fun D =>
    j_ist (pc := 117) (L' := [(5, (0, 0)), (4, (0, s0)), (0, (4, x0)), (1, (0, x1)), (2, (0, x2)), (3, (0, x3))]) D rfl nl_331 rfl rfl fun D =>
    fk_jump cut_331_119 rfl rfl
theorem e_331_119 (d : Nat) (x0 x1 x2 x3 x4 x5 : Int) {h : fi_H} (H : Shp h) (hk : h 0 x0.toNat 0 = 118) (ht356 : h 356 x0.toNat 0 = 303) : c_331_119 d x0 x1 x2 x3 x4 x5 h =
  if x5 < h 216 303 0 then
    cv_ (fj_run d 313 h [(4, 303)])
      (fun h1 =>
      lt_ (fi_upd h1 241 303 0 x2) fun h4 =>
      if h4 355 x0.toNat 0 = (-1) then
        if ia_ (sr_ x4 x5) 1 = 0 then
          c_331_226 d x0 x1 x2 x3 x4 x5 h4
        else
          c_331_187 d x0 x1 x2 x3 x4 x5 h4
      else
        ca_ (fj_run d 335 h4 [(4, 303), (0, x5), (0, h4 355 x0.toNat 0), (0, x2)]) 0
          (fun v6 h5 =>
          if v6 = 0 then
            c_331_226 d x0 x1 x2 x3 x4 x5 h5
          else
            c_331_187 d x0 x1 x2 x3 x4 x5 h5)
          (fun q7 h5 => ta_ q7 h5 (c_331_243 d x0 x2 (q7 : Int) h5)))
      (fun q3 h1 => ta_ q3 h1 (c_331_243 d x0 x2 (q3 : Int) h1))
  else
    lt_ (fi_upd h 241 303 0 x2) fun h8 =>
    if x3 = 0 then
      if h8 353 x0.toNat 0 = 58 then
        c_331_280 d x0 h8
      else
        if h8 353 x0.toNat 0 = 59 then
          c_331_280 d x0 h8
        else
          some (.inl none, h8)
    else
      some (.inl none, h8) := by
  unfold c_331_119
  exact
    have D : fk_D 331 [(119, some [0, 1, 2, 3, 4, 5], .iload 5, 2, 0, 0, 0), (121, none, .aload_n 0, 1, 0, 0, 0), (122, none, .getfield 3, 3, 356, 118, 12), (125, none, .getfield 75, 3, 216, 100, 10), (128, none, .if_icmp .ge 104, 3, 232, 0, 0), (131, none, .aload_n 0, 1, 0, 0, 0), (132, none, .getfield 3, 3, 356, 118, 12), (135, none, .invokevirtual 30, 3, 0, 135, 0), (138, none, .aload_n 0, 1, 0, 0, 0), (139, none, .getfield 3, 3, 356, 118, 12), (142, none, .iload_n 2, 1, 0, 0, 0), (143, none, .putfield 34, 3, 241, 100, 10), (146, none, .aload_n 0, 1, 0, 0, 0), (147, none, .getfield 27, 3, 355, 118, 10), (150, none, .iconst (-1), 1, 0, (-1), 0), (151, none, .if_icmp .ne 16, 3, 167, 0, 0), (154, none, .iload 4, 2, 0, 0, 0), (156, none, .iload 5, 2, 0, 0, 0), (158, none, .ishr, 1, 0, 0, 0), (159, none, .iconst 1, 1, 0, 1, 0)] := fq_of2 cd_331 ow_331 cl_331 rfl (pc := 119) (by decide +kernel)
    j_ild (pc := 119) D rfl rfl rfl fun D =>
    j_aldn (pc := 121) D rfl rfl rfl fun D =>
    j_gfc (pc := 122) (a := x0.toNat) D rfl rfl (nz_cls H.2.1 hk (by decide)) rfl hk rfl ht356 fun D =>
    j_gf (pc := 125) (a := 303) D rfl rfl (by decide) rfl (s0_303 H) rfl fun D =>
    j_ige (pc := 128) D rfl (fun q D =>
      j_aldn (pc := 131) D rfl rfl rfl fun D =>
      j_gfc (pc := 132) (a := x0.toNat) D rfl rfl (nz_cls H.2.1 hk (by decide)) rfl hk rfl ht356 fun D =>
      j_ivv (pc := 135) (m := 313) (dd := 135) (a := []) (rest := []) D rfl rfl rfl rfl rfl (by decide) (s0_303 H) (by decide +kernel) (fun h1 e1 D =>
        have T := fj_run_ok _ _ _ _ _ _ H.1 e1
        have ht356 := fin_st H.1 T.2 hk (by decide) (by decide +kernel) ht356 (by decide)
        have hk := cls_st H.1 T.2 hk (by decide)
        have H := shp_st H T
        j_aldn (pc := 138) D rfl rfl rfl fun D =>
        j_gfc (pc := 139) (a := x0.toNat) D rfl rfl (nz_cls H.2.1 hk (by decide)) rfl hk rfl ht356 fun D =>
        j_ildn (pc := 142) D rfl rfl rfl fun D =>
        j_pf (pc := 143) (a := 303) D rfl rfl rfl (s0_303 H) rfl rfl (gy (by decide)) (gy rfl) fun h4 eh4 S D =>
        have T := fj_hs_ok H.1 S
        have ht356 := fin_st H.1 T.2 hk (by decide) (by decide +kernel) ht356 (by decide)
        have hk := cls_st H.1 T.2 hk (by decide)
        have H := shp_st H T
        j_aldn (pc := 146) D rfl rfl rfl fun D =>
        j_gf (pc := 147) (a := x0.toNat) D rfl rfl (nz_cls H.2.1 hk (by decide)) rfl hk rfl fun D =>
        j_ic (pc := 150) D rfl fun D =>
        j_ine (pc := 151) D rfl (fun q D =>
          j_ild (pc := 154) D rfl rfl rfl fun D =>
          j_ild (pc := 156) D rfl rfl rfl fun D =>
          j_ishr (pc := 158) D rfl fun D =>
          j_ic (pc := 159) D rfl fun D =>
          have D : fk_D 331 [(160, none, .iand, 1, 0, 0, 0), (161, none, .ifCond .ne 26, 3, 187, 0, 0), (164, none, .goto 62, 3, 226, 0, 0)] := fq_of2 cd_331 ow_331 cl_331 rfl (pc := 160) (by decide +kernel)
          j_iand (pc := 160) D rfl fun D =>
          j_ifne (pc := 161) D rfl (fun q D =>
            j_goto (pc := 164) D rfl <|
            fk_jump cut_331_226 rfl rfl) (fun q =>
            fk_jump cut_331_187 rfl rfl)) (fun q =>
          have D : fk_D 331 [(167, none, .aload_n 0, 1, 0, 0, 0), (168, none, .getfield 3, 3, 356, 118, 12), (171, none, .iload 5, 2, 0, 0, 0), (173, none, .aload_n 0, 1, 0, 0, 0), (174, none, .getfield 27, 3, 355, 118, 10), (177, none, .iload_n 2, 1, 0, 0, 0), (178, none, .invokevirtual 78, 3, 3, 223, 1), (181, none, .ifCond .ne 6, 3, 187, 0, 0), (184, none, .goto 42, 3, 226, 0, 0)] := fq_of2 cd_331 ow_331 cl_331 rfl (pc := 167) (by decide +kernel)
          j_aldn (pc := 167) D rfl rfl rfl fun D =>
          j_gfc (pc := 168) (a := x0.toNat) D rfl rfl (nz_cls H.2.1 hk (by decide)) rfl hk rfl ht356 fun D =>
          j_ild (pc := 171) D rfl rfl rfl fun D =>
          j_aldn (pc := 173) D rfl rfl rfl fun D =>
          j_gf (pc := 174) (a := x0.toNat) D rfl rfl (nz_cls H.2.1 hk (by decide)) rfl hk rfl fun D =>
          j_ildn (pc := 177) D rfl rfl rfl fun D =>
          j_iv (pc := 178) (m := 335) (dd := 223) (a := [(0, x5), (0, h4 355 x0.toNat 0), (0, x2)]) (rest := []) D rfl rfl rfl rfl rfl (by decide) (s0_303 H) (by decide +kernel) (fun v6 h5 e1 D =>
            have T := fj_run_ok _ _ _ _ _ _ H.1 e1
            have ht356 := fin_st H.1 T.2 hk (by decide) (by decide +kernel) ht356 (by decide)
            have hk := cls_st H.1 T.2 hk (by decide)
            have H := shp_st H T
            j_ifne (pc := 181) D rfl (fun q D =>
              j_goto (pc := 184) D rfl <|
              fk_jump cut_331_226 rfl rfl) (fun q =>
              fk_jump cut_331_187 rfl rfl)) (fun q7 h5 e1 =>
            j_ta (fk_at (cu := none) (by decide +kernel) rfl) (s := 116) (e := 215) (hp := 243) (by decide +kernel) <|
            fk_jump cut_331_243 rfl rfl))) (fun q3 h1 e1 =>
        j_ta (fk_at (cu := none) (by decide +kernel) rfl) (s := 116) (e := 215) (hp := 243) (by decide +kernel) <|
        fk_jump cut_331_243 rfl rfl)) (fun q =>
      have D : fk_D 331 [(232, none, .aload_n 0, 1, 0, 0, 0), (233, none, .getfield 3, 3, 356, 118, 12), (236, none, .iload_n 2, 1, 0, 0, 0), (237, none, .putfield 34, 3, 241, 100, 10), (240, none, .goto 16, 3, 256, 0, 0)] := fq_of2 cd_331 ow_331 cl_331 rfl (pc := 232) (by decide +kernel)
      j_aldn (pc := 232) D rfl rfl rfl fun D =>
      j_gfc (pc := 233) (a := x0.toNat) D rfl rfl (nz_cls H.2.1 hk (by decide)) rfl hk rfl ht356 fun D =>
      j_ildn (pc := 236) D rfl rfl rfl fun D =>
      j_pf (pc := 237) (a := 303) D rfl rfl rfl (s0_303 H) rfl rfl (gy (by decide)) (gy rfl) fun h8 eh8 S D =>
      have T := fj_hs_ok H.1 S
      have ht356 := fin_st H.1 T.2 hk (by decide) (by decide +kernel) ht356 (by decide)
      have hk := cls_st H.1 T.2 hk (by decide)
      have H := shp_st H T
      j_goto (pc := 240) D rfl <|
      have D : fk_D 331 [(256, none, .iload_n 3, 1, 0, 0, 0), (257, none, .ifCond .ne 33, 3, 290, 0, 0), (260, none, .aload_n 0, 1, 0, 0, 0), (261, none, .getfield 19, 3, 353, 118, 12), (264, none, .getstatic 90, 3, 4, 58, 0), (267, none, .if_acmp .eq 13, 3, 280, 0, 0), (270, none, .aload_n 0, 1, 0, 0, 0), (271, none, .getfield 19, 3, 353, 118, 12), (274, none, .getstatic 93, 3, 4, 59, 0), (277, none, .if_acmp .ne 13, 3, 290, 0, 0)] := fq_of2 cd_331 ow_331 cl_331 rfl (pc := 256) (by decide +kernel)
      j_ildn (pc := 256) D rfl rfl rfl fun D =>
      j_ifne (pc := 257) D rfl (fun q D =>
        j_aldn (pc := 260) D rfl rfl rfl fun D =>
        j_gf (pc := 261) (a := x0.toNat) D rfl rfl (nz_cls H.2.1 hk (by decide)) rfl hk rfl fun D =>
        j_gs (pc := 264) D rfl fun D =>
        j_aeq (pc := 267) D rfl (fun q =>
          fk_jump cut_331_280 rfl rfl) (fun q D =>
          j_aldn (pc := 270) D rfl rfl rfl fun D =>
          j_gf (pc := 271) (a := x0.toNat) D rfl rfl (nz_cls H.2.1 hk (by decide)) rfl hk rfl fun D =>
          j_gs (pc := 274) D rfl fun D =>
          j_ane (pc := 277) D rfl (fun q D =>
            fk_jump cut_331_280 rfl rfl) (fun q =>
            have D : fk_D 331 [(290, none, .return_, 1, 0, 0, 0)] := fq_of2 cd_331 ow_331 cl_331 rfl (pc := 290) (by decide +kernel)
            j_vret D rt_331))) (fun q =>
        have D : fk_D 331 [(290, none, .return_, 1, 0, 0, 0)] := fq_of2 cd_331 ow_331 cl_331 rfl (pc := 290) (by decide +kernel)
        j_vret D rt_331))
theorem e_331_187 (d : Nat) (x0 x1 x2 x3 x4 x5 : Int) {h : fi_H} (H : Shp h) (hk : h 0 x0.toNat 0 = 118) (ht356 : h 356 x0.toNat 0 = 303) : c_331_187 d x0 x1 x2 x3 x4 x5 h =
  lt_ (fi_upd h 241 303 0 x5) fun h1 =>
  dv_ (fi_vt 136 (h1 0 (h1 354 x0.toNat 0).toNat 0)) fun m5 => cv_ (fj_run d m5 h1 [(4, h1 354 x0.toNat 0), (0, wI (x1 + 1))])
    (fun h2 =>
    ca_ (fj_run d 366 h2 [(4, x0), (0, x1), (0, x3)]) 0
      (fun v7 h6 =>
      if v7 = 0 then
        c_331_226 d x0 x1 x2 1 x4 x5 h6
      else
        lt_ (fi_upd h6 241 303 0 x2) fun h9 =>
        some (.inl none, h9))
      (fun q8 h6 => ta_ q8 h6 (c_331_243 d x0 x2 (q8 : Int) h6)))
    (fun q4 h2 => ta_ q4 h2 (c_331_243 d x0 x2 (q4 : Int) h2)) := by
  unfold c_331_187
  exact
    have D : fk_D 331 [(187, some [0, 1, 2, 3, 4, 5], .aload_n 0, 1, 0, 0, 0), (188, none, .getfield 3, 3, 356, 118, 12), (191, none, .iload 5, 2, 0, 0, 0), (193, none, .putfield 34, 3, 241, 100, 10), (196, none, .aload_n 0, 1, 0, 0, 0), (197, none, .getfield 23, 3, 354, 118, 12), (200, none, .iload_n 1, 1, 0, 0, 0), (201, none, .iconst 1, 1, 0, 1, 0), (202, none, .iadd, 1, 0, 0, 0), (203, none, .invokevirtual 82, 3, 1, 136, 0), (206, none, .aload_n 0, 1, 0, 0, 0), (207, none, .iload_n 1, 1, 0, 0, 0), (208, none, .iload_n 3, 1, 0, 0, 0), (209, none, .invokevirtual 86, 3, 2, 224, 1), (212, none, .ifCond .eq 12, 3, 224, 0, 0), (215, none, .aload_n 0, 1, 0, 0, 0), (216, none, .getfield 3, 3, 356, 118, 12), (219, none, .iload_n 2, 1, 0, 0, 0), (220, none, .putfield 34, 3, 241, 100, 10), (223, none, .return_, 1, 0, 0, 0)] := fq_of2 cd_331 ow_331 cl_331 rfl (pc := 187) (by decide +kernel)
    j_aldn (pc := 187) D rfl rfl rfl fun D =>
    j_gfc (pc := 188) (a := x0.toNat) D rfl rfl (nz_cls H.2.1 hk (by decide)) rfl hk rfl ht356 fun D =>
    j_ild (pc := 191) D rfl rfl rfl fun D =>
    j_pf (pc := 193) (a := 303) D rfl rfl rfl (s0_303 H) rfl rfl (gy (by decide)) (gy rfl) fun h1 eh1 S D =>
    have T := fj_hs_ok H.1 S
    have ht356 := fin_st H.1 T.2 hk (by decide) (by decide +kernel) ht356 (by decide)
    have hk := cls_st H.1 T.2 hk (by decide)
    have H := shp_st H T
    j_aldn (pc := 196) D rfl rfl rfl fun D =>
    j_gf (pc := 197) (a := x0.toNat) D rfl rfl (nz_cls H.2.1 hk (by decide)) rfl hk rfl fun D =>
    j_ildn (pc := 200) D rfl rfl rfl fun D =>
    j_ic (pc := 201) D rfl fun D =>
    j_iadd (pc := 202) D rfl fun D =>
    j_ivuv (pc := 203) (dd := 136) (a := [(0, wI (x1 + 1))]) (rest := []) H.2.1 D rfl rfl rfl rfl rfl (fun m5 h2 e1 D =>
      have T := fj_run_ok _ _ _ _ _ _ H.1 e1
      have ht356 := fin_st H.1 T.2 hk (by decide) (by decide +kernel) ht356 (by decide)
      have hk := cls_st H.1 T.2 hk (by decide)
      have H := shp_st H T
      j_aldn (pc := 206) D rfl rfl rfl fun D =>
      j_ildn (pc := 207) D rfl rfl rfl fun D =>
      j_ildn (pc := 208) D rfl rfl rfl fun D =>
      j_iv (pc := 209) (m := 366) (dd := 224) (a := [(0, x1), (0, x3)]) (rest := []) D rfl rfl rfl rfl rfl (nz_cls H.2.1 hk (by decide)) hk (by decide +kernel) (fun v7 h6 e1 D =>
        have T := fj_run_ok _ _ _ _ _ _ H.1 e1
        have ht356 := fin_st H.1 T.2 hk (by decide) (by decide +kernel) ht356 (by decide)
        have hk := cls_st H.1 T.2 hk (by decide)
        have H := shp_st H T
        j_ifeq (pc := 212) D rfl (fun q =>
          have D : fk_D 331 [(224, none, .iconst 1, 1, 0, 1, 0), (225, none, .istore_n 3, 1, 0, 0, 0)] := fq_of2 cd_331 ow_331 cl_331 rfl (pc := 224) (by decide +kernel)
          j_ic (pc := 224) D rfl fun D =>
          j_istn (pc := 225) (L' := [(3, (0, 1)), (0, (4, x0)), (1, (0, x1)), (2, (0, x2)), (4, (0, x4)), (5, (0, x5))]) D rfl nl_331 rfl rfl fun D =>
          fk_jump cut_331_226 rfl rfl) (fun q D =>
          j_aldn (pc := 215) D rfl rfl rfl fun D =>
          j_gfc (pc := 216) (a := x0.toNat) D rfl rfl (nz_cls H.2.1 hk (by decide)) rfl hk rfl ht356 fun D =>
          j_ildn (pc := 219) D rfl rfl rfl fun D =>
          j_pf (pc := 220) (a := 303) D rfl rfl rfl (s0_303 H) rfl rfl (gy (by decide)) (gy rfl) fun h9 eh9 S D =>
          have T := fj_hs_ok H.1 S
          have ht356 := fin_st H.1 T.2 hk (by decide) (by decide +kernel) ht356 (by decide)
          have hk := cls_st H.1 T.2 hk (by decide)
          have H := shp_st H T
          j_vret D rt_331)) (fun q8 h6 e1 =>
        j_ta (fk_at (cu := none) (by decide +kernel) rfl) (s := 116) (e := 215) (hp := 243) (by decide +kernel) <|
        fk_jump cut_331_243 rfl rfl)) (fun m5 q4 h2 e1 =>
      j_ta (fk_at (cu := none) (by decide +kernel) rfl) (s := 116) (e := 215) (hp := 243) (by decide +kernel) <|
      fk_jump cut_331_243 rfl rfl)
theorem e_331_226 (d : Nat) (x0 x1 x2 x3 x4 x5 : Int) {h : fi_H} (H : Shp h) (hk : h 0 x0.toNat 0 = 118) (ht356 : h 356 x0.toNat 0 = 303) : c_331_226 d x0 x1 x2 x3 x4 x5 h =
  c_331_119 d x0 x1 x2 x3 x4 (wI (x5 + 1)) h := by
  unfold c_331_226
  exact
    have D : fk_D 331 [(226, some [0, 1, 2, 3, 4, 5], .iinc 5 1, 3, 0, 1, 0), (229, none, .goto (-110), 3, 119, 0, 0)] := fq_of2 cd_331 ow_331 cl_331 rfl (pc := 226) (by decide +kernel)
    j_inc (pc := 226) (L' := [(5, (0, wI (x5 + 1))), (0, (4, x0)), (1, (0, x1)), (2, (0, x2)), (3, (0, x3)), (4, (0, x4))]) D rfl rfl rfl (by decide +kernel) rfl fun D =>
    j_goto (pc := 229) D rfl <|
    fk_jump cut_331_119 rfl rfl
theorem e_331_243 (d : Nat) (x0 x2 s0 : Int) {h : fi_H} (H : Shp h) (hk : h 0 x0.toNat 0 = 118) (ht356 : h 356 x0.toNat 0 = 303) : c_331_243 d x0 x2 s0 h =
  lt_ (fi_upd h 241 303 0 x2) fun h1 =>
  if s0 ≠ 0 then
  tx_ s0.toNat h1
  else none := by
  unfold c_331_243
  exact
    have D : fk_D 331 [(243, some [0, 2], .astore 6, 2, 0, 0, 0), (245, none, .aload_n 0, 1, 0, 0, 0), (246, none, .getfield 3, 3, 356, 118, 12), (249, none, .iload_n 2, 1, 0, 0, 0), (250, none, .putfield 34, 3, 241, 100, 10), (253, none, .aload 6, 2, 0, 0, 0), (255, none, .athrow, 1, 0, 0, 0)] := fq_of2 cd_331 ow_331 cl_331 rfl (pc := 243) (by decide +kernel)
    j_ast (pc := 243) (L' := [(6, (4, s0)), (0, (4, x0)), (2, (0, x2))]) D rfl nl_331 rfl rfl fun D =>
    j_aldn (pc := 245) D rfl rfl rfl fun D =>
    j_gfc (pc := 246) (a := x0.toNat) D rfl rfl (nz_cls H.2.1 hk (by decide)) rfl hk rfl ht356 fun D =>
    j_ildn (pc := 249) D rfl rfl rfl fun D =>
    j_pf (pc := 250) (a := 303) D rfl rfl rfl (s0_303 H) rfl rfl (gy (by decide)) (gy rfl) fun h1 eh1 S D =>
    have T := fj_hs_ok H.1 S
    have ht356 := fin_st H.1 T.2 hk (by decide) (by decide +kernel) ht356 (by decide)
    have hk := cls_st H.1 T.2 hk (by decide)
    have H := shp_st H T
    j_ald (pc := 253) D rfl rfl rfl fun D =>
    j_at (pc := 255) D gn <|
    j_tx (by decide +kernel)
theorem e_331_280 (d : Nat) (x0 : Int) {h : fi_H} (H : Shp h) (hk : h 0 x0.toNat 0 = 118) (ht356 : h 356 x0.toNat 0 = 303) : c_331_280 d x0 h =
  ca_ (fj_run d 310 h [(4, 303), (0, 6)]) 4
    (fun v2 h1 =>
    if v2 ≠ 0 then
    tx_ v2.toNat h1
    else none)
    (fun q3 h1 => tx_ q3 h1) := by
  unfold c_331_280
  exact
    have D : fk_D 331 [(280, some [0], .aload_n 0, 1, 0, 0, 0), (281, none, .getfield 3, 3, 356, 118, 12), (284, none, .bipush 6, 2, 0, 6, 0), (286, none, .invokevirtual 96, 3, 1, 112, 5), (289, none, .athrow, 1, 0, 0, 0)] := fq_of2 cd_331 ow_331 cl_331 rfl (pc := 280) (by decide +kernel)
    j_aldn (pc := 280) D rfl rfl rfl fun D =>
    j_gfc (pc := 281) (a := x0.toNat) D rfl rfl (nz_cls H.2.1 hk (by decide)) rfl hk rfl ht356 fun D =>
    j_bp (pc := 284) D rfl fun D =>
    j_iv (pc := 286) (m := 310) (dd := 112) (a := [(0, 6)]) (rest := []) D rfl rfl rfl rfl rfl (by decide) (s0_303 H) (by decide +kernel) (fun v2 h1 e1 D =>
      have T := fj_run_ok _ _ _ _ _ _ H.1 e1
      have ht356 := fin_st H.1 T.2 hk (by decide) (by decide +kernel) ht356 (by decide)
      have hk := cls_st H.1 T.2 hk (by decide)
      have H := shp_st H T
      j_at (pc := 289) D gn <|
      j_tx (by decide +kernel)) (fun q3 h1 e1 =>
      j_tx (by decide +kernel))
theorem m_331 (d : Nat) (x0 x1 : Int) {h : fi_H} (H : Shp h) (hk : h 0 x0.toNat 0 = 118) (ht356 : h 356 x0.toNat 0 = 303) : fj_run (d + 1) 331 h [(4, x0), (0, x1)] =
  cv_ (fj_run d 313 h [(4, 303)])
    (fun h1 =>
    if h1 353 x0.toNat 0 = 54 then
      c_331_37 d x0 x1 (h1 241 303 0) 0 h1
    else
      if h1 353 x0.toNat 0 = 55 then
        c_331_37 d x0 x1 (h1 241 303 0) 0 h1
      else
        if h1 340 x0.toNat 0 = 2 then
          if h1 353 x0.toNat 0 = 57 then
            c_331_93 d x0 x1 (h1 241 303 0) 0 310 x1 1 h1
          else
            c_331_93 d x0 x1 (h1 241 303 0) 0 310 x1 0 h1
        else
          c_331_94 d x0 x1 (h1 241 303 0) 0 h1)
    (fun q3 h1 => tx_ q3 h1) := by
  rw [fj_run_eq d (by decide) h [(4, x0), (0, x1)] (Nat.le_of_ble_eq_true (by rw [nl_331]; rfl))]
  show gG (fj_run d) 331 0 [(0, (4, x0)), (1, (0, x1))] [] h = _
  exact
    have D : fk_D 331 [(0, none, .aload_n 0, 1, 0, 0, 0), (1, none, .getfield 3, 3, 356, 118, 12), (4, none, .invokevirtual 30, 3, 0, 135, 0), (7, none, .aload_n 0, 1, 0, 0, 0), (8, none, .getfield 3, 3, 356, 118, 12), (11, none, .getfield 34, 3, 241, 100, 10), (14, none, .istore_n 2, 1, 0, 0, 0), (15, none, .iconst 0, 1, 0, 0, 0), (16, none, .istore_n 3, 1, 0, 0, 0), (17, none, .aload_n 0, 1, 0, 0, 0), (18, none, .getfield 19, 3, 353, 118, 12), (21, none, .getstatic 37, 3, 4, 54, 0), (24, none, .if_acmp .eq 13, 3, 37, 0, 0), (27, none, .aload_n 0, 1, 0, 0, 0), (28, none, .getfield 19, 3, 353, 118, 12), (31, none, .getstatic 42, 3, 4, 55, 0), (34, none, .if_acmp .ne 23, 3, 57, 0, 0)] := fq_of2 cd_331 ow_331 cl_331 rfl (pc := 0) (by decide +kernel)
    j_aldn (pc := 0) D rfl rfl rfl fun D =>
    j_gfc (pc := 1) (a := x0.toNat) D rfl rfl (nz_cls H.2.1 hk (by decide)) rfl hk rfl ht356 fun D =>
    j_ivv (pc := 4) (m := 313) (dd := 135) (a := []) (rest := []) D rfl rfl rfl rfl rfl (by decide) (s0_303 H) (by decide +kernel) (fun h1 e1 D =>
      have T := fj_run_ok _ _ _ _ _ _ H.1 e1
      have ht356 := fin_st H.1 T.2 hk (by decide) (by decide +kernel) ht356 (by decide)
      have hk := cls_st H.1 T.2 hk (by decide)
      have H := shp_st H T
      j_aldn (pc := 7) D rfl rfl rfl fun D =>
      j_gfc (pc := 8) (a := x0.toNat) D rfl rfl (nz_cls H.2.1 hk (by decide)) rfl hk rfl ht356 fun D =>
      j_gf (pc := 11) (a := 303) D rfl rfl (by decide) rfl (s0_303 H) rfl fun D =>
      j_istn (pc := 14) (L' := [(2, (0, h1 241 303 0)), (0, (4, x0)), (1, (0, x1))]) D rfl nl_331 rfl rfl fun D =>
      j_ic (pc := 15) D rfl fun D =>
      j_istn (pc := 16) (L' := [(3, (0, 0)), (2, (0, h1 241 303 0)), (0, (4, x0)), (1, (0, x1))]) D rfl nl_331 rfl rfl fun D =>
      j_aldn (pc := 17) D rfl rfl rfl fun D =>
      j_gf (pc := 18) (a := x0.toNat) D rfl rfl (nz_cls H.2.1 hk (by decide)) rfl hk rfl fun D =>
      j_gs (pc := 21) D rfl fun D =>
      j_aeq (pc := 24) D rfl (fun q =>
        fk_jump cut_331_37 rfl rfl) (fun q D =>
        j_aldn (pc := 27) D rfl rfl rfl fun D =>
        j_gf (pc := 28) (a := x0.toNat) D rfl rfl (nz_cls H.2.1 hk (by decide)) rfl hk rfl fun D =>
        j_gs (pc := 31) D rfl fun D =>
        j_ane (pc := 34) D rfl (fun q D =>
          fk_jump cut_331_37 rfl rfl) (fun q =>
          have D : fk_D 331 [(57, none, .aload_n 0, 1, 0, 0, 0), (58, none, .getfield 49, 3, 340, 118, 12), (61, none, .getstatic 57, 3, 4, 2, 0), (64, none, .if_acmp .ne 30, 3, 94, 0, 0), (67, none, .aload_n 0, 1, 0, 0, 0), (68, none, .getfield 3, 3, 356, 118, 12), (71, none, .getfield 45, 3, 213, 100, 12), (74, none, .getfield 62, 3, 114, 119, 12), (77, none, .iload_n 1, 1, 0, 0, 0), (78, none, .aload_n 0, 1, 0, 0, 0), (79, none, .getfield 19, 3, 353, 118, 12), (82, none, .getstatic 68, 3, 4, 57, 0), (85, none, .if_acmp .ne 7, 3, 92, 0, 0), (88, none, .iconst 1, 1, 0, 1, 0), (89, none, .goto 4, 3, 93, 0, 0)] := fq_of2 cd_331 ow_331 cl_331 rfl (pc := 57) (by decide +kernel)
          j_aldn (pc := 57) D rfl rfl rfl fun D =>
          j_gf (pc := 58) (a := x0.toNat) D rfl rfl (nz_cls H.2.1 hk (by decide)) rfl hk rfl fun D =>
          j_gs (pc := 61) D rfl fun D =>
          j_ane (pc := 64) D rfl (fun q D =>
            j_aldn (pc := 67) D rfl rfl rfl fun D =>
            j_gfc (pc := 68) (a := x0.toNat) D rfl rfl (nz_cls H.2.1 hk (by decide)) rfl hk rfl ht356 fun D =>
            j_gfc (pc := 71) (a := 303) D rfl rfl (by decide) rfl (s0_303 H) rfl (sf_213_303 H) fun D =>
            j_gfc (pc := 74) (a := 309) D rfl rfl (by decide) rfl (s0_309 H) rfl (sf_114_309 H) fun D =>
            j_ildn (pc := 77) D rfl rfl rfl fun D =>
            j_aldn (pc := 78) D rfl rfl rfl fun D =>
            j_gf (pc := 79) (a := x0.toNat) D rfl rfl (nz_cls H.2.1 hk (by decide)) rfl hk rfl fun D =>
            j_gs (pc := 82) D rfl fun D =>
            j_ane (pc := 85) D rfl (fun q D =>
              j_ic (pc := 88) D rfl fun D =>
              j_goto (pc := 89) D rfl <|
              fk_jump cut_331_93 rfl rfl) (fun q =>
              have D : fk_D 331 [(92, none, .iconst 0, 1, 0, 0, 0)] := fq_of2 cd_331 ow_331 cl_331 rfl (pc := 92) (by decide +kernel)
              j_ic (pc := 92) D rfl fun D =>
              fk_jump cut_331_93 rfl rfl)) (fun q =>
            fk_jump cut_331_94 rfl rfl)))) (fun q3 h1 e1 =>
      j_tx (by decide +kernel))
/-! 332 StatuteHouse.together(I)I -/
theorem cd_332 : fi_code 332 = prog_1_method_29_code := rfl
theorem hx_332 : ∀ pc, fi_hat 332 pc = none := fun pc => by unfold fi_hat; rw [show fi_hh 332 = [] from rfl]; rfl
theorem rt_332 : fi_ret 332 = some .int := rfl
theorem nl_332 : fi_nl 332 = 5 := rfl
theorem ow_332 : fi_ow 332 = 0 := rfl
theorem cl_332 : fj_cutT.getD 332 [] = [(6, [0, 2, 3]), (16, [0, 2, 3, 4]), (46, [0, 2, 3, 4])] := rfl
theorem cut_332_6 : fj_cut 332 6 = some [0, 2, 3] := by decide +kernel
noncomputable def c_332_6 (d : Nat) (x2 x3 : Int) (h : fi_H) : fk_R := gG (fj_run d) 332 6 [(0, (4, 303)), (2, (0, x2)), (3, (0, x3))] [] h
theorem cut_332_16 : fj_cut 332 16 = some [0, 2, 3, 4] := by decide +kernel
noncomputable def c_332_16 (d : Nat) (x2 x3 x4 : Int) (h : fi_H) : fk_R := gG (fj_run d) 332 16 [(0, (4, 303)), (2, (0, x2)), (3, (0, x3)), (4, (0, x4))] [] h
theorem cut_332_46 : fj_cut 332 46 = some [0, 2, 3, 4] := by decide +kernel
noncomputable def c_332_46 (d : Nat) (x2 x3 x4 : Int) (h : fi_H) : fk_R := gG (fj_run d) 332 46 [(0, (4, 303)), (2, (0, x2)), (3, (0, x3)), (4, (0, x4))] [] h
theorem e_332_6 (d : Nat) (x2 x3 : Int) {h : fi_H} (H : Shp h) : c_332_6 d x2 x3 h =
  if x2 = x3 then
    some (.inl (some (0, x2)), h)
  else
    c_332_16 d x2 x2 0 h := by
  unfold c_332_6
  exact
    have D : fk_D 332 [(6, some [0, 2, 3], .iload_n 2, 1, 0, 0, 0), (7, none, .iload_n 3, 1, 0, 0, 0), (8, none, .if_icmp .eq 47, 3, 55, 0, 0), (11, none, .iload_n 2, 1, 0, 0, 0), (12, none, .istore_n 3, 1, 0, 0, 0), (13, none, .iconst 0, 1, 0, 0, 0), (14, none, .istore 4, 2, 0, 0, 0)] := fq_of2 cd_332 ow_332 cl_332 rfl (pc := 6) (by decide +kernel)
    j_ildn (pc := 6) D rfl rfl rfl fun D =>
    j_ildn (pc := 7) D rfl rfl rfl fun D =>
    j_ieq (pc := 8) D rfl (fun q =>
      have D : fk_D 332 [(55, none, .iload_n 2, 1, 0, 0, 0), (56, none, .ireturn, 1, 0, 0, 0)] := fq_of2 cd_332 ow_332 cl_332 rfl (pc := 55) (by decide +kernel)
      j_ildn (pc := 55) D rfl rfl rfl fun D =>
      j_iret D rt_332) (fun q D =>
      j_ildn (pc := 11) D rfl rfl rfl fun D =>
      j_istn (pc := 12) (L' := [(3, (0, x2)), (0, (4, 303)), (2, (0, x2))]) D rfl nl_332 rfl rfl fun D =>
      j_ic (pc := 13) D rfl fun D =>
      j_ist (pc := 14) (L' := [(4, (0, 0)), (3, (0, x2)), (0, (4, 303)), (2, (0, x2))]) D rfl nl_332 rfl rfl fun D =>
      fk_jump cut_332_16 rfl rfl)
theorem e_332_16 (d : Nat) (x2 x3 x4 : Int) {h : fi_H} (H : Shp h) : c_332_16 d x2 x3 x4 h =
  if x4 < h 215 303 0 then
    if 0 ≤ x4 ∧ x4 < 40 then
    if h 0 (h 12 320 x4.toNat).toNat 0 = 124 then
    if h 330 (h 12 320 x4.toNat).toNat 0 = 0 then
      c_332_46 d x2 x3 x4 h
    else
      ca_ (fj_run d 333 h [(4, 303), (0, x2), (0, x4)]) 0
        (fun v4 h3 =>
        c_332_46 d v4 x3 x4 h3)
        (fun q5 h3 => tx_ q5 h3)
    else none
    else none
  else
    c_332_6 d x2 x3 h := by
  unfold c_332_16
  exact
    have D : fk_D 332 [(16, some [0, 2, 3, 4], .iload 4, 2, 0, 0, 0), (18, none, .aload_n 0, 1, 0, 0, 0), (19, none, .getfield 252, 3, 215, 100, 10), (22, none, .if_icmp .ge 30, 3, 52, 0, 0), (25, none, .aload_n 0, 1, 0, 0, 0), (26, none, .getfield 255, 3, 214, 100, 12), (29, none, .iload 4, 2, 0, 0, 0), (31, none, .aaload, 1, 0, 0, 0), (32, none, .getfield 259, 3, 330, (-124), 4), (35, none, .ifCond .eq 11, 3, 46, 0, 0), (38, none, .aload_n 0, 1, 0, 0, 0), (39, none, .iload_n 2, 1, 0, 0, 0), (40, none, .iload 4, 2, 0, 0, 0), (42, none, .invokevirtual 264, 3, 2, 129, 1), (45, none, .istore_n 2, 1, 0, 0, 0)] := fq_of2 cd_332 ow_332 cl_332 rfl (pc := 16) (by decide +kernel)
    j_ild (pc := 16) D rfl rfl rfl fun D =>
    j_aldn (pc := 18) D rfl rfl rfl fun D =>
    j_gf (pc := 19) (a := 303) D rfl rfl (by decide) rfl (s0_303 H) rfl fun D =>
    j_ige (pc := 22) D rfl (fun q D =>
      j_aldn (pc := 25) D rfl rfl rfl fun D =>
      j_gfc (pc := 26) (a := 303) D rfl rfl (by decide) rfl (s0_303 H) rfl (sf_214_303 H) fun D =>
      j_ild (pc := 29) D rfl rfl rfl fun D =>
      j_al (pc := 31) (a := 320) (e := 12) D rfl rfl rfl (by decide) (s0_320 H) (s1_320 H) ⟨rfl, rfl, rfl⟩ rfl gn fun qb1 D =>
      j_gfo (pc := 32) H.2.1 D rfl rfl rfl rfl fun kc2 D =>
      j_ifeq (pc := 35) D rfl (fun q =>
        fk_jump cut_332_46 rfl rfl) (fun q D =>
        j_aldn (pc := 38) D rfl rfl rfl fun D =>
        j_ildn (pc := 39) D rfl rfl rfl fun D =>
        j_ild (pc := 40) D rfl rfl rfl fun D =>
        j_iv (pc := 42) (m := 333) (dd := 129) (a := [(0, x2), (0, x4)]) (rest := []) D rfl rfl rfl rfl rfl (by decide) (s0_303 H) (by decide +kernel) (fun v4 h3 e1 D =>
          have T := fj_run_ok _ _ _ _ _ _ H.1 e1
          have H := shp_st H T
          j_istn (pc := 45) (L' := [(2, (0, v4)), (0, (4, 303)), (3, (0, x3)), (4, (0, x4))]) D rfl nl_332 rfl rfl fun D =>
          fk_jump cut_332_46 rfl rfl) (fun q5 h3 e1 =>
          j_tx (hx_332 _)))) (fun q =>
      have D : fk_D 332 [(52, none, .goto (-46), 3, 6, 0, 0)] := fq_of2 cd_332 ow_332 cl_332 rfl (pc := 52) (by decide +kernel)
      j_goto (pc := 52) D rfl <|
      fk_jump cut_332_6 rfl rfl)
theorem e_332_46 (d : Nat) (x2 x3 x4 : Int) {h : fi_H} (H : Shp h) : c_332_46 d x2 x3 x4 h =
  c_332_16 d x2 x3 (wI (x4 + 1)) h := by
  unfold c_332_46
  exact
    have D : fk_D 332 [(46, some [0, 2, 3, 4], .iinc 4 1, 3, 0, 1, 0), (49, none, .goto (-33), 3, 16, 0, 0)] := fq_of2 cd_332 ow_332 cl_332 rfl (pc := 46) (by decide +kernel)
    j_inc (pc := 46) (L' := [(4, (0, wI (x4 + 1))), (0, (4, 303)), (2, (0, x2)), (3, (0, x3))]) D rfl rfl rfl (by decide +kernel) rfl fun D =>
    j_goto (pc := 49) D rfl <|
    fk_jump cut_332_16 rfl rfl
theorem m_332 (d : Nat) (x1 : Int) {h : fi_H} (H : Shp h) : fj_run (d + 1) 332 h [(4, 303), (0, x1)] =
  c_332_6 d (sl_ 1 x1) 0 h := by
  rw [fj_run_eq d (by decide) h [(4, 303), (0, x1)] (Nat.le_of_ble_eq_true (by rw [nl_332]; rfl))]
  show gG (fj_run d) 332 0 [(0, (4, 303)), (1, (0, x1))] [] h = _
  exact
    have D : fk_D 332 [(0, none, .iconst 1, 1, 0, 1, 0), (1, none, .iload_n 1, 1, 0, 0, 0), (2, none, .ishl, 1, 0, 0, 0), (3, none, .istore_n 2, 1, 0, 0, 0), (4, none, .iconst 0, 1, 0, 0, 0), (5, none, .istore_n 3, 1, 0, 0, 0)] := fq_of2 cd_332 ow_332 cl_332 rfl (pc := 0) (by decide +kernel)
    j_ic (pc := 0) D rfl fun D =>
    j_ildn (pc := 1) D rfl rfl rfl fun D =>
    j_ishl (pc := 2) D rfl fun D =>
    j_istn (pc := 3) (L' := [(2, (0, sl_ 1 x1)), (0, (4, 303)), (1, (0, x1))]) D rfl nl_332 rfl rfl fun D =>
    j_ic (pc := 4) D rfl fun D =>
    j_istn (pc := 5) (L' := [(3, (0, 0)), (2, (0, sl_ 1 x1)), (0, (4, 303)), (1, (0, x1))]) D rfl nl_332 rfl rfl fun D =>
    fk_jump cut_332_6 rfl rfl
/-! 333 StatuteHouse.joined(II)I -/
theorem cd_333 : fi_code 333 = prog_1_method_30_code := rfl
theorem hx_333 : ∀ pc, fi_hat 333 pc = none := fun pc => by unfold fi_hat; rw [show fi_hh 333 = [] from rfl]; rfl
theorem rt_333 : fi_ret 333 = some .int := rfl
theorem nl_333 : fi_nl 333 = 6 := rfl
theorem ow_333 : fi_ow 333 = 0 := rfl
theorem cl_333 : fj_cutT.getD 333 [] = [(5, [0, 2, 3, 4]), (58, [0, 2, 3, 4])] := rfl
theorem cut_333_5 : fj_cut 333 5 = some [0, 2, 3, 4] := by decide +kernel
noncomputable def c_333_5 (d : Nat) (x2 x3 x4 : Int) (h : fi_H) : fk_R := gG (fj_run d) 333 5 [(0, (4, 303)), (2, (0, x2)), (3, (0, x3)), (4, (0, x4))] [] h
theorem cut_333_58 : fj_cut 333 58 = some [0, 2, 3, 4] := by decide +kernel
noncomputable def c_333_58 (d : Nat) (x2 x3 x4 : Int) (h : fi_H) : fk_R := gG (fj_run d) 333 58 [(0, (4, 303)), (2, (0, x2)), (3, (0, x3)), (4, (0, x4))] [] h
theorem e_333_5 (d : Nat) (x2 x3 x4 : Int) {h : fi_H} (H : Shp h) : c_333_5 d x2 x3 x4 h =
  if x4 < h 216 303 0 then
    ca_ (fj_run d 334 h [(4, 303), (0, x4), (0, x2)]) 0
      (fun v2 h1 =>
      if v2 = (-1) then
        c_333_58 d x2 x3 x4 h1
      else
        if io_ (ia_ (sr_ x3 x4) 1) (ia_ (sr_ x3 v2) 1) = 1 then
          c_333_58 d x2 (io_ x3 (io_ (sl_ 1 x4) (sl_ 1 v2))) x4 h1
        else
          c_333_58 d x2 x3 x4 h1)
      (fun q3 h1 => tx_ q3 h1)
  else
    some (.inl (some (0, x3)), h) := by
  unfold c_333_5
  exact
    have D : fk_D 333 [(5, some [0, 2, 3, 4], .iload 4, 2, 0, 0, 0), (7, none, .aload_n 0, 1, 0, 0, 0), (8, none, .getfield 267, 3, 216, 100, 10), (11, none, .if_icmp .ge 53, 3, 64, 0, 0), (14, none, .aload_n 0, 1, 0, 0, 0), (15, none, .iload 4, 2, 0, 0, 0), (17, none, .iload_n 2, 1, 0, 0, 0), (18, none, .invokevirtual 249, 3, 2, 128, 1), (21, none, .istore 5, 2, 0, 0, 0), (23, none, .iload 5, 2, 0, 0, 0), (25, none, .iconst (-1), 1, 0, (-1), 0), (26, none, .if_icmp .eq 32, 3, 58, 0, 0), (29, none, .iload_n 3, 1, 0, 0, 0), (30, none, .iload 4, 2, 0, 0, 0), (32, none, .ishr, 1, 0, 0, 0), (33, none, .iconst 1, 1, 0, 1, 0), (34, none, .iand, 1, 0, 0, 0), (35, none, .iload_n 3, 1, 0, 0, 0), (36, none, .iload 5, 2, 0, 0, 0), (38, none, .ishr, 1, 0, 0, 0)] := fq_of2 cd_333 ow_333 cl_333 rfl (pc := 5) (by decide +kernel)
    j_ild (pc := 5) D rfl rfl rfl fun D =>
    j_aldn (pc := 7) D rfl rfl rfl fun D =>
    j_gf (pc := 8) (a := 303) D rfl rfl (by decide) rfl (s0_303 H) rfl fun D =>
    j_ige (pc := 11) D rfl (fun q D =>
      j_aldn (pc := 14) D rfl rfl rfl fun D =>
      j_ild (pc := 15) D rfl rfl rfl fun D =>
      j_ildn (pc := 17) D rfl rfl rfl fun D =>
      j_iv (pc := 18) (m := 334) (dd := 128) (a := [(0, x4), (0, x2)]) (rest := []) D rfl rfl rfl rfl rfl (by decide) (s0_303 H) (by decide +kernel) (fun v2 h1 e1 D =>
        have T := fj_run_ok _ _ _ _ _ _ H.1 e1
        have H := shp_st H T
        j_ist (pc := 21) (L' := [(5, (0, v2)), (0, (4, 303)), (2, (0, x2)), (3, (0, x3)), (4, (0, x4))]) D rfl nl_333 rfl rfl fun D =>
        j_ild (pc := 23) D rfl rfl rfl fun D =>
        j_ic (pc := 25) D rfl fun D =>
        j_ieq (pc := 26) D rfl (fun q =>
          fk_jump cut_333_58 rfl rfl) (fun q D =>
          j_ildn (pc := 29) D rfl rfl rfl fun D =>
          j_ild (pc := 30) D rfl rfl rfl fun D =>
          j_ishr (pc := 32) D rfl fun D =>
          j_ic (pc := 33) D rfl fun D =>
          j_iand (pc := 34) D rfl fun D =>
          j_ildn (pc := 35) D rfl rfl rfl fun D =>
          j_ild (pc := 36) D rfl rfl rfl fun D =>
          j_ishr (pc := 38) D rfl fun D =>
          have D : fk_D 333 [(39, none, .iconst 1, 1, 0, 1, 0), (40, none, .iand, 1, 0, 0, 0), (41, none, .ior, 1, 0, 0, 0), (42, none, .iconst 1, 1, 0, 1, 0), (43, none, .if_icmp .ne 15, 3, 58, 0, 0), (46, none, .iload_n 3, 1, 0, 0, 0), (47, none, .iconst 1, 1, 0, 1, 0), (48, none, .iload 4, 2, 0, 0, 0), (50, none, .ishl, 1, 0, 0, 0), (51, none, .iconst 1, 1, 0, 1, 0), (52, none, .iload 5, 2, 0, 0, 0), (54, none, .ishl, 1, 0, 0, 0), (55, none, .ior, 1, 0, 0, 0), (56, none, .ior, 1, 0, 0, 0), (57, none, .istore_n 3, 1, 0, 0, 0)] := fq_of2 cd_333 ow_333 cl_333 rfl (pc := 39) (by decide +kernel)
          j_ic (pc := 39) D rfl fun D =>
          j_iand (pc := 40) D rfl fun D =>
          j_ior (pc := 41) D rfl fun D =>
          j_ic (pc := 42) D rfl fun D =>
          j_ine (pc := 43) D rfl (fun q D =>
            j_ildn (pc := 46) D rfl rfl rfl fun D =>
            j_ic (pc := 47) D rfl fun D =>
            j_ild (pc := 48) D rfl rfl rfl fun D =>
            j_ishl (pc := 50) D rfl fun D =>
            j_ic (pc := 51) D rfl fun D =>
            j_ild (pc := 52) D rfl rfl rfl fun D =>
            j_ishl (pc := 54) D rfl fun D =>
            j_ior (pc := 55) D rfl fun D =>
            j_ior (pc := 56) D rfl fun D =>
            j_istn (pc := 57) (L' := [(3, (0, io_ x3 (io_ (sl_ 1 x4) (sl_ 1 v2)))), (5, (0, v2)), (0, (4, 303)), (2, (0, x2)), (4, (0, x4))]) D rfl nl_333 rfl rfl fun D =>
            fk_jump cut_333_58 rfl rfl) (fun q =>
            fk_jump cut_333_58 rfl rfl))) (fun q3 h1 e1 =>
        j_tx (hx_333 _))) (fun q =>
      have D : fk_D 333 [(64, none, .iload_n 3, 1, 0, 0, 0), (65, none, .ireturn, 1, 0, 0, 0)] := fq_of2 cd_333 ow_333 cl_333 rfl (pc := 64) (by decide +kernel)
      j_ildn (pc := 64) D rfl rfl rfl fun D =>
      j_iret D rt_333)
theorem e_333_58 (d : Nat) (x2 x3 x4 : Int) {h : fi_H} (H : Shp h) : c_333_58 d x2 x3 x4 h =
  c_333_5 d x2 x3 (wI (x4 + 1)) h := by
  unfold c_333_58
  exact
    have D : fk_D 333 [(58, some [0, 2, 3, 4], .iinc 4 1, 3, 0, 1, 0), (61, none, .goto (-56), 3, 5, 0, 0)] := fq_of2 cd_333 ow_333 cl_333 rfl (pc := 58) (by decide +kernel)
    j_inc (pc := 58) (L' := [(4, (0, wI (x4 + 1))), (0, (4, 303)), (2, (0, x2)), (3, (0, x3))]) D rfl rfl rfl (by decide +kernel) rfl fun D =>
    j_goto (pc := 61) D rfl <|
    fk_jump cut_333_5 rfl rfl
theorem m_333 (d : Nat) (x1 x2 : Int) {h : fi_H} (H : Shp h) : fj_run (d + 1) 333 h [(4, 303), (0, x1), (0, x2)] =
  c_333_5 d x2 x1 0 h := by
  rw [fj_run_eq d (by decide) h [(4, 303), (0, x1), (0, x2)] (Nat.le_of_ble_eq_true (by rw [nl_333]; rfl))]
  show gG (fj_run d) 333 0 [(0, (4, 303)), (1, (0, x1)), (2, (0, x2))] [] h = _
  exact
    have D : fk_D 333 [(0, none, .iload_n 1, 1, 0, 0, 0), (1, none, .istore_n 3, 1, 0, 0, 0), (2, none, .iconst 0, 1, 0, 0, 0), (3, none, .istore 4, 2, 0, 0, 0)] := fq_of2 cd_333 ow_333 cl_333 rfl (pc := 0) (by decide +kernel)
    j_ildn (pc := 0) D rfl rfl rfl fun D =>
    j_istn (pc := 1) (L' := [(3, (0, x1)), (0, (4, 303)), (1, (0, x1)), (2, (0, x2))]) D rfl nl_333 rfl rfl fun D =>
    j_ic (pc := 2) D rfl fun D =>
    j_ist (pc := 3) (L' := [(4, (0, 0)), (3, (0, x1)), (0, (4, 303)), (1, (0, x1)), (2, (0, x2))]) D rfl nl_333 rfl rfl fun D =>
    fk_jump cut_333_5 rfl rfl
/-! 334 StatuteHouse.pointed(II)I -/
theorem cd_334 : fi_code 334 = prog_1_method_27_code := rfl
theorem hx_334 : ∀ pc, fi_hat 334 pc = none := fun pc => by unfold fi_hat; rw [show fi_hh 334 = [] from rfl]; rfl
theorem rt_334 : fi_ret 334 = some .int := rfl
theorem nl_334 : fi_nl 334 = 5 := rfl
theorem ow_334 : fi_ow 334 = 0 := rfl
theorem cl_334 : fj_cutT.getD 334 [] = [(17, [0, 1, 2])] := rfl
theorem cut_334_17 : fj_cut 334 17 = some [0, 1, 2] := by decide +kernel
noncomputable def c_334_17 (d : Nat) (x1 x2 s0 : Int) (h : fi_H) : fk_R := gG (fj_run d) 334 17 [(0, (4, 303)), (1, (0, x1)), (2, (0, x2))] [(0, s0)] h
theorem e_334_17 (d : Nat) (x1 x2 s0 : Int) {h : fi_H} (H : Shp h) : c_334_17 d x1 x2 s0 h =
  if s0 = (-1) then
    ca_ (fj_run d 319 h [(4, 322), (0, x1), (0, x2)]) 0
      (fun v2 h1 =>
      if v2 = (-1) then
        some (.inl (some (0, (-1))), h1)
      else
        if 0 ≤ v2 ∧ v2 < 500 then
        some (.inl (some (0, h1 8 333 v2.toNat)), h1)
        else none)
      (fun q3 h1 => tx_ q3 h1)
  else
    if 0 ≤ s0 ∧ s0 < 9 then
    some (.inl (some (0, h 8 351 s0.toNat)), h)
    else none := by
  unfold c_334_17
  exact
    have D : fk_D 334 [(17, some [0, 1, 2], .istore_n 3, 1, 0, 0, 0), (18, none, .iload_n 3, 1, 0, 0, 0), (19, none, .iconst (-1), 1, 0, (-1), 0), (20, none, .if_icmp .eq 13, 3, 33, 0, 0), (23, none, .aload_n 0, 1, 0, 0, 0), (24, none, .getfield 243, 3, 219, 100, 12), (27, none, .getfield 105, 3, 123, 119, 12), (30, none, .iload_n 3, 1, 0, 0, 0), (31, none, .baload, 1, 0, 0, 0), (32, none, .ireturn, 1, 0, 0, 0)] := fq_of2 cd_334 ow_334 cl_334 rfl (pc := 17) (by decide +kernel)
    j_istn (pc := 17) (L' := [(3, (0, s0)), (0, (4, 303)), (1, (0, x1)), (2, (0, x2))]) D rfl nl_334 rfl rfl fun D =>
    j_ildn (pc := 18) D rfl rfl rfl fun D =>
    j_ic (pc := 19) D rfl fun D =>
    j_ieq (pc := 20) D rfl (fun q =>
      have D : fk_D 334 [(33, none, .aload_n 0, 1, 0, 0, 0), (34, none, .getfield 234, 3, 218, 100, 12), (37, none, .iload_n 1, 1, 0, 0, 0), (38, none, .iload_n 2, 1, 0, 0, 0), (39, none, .invokevirtual 238, 3, 2, 127, 1), (42, none, .istore 4, 2, 0, 0, 0), (44, none, .iload 4, 2, 0, 0, 0), (46, none, .iconst (-1), 1, 0, (-1), 0), (47, none, .if_icmp .ne 7, 3, 54, 0, 0), (50, none, .iconst (-1), 1, 0, (-1), 0), (51, none, .goto 16, 3, 67, 0, 0)] := fq_of2 cd_334 ow_334 cl_334 rfl (pc := 33) (by decide +kernel)
      j_aldn (pc := 33) D rfl rfl rfl fun D =>
      j_gfc (pc := 34) (a := 303) D rfl rfl (by decide) rfl (s0_303 H) rfl (sf_218_303 H) fun D =>
      j_ildn (pc := 37) D rfl rfl rfl fun D =>
      j_ildn (pc := 38) D rfl rfl rfl fun D =>
      j_iv (pc := 39) (m := 319) (dd := 127) (a := [(0, x1), (0, x2)]) (rest := []) D rfl rfl rfl rfl rfl (by decide) (s0_322 H) (by decide +kernel) (fun v2 h1 e1 D =>
        have T := fj_run_ok _ _ _ _ _ _ H.1 e1
        have H := shp_st H T
        j_ist (pc := 42) (L' := [(4, (0, v2)), (3, (0, s0)), (0, (4, 303)), (1, (0, x1)), (2, (0, x2))]) D rfl nl_334 rfl rfl fun D =>
        j_ild (pc := 44) D rfl rfl rfl fun D =>
        j_ic (pc := 46) D rfl fun D =>
        j_ine (pc := 47) D rfl (fun q D =>
          j_ic (pc := 50) D rfl fun D =>
          j_goto (pc := 51) D rfl <|
          have D : fk_D 334 [(67, none, .ireturn, 1, 0, 0, 0)] := fq_of2 cd_334 ow_334 cl_334 rfl (pc := 67) (by decide +kernel)
          j_iret D rt_334) (fun q =>
          have D : fk_D 334 [(54, none, .aload_n 0, 1, 0, 0, 0), (55, none, .getfield 234, 3, 218, 100, 12), (58, none, .getfield 246, 3, 124, 116, 12), (61, none, .getfield 105, 3, 123, 119, 12), (64, none, .iload 4, 2, 0, 0, 0), (66, none, .baload, 1, 0, 0, 0), (67, none, .ireturn, 1, 0, 0, 0)] := fq_of2 cd_334 ow_334 cl_334 rfl (pc := 54) (by decide +kernel)
          j_aldn (pc := 54) D rfl rfl rfl fun D =>
          j_gfc (pc := 55) (a := 303) D rfl rfl (by decide) rfl (s0_303 H) rfl (sf_218_303 H) fun D =>
          j_gfc (pc := 58) (a := 322) D rfl rfl (by decide) rfl (s0_322 H) rfl (sf_124_322 H) fun D =>
          j_gfc (pc := 61) (a := 323) D rfl rfl (by decide) rfl (s0_323 H) rfl (sf_123_323 H) fun D =>
          j_ild (pc := 64) D rfl rfl rfl fun D =>
          j_al (pc := 66) (a := 333) (e := 8) D rfl rfl rfl (by decide) (s0_333 H) (s1_333 H) ⟨rfl, rfl, rfl⟩ rfl gn fun qb4 D =>
          j_iret D rt_334)) (fun q3 h1 e1 =>
        j_tx (hx_334 _))) (fun q D =>
      j_aldn (pc := 23) D rfl rfl rfl fun D =>
      j_gfc (pc := 24) (a := 303) D rfl rfl (by decide) rfl (s0_303 H) rfl (sf_219_303 H) fun D =>
      j_gfc (pc := 27) (a := 341) D rfl rfl (by decide) rfl (s0_341 H) rfl (sf_123_341 H) fun D =>
      j_ildn (pc := 30) D rfl rfl rfl fun D =>
      j_al (pc := 31) (a := 351) (e := 8) D rfl rfl rfl (by decide) (s0_351 H) (s1_351 H) ⟨rfl, rfl, rfl⟩ rfl gn fun qb5 D =>
      j_iret D rt_334)
theorem m_334 (d : Nat) (x1 x2 : Int) {h : fi_H} (H : Shp h) : fj_run (d + 1) 334 h [(4, 303), (0, x1), (0, x2)] =
  if h 223 303 0 = 0 then
    c_334_17 d x1 x2 (-1) h
  else
    ca_ (fj_run d 318 h [(4, 303), (0, x1), (0, x2)]) 0
      (fun v2 h1 =>
      c_334_17 d x1 x2 v2 h1)
      (fun q3 h1 => tx_ q3 h1) := by
  rw [fj_run_eq d (by decide) h [(4, 303), (0, x1), (0, x2)] (Nat.le_of_ble_eq_true (by rw [nl_334]; rfl))]
  show gG (fj_run d) 334 0 [(0, (4, 303)), (1, (0, x1)), (2, (0, x2))] [] h = _
  exact
    have D : fk_D 334 [(0, none, .aload_n 0, 1, 0, 0, 0), (1, none, .getfield 227, 3, 223, 100, 4), (4, none, .ifCond .eq 12, 3, 16, 0, 0), (7, none, .aload_n 0, 1, 0, 0, 0), (8, none, .iload_n 1, 1, 0, 0, 0), (9, none, .iload_n 2, 1, 0, 0, 0), (10, none, .invokevirtual 230, 3, 2, 126, 1), (13, none, .goto 4, 3, 17, 0, 0)] := fq_of2 cd_334 ow_334 cl_334 rfl (pc := 0) (by decide +kernel)
    j_aldn (pc := 0) D rfl rfl rfl fun D =>
    j_gf (pc := 1) (a := 303) D rfl rfl (by decide) rfl (s0_303 H) rfl fun D =>
    j_ifeq (pc := 4) D rfl (fun q =>
      have D : fk_D 334 [(16, none, .iconst (-1), 1, 0, (-1), 0)] := fq_of2 cd_334 ow_334 cl_334 rfl (pc := 16) (by decide +kernel)
      j_ic (pc := 16) D rfl fun D =>
      fk_jump cut_334_17 rfl rfl) (fun q D =>
      j_aldn (pc := 7) D rfl rfl rfl fun D =>
      j_ildn (pc := 8) D rfl rfl rfl fun D =>
      j_ildn (pc := 9) D rfl rfl rfl fun D =>
      j_iv (pc := 10) (m := 318) (dd := 126) (a := [(0, x1), (0, x2)]) (rest := []) D rfl rfl rfl rfl rfl (by decide) (s0_303 H) (by decide +kernel) (fun v2 h1 e1 D =>
        have T := fj_run_ok _ _ _ _ _ _ H.1 e1
        have H := shp_st H T
        j_goto (pc := 13) D rfl <|
        fk_jump cut_334_17 rfl rfl) (fun q3 h1 e1 =>
        j_tx (hx_334 _)))
/-! 335 StatuteHouse.points(III)Z -/
theorem cd_335 : fi_code 335 = prog_1_method_28_code := rfl
theorem hx_335 : ∀ pc, fi_hat 335 pc = none := fun pc => by unfold fi_hat; rw [show fi_hh 335 = [] from rfl]; rfl
theorem rt_335 : fi_ret 335 = some .boolean := rfl
theorem nl_335 : fi_nl 335 = 4 := rfl
theorem ow_335 : fi_ow 335 = 0 := rfl
theorem cl_335 : fj_cutT.getD 335 [] = [] := rfl
theorem m_335 (d : Nat) (x1 x2 x3 : Int) {h : fi_H} (H : Shp h) : fj_run (d + 1) 335 h [(4, 303), (0, x1), (0, x2), (0, x3)] =
  ca_ (fj_run d 334 h [(4, 303), (0, x1), (0, x2)]) 0
    (fun v2 h1 =>
    if v2 = x3 then
      some (.inl (some (0, 1)), h1)
    else
      some (.inl (some (0, 0)), h1))
    (fun q3 h1 => tx_ q3 h1) := by
  rw [fj_run_eq d (by decide) h [(4, 303), (0, x1), (0, x2), (0, x3)] (Nat.le_of_ble_eq_true (by rw [nl_335]; rfl))]
  show gG (fj_run d) 335 0 [(0, (4, 303)), (1, (0, x1)), (2, (0, x2)), (3, (0, x3))] [] h = _
  exact
    have D : fk_D 335 [(0, none, .aload_n 0, 1, 0, 0, 0), (1, none, .iload_n 1, 1, 0, 0, 0), (2, none, .iload_n 2, 1, 0, 0, 0), (3, none, .invokevirtual 249, 3, 2, 128, 1), (6, none, .iload_n 3, 1, 0, 0, 0), (7, none, .if_icmp .ne 7, 3, 14, 0, 0), (10, none, .iconst 1, 1, 0, 1, 0), (11, none, .goto 4, 3, 15, 0, 0)] := fq_of2 cd_335 ow_335 cl_335 rfl (pc := 0) (by decide +kernel)
    j_aldn (pc := 0) D rfl rfl rfl fun D =>
    j_ildn (pc := 1) D rfl rfl rfl fun D =>
    j_ildn (pc := 2) D rfl rfl rfl fun D =>
    j_iv (pc := 3) (m := 334) (dd := 128) (a := [(0, x1), (0, x2)]) (rest := []) D rfl rfl rfl rfl rfl (by decide) (s0_303 H) (by decide +kernel) (fun v2 h1 e1 D =>
      have T := fj_run_ok _ _ _ _ _ _ H.1 e1
      have H := shp_st H T
      j_ildn (pc := 6) D rfl rfl rfl fun D =>
      j_ine (pc := 7) D rfl (fun q D =>
        j_ic (pc := 10) D rfl fun D =>
        j_goto (pc := 11) D rfl <|
        have D : fk_D 335 [(15, none, .ireturn, 1, 0, 0, 0)] := fq_of2 cd_335 ow_335 cl_335 rfl (pc := 15) (by decide +kernel)
        j_zret D rt_335 (gy (by decide))) (fun q =>
        have D : fk_D 335 [(14, none, .iconst 0, 1, 0, 0, 0), (15, none, .ireturn, 1, 0, 0, 0)] := fq_of2 cd_335 ow_335 cl_335 rfl (pc := 14) (by decide +kernel)
        j_ic (pc := 14) D rfl fun D =>
        j_zret D rt_335 (gy (by decide)))) (fun q3 h1 e1 =>
      j_tx (hx_335 _))
/-! 336 StatuteHouse$TablePart.work(I)V -/
theorem cd_336 : fi_code 336 = prog_61_method_2_code := rfl
theorem hx_336 : ∀ pc, fi_hat 336 pc = none := fun pc => by unfold fi_hat; rw [show fi_hh 336 = [] from rfl]; rfl
theorem rt_336 : fi_ret 336 = none := rfl
theorem nl_336 : fi_nl 336 = 3 := rfl
theorem ow_336 : fi_ow 336 = 22 := rfl
theorem cl_336 : fj_cutT.getD 336 [] = [] := rfl
theorem m_336 (d : Nat) (x0 x1 : Int) {h : fi_H} (H : Shp h) (hk : h 0 x0.toNat 0 = 122) (ht360 : h 360 x0.toNat 0 = 303) : fj_run (d + 1) 336 h [(4, x0), (0, x1)] =
  cv_ (fj_run d 313 h [(4, 303)])
    (fun h1 =>
    dv_ (fi_vt 136 (h1 0 (h1 359 x0.toNat 0).toNat 0)) fun m7 => cv_ (fj_run d m7 h1 [(4, h1 359 x0.toNat 0), (0, x1)])
      (fun h4 =>
      ca_ (fj_run d 361 h4 [(4, 303), (0, h4 358 x0.toNat 0)]) 4
        (fun v9 h8 =>
        dv_ (fi_vt 216 (h8 0 (h8 357 x0.toNat 0).toNat 0)) fun m14 => ca_ (fj_run d m14 h8 [(4, h8 357 x0.toNat 0), (4, 255)]) 0
          (fun v12 h11 =>
          if v12 = 0 then
            dv_ (fi_vt 216 (h11 0 (h11 357 x0.toNat 0).toNat 0)) fun m18 => ca_ (fj_run d m18 h11 [(4, h11 357 x0.toNat 0), (4, 257)]) 0
              (fun v16 h15 =>
              if v16 = 0 then
                cv_ (fj_run d 365 h15 [(4, x0), (4, v9), (0, x1)])
                  (fun h19 =>
                  some (.inl none, h19))
                  (fun q21 h19 => tx_ q21 h19)
              else
                cv_ (fj_run d 364 h15 [(4, x0), (4, v9), (0, x1)])
                  (fun h22 =>
                  some (.inl none, h22))
                  (fun q24 h22 => tx_ q24 h22))
              (fun q17 h15 => tx_ q17 h15)
          else
            cv_ (fj_run d 362 h11 [(4, x0), (4, v9), (0, x1)])
              (fun h25 =>
              some (.inl none, h25))
              (fun q27 h25 => tx_ q27 h25))
          (fun q13 h11 => tx_ q13 h11))
        (fun q10 h8 => tx_ q10 h8))
      (fun q6 h4 => tx_ q6 h4))
    (fun q3 h1 => tx_ q3 h1) := by
  rw [fj_run_eq d (by decide) h [(4, x0), (0, x1)] (Nat.le_of_ble_eq_true (by rw [nl_336]; rfl))]
  show gG (fj_run d) 336 0 [(0, (4, x0)), (1, (0, x1))] [] h = _
  exact
    have D : fk_D 336 [(0, none, .aload_n 0, 1, 0, 0, 0), (1, none, .getfield 3, 3, 360, 122, 12), (4, none, .invokevirtual 30, 3, 0, 135, 0), (7, none, .aload_n 0, 1, 0, 0, 0), (8, none, .getfield 26, 3, 359, 122, 12), (11, none, .iload_n 1, 1, 0, 0, 0), (12, none, .invokevirtual 34, 3, 1, 136, 0), (15, none, .aload_n 0, 1, 0, 0, 0), (16, none, .getfield 3, 3, 360, 122, 12), (19, none, .aload_n 0, 1, 0, 0, 0), (20, none, .getfield 23, 3, 358, 122, 10), (23, none, .invokevirtual 38, 3, 1, 228, 5), (26, none, .astore_n 2, 1, 0, 0, 0), (27, none, .aload_n 0, 1, 0, 0, 0), (28, none, .getfield 19, 3, 357, 122, 12), (31, none, .ldc 42, 2, 4, 255, 0), (33, none, .invokevirtual 44, 3, 1, 216, 1), (36, none, .ifCond .eq 12, 3, 48, 0, 0), (39, none, .aload_n 0, 1, 0, 0, 0), (40, none, .aload_n 2, 1, 0, 0, 0)] := fq_of2 cd_336 ow_336 cl_336 rfl (pc := 0) (by decide +kernel)
    j_aldn (pc := 0) D rfl rfl rfl fun D =>
    j_gfc (pc := 1) (a := x0.toNat) D rfl rfl (nz_cls H.2.1 hk (by decide)) rfl hk rfl ht360 fun D =>
    j_ivv (pc := 4) (m := 313) (dd := 135) (a := []) (rest := []) D rfl rfl rfl rfl rfl (by decide) (s0_303 H) (by decide +kernel) (fun h1 e1 D =>
      have T := fj_run_ok _ _ _ _ _ _ H.1 e1
      have ht360 := fin_st H.1 T.2 hk (by decide) (by decide +kernel) ht360 (by decide)
      have hk := cls_st H.1 T.2 hk (by decide)
      have H := shp_st H T
      j_aldn (pc := 7) D rfl rfl rfl fun D =>
      j_gf (pc := 8) (a := x0.toNat) D rfl rfl (nz_cls H.2.1 hk (by decide)) rfl hk rfl fun D =>
      j_ildn (pc := 11) D rfl rfl rfl fun D =>
      j_ivuv (pc := 12) (dd := 136) (a := [(0, x1)]) (rest := []) H.2.1 D rfl rfl rfl rfl rfl (fun m7 h4 e1 D =>
        have T := fj_run_ok _ _ _ _ _ _ H.1 e1
        have ht360 := fin_st H.1 T.2 hk (by decide) (by decide +kernel) ht360 (by decide)
        have hk := cls_st H.1 T.2 hk (by decide)
        have H := shp_st H T
        j_aldn (pc := 15) D rfl rfl rfl fun D =>
        j_gfc (pc := 16) (a := x0.toNat) D rfl rfl (nz_cls H.2.1 hk (by decide)) rfl hk rfl ht360 fun D =>
        j_aldn (pc := 19) D rfl rfl rfl fun D =>
        j_gf (pc := 20) (a := x0.toNat) D rfl rfl (nz_cls H.2.1 hk (by decide)) rfl hk rfl fun D =>
        j_iv (pc := 23) (m := 361) (dd := 228) (a := [(0, h4 358 x0.toNat 0)]) (rest := []) D rfl rfl rfl rfl rfl (by decide) (s0_303 H) (by decide +kernel) (fun v9 h8 e1 D =>
          have T := fj_run_ok _ _ _ _ _ _ H.1 e1
          have ht360 := fin_st H.1 T.2 hk (by decide) (by decide +kernel) ht360 (by decide)
          have hk := cls_st H.1 T.2 hk (by decide)
          have H := shp_st H T
          j_astn (pc := 26) (L' := [(2, (4, v9)), (0, (4, x0)), (1, (0, x1))]) D rfl nl_336 rfl rfl fun D =>
          j_aldn (pc := 27) D rfl rfl rfl fun D =>
          j_gf (pc := 28) (a := x0.toNat) D rfl rfl (nz_cls H.2.1 hk (by decide)) rfl hk rfl fun D =>
          j_ldc (pc := 31) D rfl fun D =>
          j_ivu (pc := 33) (dd := 216) (a := [(4, 255)]) (rest := []) H.2.1 D rfl rfl rfl rfl rfl (fun m14 v12 h11 e1 D =>
            have T := fj_run_ok _ _ _ _ _ _ H.1 e1
            have ht360 := fin_st H.1 T.2 hk (by decide) (by decide +kernel) ht360 (by decide)
            have hk := cls_st H.1 T.2 hk (by decide)
            have H := shp_st H T
            j_ifeq (pc := 36) D rfl (fun q =>
              have D : fk_D 336 [(48, none, .aload_n 0, 1, 0, 0, 0), (49, none, .getfield 19, 3, 357, 122, 12), (52, none, .ldc 53, 2, 4, 257, 0), (54, none, .invokevirtual 44, 3, 1, 216, 1), (57, none, .ifCond .eq 12, 3, 69, 0, 0), (60, none, .aload_n 0, 1, 0, 0, 0), (61, none, .aload_n 2, 1, 0, 0, 0), (62, none, .iload_n 1, 1, 0, 0, 0), (63, none, .invokevirtual 55, 3, 2, 230, 0), (66, none, .goto 9, 3, 75, 0, 0)] := fq_of2 cd_336 ow_336 cl_336 rfl (pc := 48) (by decide +kernel)
              j_aldn (pc := 48) D rfl rfl rfl fun D =>
              j_gf (pc := 49) (a := x0.toNat) D rfl rfl (nz_cls H.2.1 hk (by decide)) rfl hk rfl fun D =>
              j_ldc (pc := 52) D rfl fun D =>
              j_ivu (pc := 54) (dd := 216) (a := [(4, 257)]) (rest := []) H.2.1 D rfl rfl rfl rfl rfl (fun m18 v16 h15 e1 D =>
                have T := fj_run_ok _ _ _ _ _ _ H.1 e1
                have ht360 := fin_st H.1 T.2 hk (by decide) (by decide +kernel) ht360 (by decide)
                have hk := cls_st H.1 T.2 hk (by decide)
                have H := shp_st H T
                j_ifeq (pc := 57) D rfl (fun q =>
                  have D : fk_D 336 [(69, none, .aload_n 0, 1, 0, 0, 0), (70, none, .aload_n 2, 1, 0, 0, 0), (71, none, .iload_n 1, 1, 0, 0, 0), (72, none, .invokevirtual 57, 3, 2, 231, 0), (75, none, .return_, 1, 0, 0, 0)] := fq_of2 cd_336 ow_336 cl_336 rfl (pc := 69) (by decide +kernel)
                  j_aldn (pc := 69) D rfl rfl rfl fun D =>
                  j_aldn (pc := 70) D rfl rfl rfl fun D =>
                  j_ildn (pc := 71) D rfl rfl rfl fun D =>
                  j_ivv (pc := 72) (m := 365) (dd := 231) (a := [(4, v9), (0, x1)]) (rest := []) D rfl rfl rfl rfl rfl (nz_cls H.2.1 hk (by decide)) hk (by decide +kernel) (fun h19 e1 D =>
                    have T := fj_run_ok _ _ _ _ _ _ H.1 e1
                    have ht360 := fin_st H.1 T.2 hk (by decide) (by decide +kernel) ht360 (by decide)
                    have hk := cls_st H.1 T.2 hk (by decide)
                    have H := shp_st H T
                    j_vret D rt_336) (fun q21 h19 e1 =>
                    j_tx (hx_336 _))) (fun q D =>
                  j_aldn (pc := 60) D rfl rfl rfl fun D =>
                  j_aldn (pc := 61) D rfl rfl rfl fun D =>
                  j_ildn (pc := 62) D rfl rfl rfl fun D =>
                  j_ivv (pc := 63) (m := 364) (dd := 230) (a := [(4, v9), (0, x1)]) (rest := []) D rfl rfl rfl rfl rfl (nz_cls H.2.1 hk (by decide)) hk (by decide +kernel) (fun h22 e1 D =>
                    have T := fj_run_ok _ _ _ _ _ _ H.1 e1
                    have ht360 := fin_st H.1 T.2 hk (by decide) (by decide +kernel) ht360 (by decide)
                    have hk := cls_st H.1 T.2 hk (by decide)
                    have H := shp_st H T
                    j_goto (pc := 66) D rfl <|
                    have D : fk_D 336 [(75, none, .return_, 1, 0, 0, 0)] := fq_of2 cd_336 ow_336 cl_336 rfl (pc := 75) (by decide +kernel)
                    j_vret D rt_336) (fun q24 h22 e1 =>
                    j_tx (hx_336 _)))) (fun m18 q17 h15 e1 =>
                j_tx (hx_336 _))) (fun q D =>
              j_aldn (pc := 39) D rfl rfl rfl fun D =>
              j_aldn (pc := 40) D rfl rfl rfl fun D =>
              have D : fk_D 336 [(41, none, .iload_n 1, 1, 0, 0, 0), (42, none, .invokevirtual 50, 3, 2, 229, 0), (45, none, .goto 30, 3, 75, 0, 0)] := fq_of2 cd_336 ow_336 cl_336 rfl (pc := 41) (by decide +kernel)
              j_ildn (pc := 41) D rfl rfl rfl fun D =>
              j_ivv (pc := 42) (m := 362) (dd := 229) (a := [(4, v9), (0, x1)]) (rest := []) D rfl rfl rfl rfl rfl (nz_cls H.2.1 hk (by decide)) hk (by decide +kernel) (fun h25 e1 D =>
                have T := fj_run_ok _ _ _ _ _ _ H.1 e1
                have ht360 := fin_st H.1 T.2 hk (by decide) (by decide +kernel) ht360 (by decide)
                have hk := cls_st H.1 T.2 hk (by decide)
                have H := shp_st H T
                j_goto (pc := 45) D rfl <|
                have D : fk_D 336 [(75, none, .return_, 1, 0, 0, 0)] := fq_of2 cd_336 ow_336 cl_336 rfl (pc := 75) (by decide +kernel)
                j_vret D rt_336) (fun q27 h25 e1 =>
                j_tx (hx_336 _)))) (fun m14 q13 h11 e1 =>
            j_tx (hx_336 _))) (fun q10 h8 e1 =>
          j_tx (hx_336 _))) (fun m7 q6 h4 e1 =>
        j_tx (hx_336 _))) (fun q3 h1 e1 =>
      j_tx (hx_336 _))
/-! 337 StatuteHouse$TermPart.work(I)V -/
theorem cd_337 : fi_code 337 = prog_62_method_2_code := rfl
theorem hx_337 : ∀ pc, fi_hat 337 pc = none := fun pc => by unfold fi_hat; rw [show fi_hh 337 = [] from rfl]; rfl
theorem rt_337 : fi_ret 337 = none := rfl
theorem nl_337 : fi_nl 337 = 2 := rfl
theorem ow_337 : fi_ow 337 = 23 := rfl
theorem cl_337 : fj_cutT.getD 337 [] = [] := rfl
theorem m_337 (d : Nat) (x0 x1 : Int) {h : fi_H} (H : Shp h) (hk : h 0 x0.toNat 0 = 123) (ht364 : h 364 x0.toNat 0 = 303) : fj_run (d + 1) 337 h [(4, x0), (0, x1)] =
  cv_ (fj_run d 313 h [(4, 303)])
    (fun h1 =>
    cv_ (fj_run d 309 h1 [(4, 303), (0, h1 347 x0.toNat 0), (0, x1)])
      (fun h4 =>
      some (.inl none, h4))
      (fun q6 h4 => tx_ q6 h4))
    (fun q3 h1 => tx_ q3 h1) := by
  rw [fj_run_eq d (by decide) h [(4, x0), (0, x1)] (Nat.le_of_ble_eq_true (by rw [nl_337]; rfl))]
  show gG (fj_run d) 337 0 [(0, (4, x0)), (1, (0, x1))] [] h = _
  exact
    have D : fk_D 337 [(0, none, .aload_n 0, 1, 0, 0, 0), (1, none, .getfield 1, 3, 364, 123, 12), (4, none, .invokevirtual 25, 3, 0, 135, 0), (7, none, .aload_n 0, 1, 0, 0, 0), (8, none, .getfield 1, 3, 364, 123, 12), (11, none, .aload_n 0, 1, 0, 0, 0), (12, none, .getfield 29, 3, 347, 123, 10), (15, none, .iload_n 1, 1, 0, 0, 0), (16, none, .invokevirtual 33, 3, 2, 172, 0), (19, none, .return_, 1, 0, 0, 0)] := fq_of2 cd_337 ow_337 cl_337 rfl (pc := 0) (by decide +kernel)
    j_aldn (pc := 0) D rfl rfl rfl fun D =>
    j_gfc (pc := 1) (a := x0.toNat) D rfl rfl (nz_cls H.2.1 hk (by decide)) rfl hk rfl ht364 fun D =>
    j_ivv (pc := 4) (m := 313) (dd := 135) (a := []) (rest := []) D rfl rfl rfl rfl rfl (by decide) (s0_303 H) (by decide +kernel) (fun h1 e1 D =>
      have T := fj_run_ok _ _ _ _ _ _ H.1 e1
      have ht364 := fin_st H.1 T.2 hk (by decide) (by decide +kernel) ht364 (by decide)
      have hk := cls_st H.1 T.2 hk (by decide)
      have H := shp_st H T
      j_aldn (pc := 7) D rfl rfl rfl fun D =>
      j_gfc (pc := 8) (a := x0.toNat) D rfl rfl (nz_cls H.2.1 hk (by decide)) rfl hk rfl ht364 fun D =>
      j_aldn (pc := 11) D rfl rfl rfl fun D =>
      j_gf (pc := 12) (a := x0.toNat) D rfl rfl (nz_cls H.2.1 hk (by decide)) rfl hk rfl fun D =>
      j_ildn (pc := 15) D rfl rfl rfl fun D =>
      j_ivv (pc := 16) (m := 309) (dd := 172) (a := [(0, h1 347 x0.toNat 0), (0, x1)]) (rest := []) D rfl rfl rfl rfl rfl (by decide) (s0_303 H) (by decide +kernel) (fun h4 e1 D =>
        have T := fj_run_ok _ _ _ _ _ _ H.1 e1
        have ht364 := fin_st H.1 T.2 hk (by decide) (by decide +kernel) ht364 (by decide)
        have hk := cls_st H.1 T.2 hk (by decide)
        have H := shp_st H T
        j_vret D rt_337) (fun q6 h4 e1 =>
        j_tx (hx_337 _))) (fun q3 h1 e1 =>
      j_tx (hx_337 _))
/-! 338 StatuteHouse$Two.work(I)V -/
theorem cd_338 : fi_code 338 = prog_64_method_2_code := rfl
theorem hx_338 : ∀ pc, fi_hat 338 pc = none := fun pc => by unfold fi_hat; rw [show fi_hh 338 = [] from rfl]; rfl
theorem rt_338 : fi_ret 338 = none := rfl
theorem nl_338 : fi_nl 338 = 2 := rfl
theorem ow_338 : fi_ow 338 = 25 := rfl
theorem cl_338 : fj_cutT.getD 338 [] = [(91, [0, 1]), (196, [0, 1]), (285, [0]), (300, []), (308, []), (312, [0, 1]), (353, []), (357, [0, 1]), (398, []), (402, [0, 1]), (443, []), (447, [0, 1]), (488, []), (492, [0, 1]), (518, [0, 1]), (544, [0, 1]), (569, [0, 1]), (594, [0, 1])] := rfl
theorem cut_338_91 : fj_cut 338 91 = some [0, 1] := by decide +kernel
noncomputable def c_338_91 (d : Nat) (x0 x1 s0 s1 : Int) (h : fi_H) : fk_R := gG (fj_run d) 338 91 [(0, (4, x0)), (1, (0, x1))] [(0, s1), (0, s0)] h
theorem cut_338_196 : fj_cut 338 196 = some [0, 1] := by decide +kernel
noncomputable def c_338_196 (d : Nat) (x0 x1 : Int) (h : fi_H) : fk_R := gG (fj_run d) 338 196 [(0, (4, x0)), (1, (0, x1))] [] h
theorem cut_338_285 : fj_cut 338 285 = some [0] := by decide +kernel
noncomputable def c_338_285 (d : Nat) (x0 s0 s1 s2 : Int) (h : fi_H) : fk_R := gG (fj_run d) 338 285 [(0, (4, x0))] [(0, s2), (0, s1), (4, s0)] h
theorem cut_338_300 : fj_cut 338 300 = some [] := by decide +kernel
noncomputable def c_338_300 (d : Nat) (s0 s1 s2 s3 : Int) (h : fi_H) : fk_R := gG (fj_run d) 338 300 [] [(0, s3), (0, s2), (0, s1), (4, s0)] h
theorem cut_338_308 : fj_cut 338 308 = some [] := by decide +kernel
noncomputable def c_338_308 (d : Nat) (s0 s1 s2 : Int) (h : fi_H) : fk_R := gG (fj_run d) 338 308 [] [(0, s2), (0, s1), (4, s0)] h
theorem cut_338_312 : fj_cut 338 312 = some [0, 1] := by decide +kernel
noncomputable def c_338_312 (d : Nat) (x0 x1 : Int) (h : fi_H) : fk_R := gG (fj_run d) 338 312 [(0, (4, x0)), (1, (0, x1))] [] h
theorem cut_338_353 : fj_cut 338 353 = some [] := by decide +kernel
noncomputable def c_338_353 (d : Nat) (s0 s1 s2 : Int) (h : fi_H) : fk_R := gG (fj_run d) 338 353 [] [(0, s2), (0, s1), (4, s0)] h
theorem cut_338_357 : fj_cut 338 357 = some [0, 1] := by decide +kernel
noncomputable def c_338_357 (d : Nat) (x0 x1 : Int) (h : fi_H) : fk_R := gG (fj_run d) 338 357 [(0, (4, x0)), (1, (0, x1))] [] h
theorem cut_338_398 : fj_cut 338 398 = some [] := by decide +kernel
noncomputable def c_338_398 (d : Nat) (s0 s1 s2 : Int) (h : fi_H) : fk_R := gG (fj_run d) 338 398 [] [(0, s2), (0, s1), (4, s0)] h
theorem cut_338_402 : fj_cut 338 402 = some [0, 1] := by decide +kernel
noncomputable def c_338_402 (d : Nat) (x0 x1 : Int) (h : fi_H) : fk_R := gG (fj_run d) 338 402 [(0, (4, x0)), (1, (0, x1))] [] h
theorem cut_338_443 : fj_cut 338 443 = some [] := by decide +kernel
noncomputable def c_338_443 (d : Nat) (s0 s1 s2 : Int) (h : fi_H) : fk_R := gG (fj_run d) 338 443 [] [(0, s2), (0, s1), (4, s0)] h
theorem cut_338_447 : fj_cut 338 447 = some [0, 1] := by decide +kernel
noncomputable def c_338_447 (d : Nat) (x0 x1 : Int) (h : fi_H) : fk_R := gG (fj_run d) 338 447 [(0, (4, x0)), (1, (0, x1))] [] h
theorem cut_338_488 : fj_cut 338 488 = some [] := by decide +kernel
noncomputable def c_338_488 (d : Nat) (s0 s1 s2 : Int) (h : fi_H) : fk_R := gG (fj_run d) 338 488 [] [(0, s2), (0, s1), (4, s0)] h
theorem cut_338_492 : fj_cut 338 492 = some [0, 1] := by decide +kernel
noncomputable def c_338_492 (d : Nat) (x0 x1 : Int) (h : fi_H) : fk_R := gG (fj_run d) 338 492 [(0, (4, x0)), (1, (0, x1))] [] h
theorem cut_338_518 : fj_cut 338 518 = some [0, 1] := by decide +kernel
noncomputable def c_338_518 (d : Nat) (x0 x1 : Int) (h : fi_H) : fk_R := gG (fj_run d) 338 518 [(0, (4, x0)), (1, (0, x1))] [] h
theorem cut_338_544 : fj_cut 338 544 = some [0, 1] := by decide +kernel
noncomputable def c_338_544 (d : Nat) (x0 x1 : Int) (h : fi_H) : fk_R := gG (fj_run d) 338 544 [(0, (4, x0)), (1, (0, x1))] [] h
theorem cut_338_569 : fj_cut 338 569 = some [0, 1] := by decide +kernel
noncomputable def c_338_569 (d : Nat) (x0 x1 : Int) (h : fi_H) : fk_R := gG (fj_run d) 338 569 [(0, (4, x0)), (1, (0, x1))] [] h
theorem cut_338_594 : fj_cut 338 594 = some [0, 1] := by decide +kernel
noncomputable def c_338_594 (d : Nat) (x0 x1 : Int) (h : fi_H) : fk_R := gG (fj_run d) 338 594 [(0, (4, x0)), (1, (0, x1))] [] h
theorem e_338_91 (d : Nat) (x0 x1 s0 s1 : Int) {h : fi_H} (H : Shp h) (hk : h 0 x0.toNat 0 = 125) (ht369 : h 369 x0.toNat 0 = 303) : c_338_91 d x0 x1 s0 s1 h =
  if s0 = s1 then
    some (.inl none, h)
  else
    dv_ (fi_vt 136 (h 0 (h 368 x0.toNat 0).toNat 0)) fun m4 => cv_ (fj_run d m4 h [(4, h 368 x0.toNat 0), (0, x1)])
      (fun h1 =>
      some (.inl none, h1))
      (fun q3 h1 => tx_ q3 h1) := by
  unfold c_338_91
  exact
    have D : fk_D 338 [(91, some [0, 1], .if_icmp .eq 11, 3, 102, 0, 0), (94, none, .aload_n 0, 1, 0, 0, 0), (95, none, .getfield 41, 3, 368, 125, 12), (98, none, .iload_n 1, 1, 0, 0, 0), (99, none, .invokevirtual 54, 3, 1, 136, 0), (102, none, .return_, 1, 0, 0, 0)] := fq_of2 cd_338 ow_338 cl_338 rfl (pc := 91) (by decide +kernel)
    j_ieq (pc := 91) D rfl (fun q =>
      have D : fk_D 338 [(102, none, .return_, 1, 0, 0, 0)] := fq_of2 cd_338 ow_338 cl_338 rfl (pc := 102) (by decide +kernel)
      j_vret D rt_338) (fun q D =>
      j_aldn (pc := 94) D rfl rfl rfl fun D =>
      j_gf (pc := 95) (a := x0.toNat) D rfl rfl (nz_cls H.2.1 hk (by decide)) rfl hk rfl fun D =>
      j_ildn (pc := 98) D rfl rfl rfl fun D =>
      j_ivuv (pc := 99) (dd := 136) (a := [(0, x1)]) (rest := []) H.2.1 D rfl rfl rfl rfl rfl (fun m4 h1 e1 D =>
        have T := fj_run_ok _ _ _ _ _ _ H.1 e1
        have ht369 := fin_st H.1 T.2 hk (by decide) (by decide +kernel) ht369 (by decide)
        have hk := cls_st H.1 T.2 hk (by decide)
        have H := shp_st H T
        j_vret D rt_338) (fun m4 q3 h1 e1 =>
        j_tx (hx_338 _)))
theorem e_338_196 (d : Nat) (x0 x1 : Int) {h : fi_H} (H : Shp h) (hk : h 0 x0.toNat 0 = 125) (ht369 : h 369 x0.toNat 0 = 303) : c_338_196 d x0 x1 h =
  if fi_in (h 0 (h 367 x0.toNat 0).toNat 0) 340 = true then
  if fi_in (h 0 (h 368 x0.toNat 0).toNat 0) 340 = true then
  if h 340 (h 367 x0.toNat 0).toNat 0 = h 340 (h 368 x0.toNat 0).toNat 0 then
    if fi_in (h 0 (h 367 x0.toNat 0).toNat 0) 340 = true then
    ca_ (fj_run d 341 h [(4, 309), (0, x1), (4, 309), (0, wI (x1 + 1)), (4, h 340 (h 367 x0.toNat 0).toNat 0)]) 0
      (fun v2 h1 =>
      c_338_285 d x0 310 x1 v2 h1)
      (fun q3 h1 => tx_ q3 h1)
    else none
  else
    if fi_in (h 0 (h 367 x0.toNat 0).toNat 0) 340 = true then
    if fi_in (h 0 (h 368 x0.toNat 0).toNat 0) 340 = true then
    ca_ (fj_run d 342 h [(4, 303), (0, x1), (4, h 340 (h 367 x0.toNat 0).toNat 0), (4, h 340 (h 368 x0.toNat 0).toNat 0)]) 0
      (fun v5 h4 =>
      if v5 = 0 then
        c_338_285 d x0 310 x1 1 h4
      else
        c_338_285 d x0 310 x1 0 h4)
      (fun q6 h4 => tx_ q6 h4)
    else none
    else none
  else none
  else none := by
  unfold c_338_196
  exact
    have D : fk_D 338 [(196, some [0, 1], .aload_n 0, 1, 0, 0, 0), (197, none, .getfield 1, 3, 369, 125, 12), (200, none, .getfield 58, 3, 213, 100, 12), (203, none, .getfield 62, 3, 114, 119, 12), (206, none, .iload_n 1, 1, 0, 0, 0), (207, none, .aload_n 0, 1, 0, 0, 0), (208, none, .getfield 37, 3, 367, 125, 12), (211, none, .getfield 7, 3, 340, 0, 12), (214, none, .aload_n 0, 1, 0, 0, 0), (215, none, .getfield 41, 3, 368, 125, 12), (218, none, .getfield 7, 3, 340, 0, 12), (221, none, .if_acmp .ne 34, 3, 255, 0, 0), (224, none, .aload_n 0, 1, 0, 0, 0), (225, none, .getfield 1, 3, 369, 125, 12), (228, none, .getfield 58, 3, 213, 100, 12), (231, none, .iload_n 1, 1, 0, 0, 0), (232, none, .aload_n 0, 1, 0, 0, 0), (233, none, .getfield 1, 3, 369, 125, 12), (236, none, .getfield 58, 3, 213, 100, 12), (239, none, .iload_n 1, 1, 0, 0, 0)] := fq_of2 cd_338 ow_338 cl_338 rfl (pc := 196) (by decide +kernel)
    j_aldn (pc := 196) D rfl rfl rfl fun D =>
    j_gfc (pc := 197) (a := x0.toNat) D rfl rfl (nz_cls H.2.1 hk (by decide)) rfl hk rfl ht369 fun D =>
    j_gfc (pc := 200) (a := 303) D rfl rfl (by decide) rfl (s0_303 H) rfl (sf_213_303 H) fun D =>
    j_gfc (pc := 203) (a := 309) D rfl rfl (by decide) rfl (s0_309 H) rfl (sf_114_309 H) fun D =>
    j_ildn (pc := 206) D rfl rfl rfl fun D =>
    j_aldn (pc := 207) D rfl rfl rfl fun D =>
    j_gf (pc := 208) (a := x0.toNat) D rfl rfl (nz_cls H.2.1 hk (by decide)) rfl hk rfl fun D =>
    j_gfu (pc := 211) H.2.1 D rfl rfl fun q D =>
    j_aldn (pc := 214) D rfl rfl rfl fun D =>
    j_gf (pc := 215) (a := x0.toNat) D rfl rfl (nz_cls H.2.1 hk (by decide)) rfl hk rfl fun D =>
    j_gfu (pc := 218) H.2.1 D rfl rfl fun q D =>
    j_ane (pc := 221) D rfl (fun q D =>
      j_aldn (pc := 224) D rfl rfl rfl fun D =>
      j_gfc (pc := 225) (a := x0.toNat) D rfl rfl (nz_cls H.2.1 hk (by decide)) rfl hk rfl ht369 fun D =>
      j_gfc (pc := 228) (a := 303) D rfl rfl (by decide) rfl (s0_303 H) rfl (sf_213_303 H) fun D =>
      j_ildn (pc := 231) D rfl rfl rfl fun D =>
      j_aldn (pc := 232) D rfl rfl rfl fun D =>
      j_gfc (pc := 233) (a := x0.toNat) D rfl rfl (nz_cls H.2.1 hk (by decide)) rfl hk rfl ht369 fun D =>
      j_gfc (pc := 236) (a := 303) D rfl rfl (by decide) rfl (s0_303 H) rfl (sf_213_303 H) fun D =>
      j_ildn (pc := 239) D rfl rfl rfl fun D =>
      have D : fk_D 338 [(240, none, .iconst 1, 1, 0, 1, 0), (241, none, .iadd, 1, 0, 0, 0), (242, none, .aload_n 0, 1, 0, 0, 0), (243, none, .getfield 37, 3, 367, 125, 12), (246, none, .getfield 7, 3, 340, 0, 12), (249, none, .invokevirtual 77, 3, 4, 237, 1), (252, none, .goto 33, 3, 285, 0, 0)] := fq_of2 cd_338 ow_338 cl_338 rfl (pc := 240) (by decide +kernel)
      j_ic (pc := 240) D rfl fun D =>
      j_iadd (pc := 241) D rfl fun D =>
      j_aldn (pc := 242) D rfl rfl rfl fun D =>
      j_gf (pc := 243) (a := x0.toNat) D rfl rfl (nz_cls H.2.1 hk (by decide)) rfl hk rfl fun D =>
      j_gfu (pc := 246) H.2.1 D rfl rfl fun q D =>
      j_iv (pc := 249) (m := 341) (dd := 237) (a := [(0, x1), (4, 309), (0, wI (x1 + 1)), (4, h 340 (h 367 x0.toNat 0).toNat 0)]) (rest := [(0, x1), (4, 310)]) D rfl rfl rfl rfl rfl (by decide) (s0_309 H) (by decide +kernel) (fun v2 h1 e1 D =>
        have T := fj_run_ok _ _ _ _ _ _ H.1 e1
        have ht369 := fin_st H.1 T.2 hk (by decide) (by decide +kernel) ht369 (by decide)
        have hk := cls_st H.1 T.2 hk (by decide)
        have H := shp_st H T
        j_goto (pc := 252) D rfl <|
        fk_jump cut_338_285 rfl rfl) (fun q3 h1 e1 =>
        j_tx (hx_338 _))) (fun q =>
      have D : fk_D 338 [(255, none, .aload_n 0, 1, 0, 0, 0), (256, none, .getfield 1, 3, 369, 125, 12), (259, none, .iload_n 1, 1, 0, 0, 0), (260, none, .aload_n 0, 1, 0, 0, 0), (261, none, .getfield 37, 3, 367, 125, 12), (264, none, .getfield 7, 3, 340, 0, 12), (267, none, .aload_n 0, 1, 0, 0, 0), (268, none, .getfield 41, 3, 368, 125, 12), (271, none, .getfield 7, 3, 340, 0, 12), (274, none, .invokevirtual 81, 3, 3, 226, 1), (277, none, .ifCond .ne 7, 3, 284, 0, 0), (280, none, .iconst 1, 1, 0, 1, 0), (281, none, .goto 4, 3, 285, 0, 0)] := fq_of2 cd_338 ow_338 cl_338 rfl (pc := 255) (by decide +kernel)
      j_aldn (pc := 255) D rfl rfl rfl fun D =>
      j_gfc (pc := 256) (a := x0.toNat) D rfl rfl (nz_cls H.2.1 hk (by decide)) rfl hk rfl ht369 fun D =>
      j_ildn (pc := 259) D rfl rfl rfl fun D =>
      j_aldn (pc := 260) D rfl rfl rfl fun D =>
      j_gf (pc := 261) (a := x0.toNat) D rfl rfl (nz_cls H.2.1 hk (by decide)) rfl hk rfl fun D =>
      j_gfu (pc := 264) H.2.1 D rfl rfl fun q D =>
      j_aldn (pc := 267) D rfl rfl rfl fun D =>
      j_gf (pc := 268) (a := x0.toNat) D rfl rfl (nz_cls H.2.1 hk (by decide)) rfl hk rfl fun D =>
      j_gfu (pc := 271) H.2.1 D rfl rfl fun q D =>
      j_iv (pc := 274) (m := 342) (dd := 226) (a := [(0, x1), (4, h 340 (h 367 x0.toNat 0).toNat 0), (4, h 340 (h 368 x0.toNat 0).toNat 0)]) (rest := [(0, x1), (4, 310)]) D rfl rfl rfl rfl rfl (by decide) (s0_303 H) (by decide +kernel) (fun v5 h4 e1 D =>
        have T := fj_run_ok _ _ _ _ _ _ H.1 e1
        have ht369 := fin_st H.1 T.2 hk (by decide) (by decide +kernel) ht369 (by decide)
        have hk := cls_st H.1 T.2 hk (by decide)
        have H := shp_st H T
        j_ifne (pc := 277) D rfl (fun q D =>
          j_ic (pc := 280) D rfl fun D =>
          j_goto (pc := 281) D rfl <|
          fk_jump cut_338_285 rfl rfl) (fun q =>
          have D : fk_D 338 [(284, none, .iconst 0, 1, 0, 0, 0)] := fq_of2 cd_338 ow_338 cl_338 rfl (pc := 284) (by decide +kernel)
          j_ic (pc := 284) D rfl fun D =>
          fk_jump cut_338_285 rfl rfl)) (fun q6 h4 e1 =>
        j_tx (hx_338 _)))
theorem e_338_285 (d : Nat) (x0 s0 s1 s2 : Int) {h : fi_H} (H : Shp h) (hk : h 0 x0.toNat 0 = 125) (ht369 : h 369 x0.toNat 0 = 303) : c_338_285 d x0 s0 s1 s2 h =
  if h 366 x0.toNat 0 = 17 then
    c_338_300 d s0 s1 s2 1 h
  else
    c_338_300 d s0 s1 s2 0 h := by
  unfold c_338_285
  exact
    have D : fk_D 338 [(285, some [0], .aload_n 0, 1, 0, 0, 0), (286, none, .getfield 33, 3, 366, 125, 12), (289, none, .getstatic 85, 3, 4, 17, 0), (292, none, .if_acmp .ne 7, 3, 299, 0, 0), (295, none, .iconst 1, 1, 0, 1, 0), (296, none, .goto 4, 3, 300, 0, 0)] := fq_of2 cd_338 ow_338 cl_338 rfl (pc := 285) (by decide +kernel)
    j_aldn (pc := 285) D rfl rfl rfl fun D =>
    j_gf (pc := 286) (a := x0.toNat) D rfl rfl (nz_cls H.2.1 hk (by decide)) rfl hk rfl fun D =>
    j_gs (pc := 289) D rfl fun D =>
    j_ane (pc := 292) D rfl (fun q D =>
      j_ic (pc := 295) D rfl fun D =>
      j_goto (pc := 296) D rfl <|
      fk_jump cut_338_300 rfl rfl) (fun q =>
      have D : fk_D 338 [(299, none, .iconst 0, 1, 0, 0, 0)] := fq_of2 cd_338 ow_338 cl_338 rfl (pc := 299) (by decide +kernel)
      j_ic (pc := 299) D rfl fun D =>
      fk_jump cut_338_300 rfl rfl)
theorem e_338_300 (d : Nat) (s0 s1 s2 s3 : Int) {h : fi_H} (H : Shp h) : c_338_300 d s0 s1 s2 s3 h =
  if s2 = s3 then
    c_338_308 d s0 s1 1 h
  else
    c_338_308 d s0 s1 0 h := by
  unfold c_338_300
  exact
    have D : fk_D 338 [(300, some [], .if_icmp .ne 7, 3, 307, 0, 0), (303, none, .iconst 1, 1, 0, 1, 0), (304, none, .goto 4, 3, 308, 0, 0)] := fq_of2 cd_338 ow_338 cl_338 rfl (pc := 300) (by decide +kernel)
    j_ine (pc := 300) D rfl (fun q D =>
      j_ic (pc := 303) D rfl fun D =>
      j_goto (pc := 304) D rfl <|
      fk_jump cut_338_308 rfl rfl) (fun q =>
      have D : fk_D 338 [(307, none, .iconst 0, 1, 0, 0, 0)] := fq_of2 cd_338 ow_338 cl_338 rfl (pc := 307) (by decide +kernel)
      j_ic (pc := 307) D rfl fun D =>
      fk_jump cut_338_308 rfl rfl)
theorem e_338_308 (d : Nat) (s0 s1 s2 : Int) {h : fi_H} (H : Shp h) : c_338_308 d s0 s1 s2 h =
  if 302 < s0 ∧ fi_et 1 (h 0 s0.toNat 0) ≠ 0 then
  if 0 ≤ s1 ∧ s1 < h 1 s0.toNat 0 then
  if fi_rg (fi_et 1 (h 0 s0.toNat 0)) s2 = true then
  lt_ (fi_upd h (fi_et 1 (h 0 s0.toNat 0)) s0.toNat s1.toNat s2) fun h1 =>
  some (.inl none, h1)
  else none
  else none
  else none := by
  unfold c_338_308
  exact
    have D : fk_D 338 [(308, some [], .bastore, 1, 0, 0, 0), (309, none, .goto 297, 3, 606, 0, 0)] := fq_of2 cd_338 ow_338 cl_338 rfl (pc := 308) (by decide +kernel)
    j_asub (pc := 308) D rfl rfl gn gn gn fun h1 eh1 S q q2 D =>
    have T := fj_hs_ok H.1 S
    have H := shp_st H T
    j_goto (pc := 309) D rfl <|
    have D : fk_D 338 [(606, none, .return_, 1, 0, 0, 0)] := fq_of2 cd_338 ow_338 cl_338 rfl (pc := 606) (by decide +kernel)
    j_vret D rt_338
theorem e_338_312 (d : Nat) (x0 x1 : Int) {h : fi_H} (H : Shp h) (hk : h 0 x0.toNat 0 = 125) (ht369 : h 369 x0.toNat 0 = 303) : c_338_312 d x0 x1 h =
  if fi_in (h 0 (h 367 x0.toNat 0).toNat 0) 340 = true then
  if fi_in (h 0 (h 368 x0.toNat 0).toNat 0) 340 = true then
  ca_ (fj_run d 342 h [(4, 303), (0, x1), (4, h 340 (h 367 x0.toNat 0).toNat 0), (4, h 340 (h 368 x0.toNat 0).toNat 0)]) 0
    (fun v2 h1 =>
    if v2 < 0 then
      c_338_353 d 310 x1 1 h1
    else
      c_338_353 d 310 x1 0 h1)
    (fun q3 h1 => tx_ q3 h1)
  else none
  else none := by
  unfold c_338_312
  exact
    have D : fk_D 338 [(312, some [0, 1], .aload_n 0, 1, 0, 0, 0), (313, none, .getfield 1, 3, 369, 125, 12), (316, none, .getfield 58, 3, 213, 100, 12), (319, none, .getfield 62, 3, 114, 119, 12), (322, none, .iload_n 1, 1, 0, 0, 0), (323, none, .aload_n 0, 1, 0, 0, 0), (324, none, .getfield 1, 3, 369, 125, 12), (327, none, .iload_n 1, 1, 0, 0, 0), (328, none, .aload_n 0, 1, 0, 0, 0), (329, none, .getfield 37, 3, 367, 125, 12), (332, none, .getfield 7, 3, 340, 0, 12), (335, none, .aload_n 0, 1, 0, 0, 0), (336, none, .getfield 41, 3, 368, 125, 12), (339, none, .getfield 7, 3, 340, 0, 12), (342, none, .invokevirtual 81, 3, 3, 226, 1), (345, none, .ifCond .ge 7, 3, 352, 0, 0), (348, none, .iconst 1, 1, 0, 1, 0), (349, none, .goto 4, 3, 353, 0, 0)] := fq_of2 cd_338 ow_338 cl_338 rfl (pc := 312) (by decide +kernel)
    j_aldn (pc := 312) D rfl rfl rfl fun D =>
    j_gfc (pc := 313) (a := x0.toNat) D rfl rfl (nz_cls H.2.1 hk (by decide)) rfl hk rfl ht369 fun D =>
    j_gfc (pc := 316) (a := 303) D rfl rfl (by decide) rfl (s0_303 H) rfl (sf_213_303 H) fun D =>
    j_gfc (pc := 319) (a := 309) D rfl rfl (by decide) rfl (s0_309 H) rfl (sf_114_309 H) fun D =>
    j_ildn (pc := 322) D rfl rfl rfl fun D =>
    j_aldn (pc := 323) D rfl rfl rfl fun D =>
    j_gfc (pc := 324) (a := x0.toNat) D rfl rfl (nz_cls H.2.1 hk (by decide)) rfl hk rfl ht369 fun D =>
    j_ildn (pc := 327) D rfl rfl rfl fun D =>
    j_aldn (pc := 328) D rfl rfl rfl fun D =>
    j_gf (pc := 329) (a := x0.toNat) D rfl rfl (nz_cls H.2.1 hk (by decide)) rfl hk rfl fun D =>
    j_gfu (pc := 332) H.2.1 D rfl rfl fun q D =>
    j_aldn (pc := 335) D rfl rfl rfl fun D =>
    j_gf (pc := 336) (a := x0.toNat) D rfl rfl (nz_cls H.2.1 hk (by decide)) rfl hk rfl fun D =>
    j_gfu (pc := 339) H.2.1 D rfl rfl fun q D =>
    j_iv (pc := 342) (m := 342) (dd := 226) (a := [(0, x1), (4, h 340 (h 367 x0.toNat 0).toNat 0), (4, h 340 (h 368 x0.toNat 0).toNat 0)]) (rest := [(0, x1), (4, 310)]) D rfl rfl rfl rfl rfl (by decide) (s0_303 H) (by decide +kernel) (fun v2 h1 e1 D =>
      have T := fj_run_ok _ _ _ _ _ _ H.1 e1
      have ht369 := fin_st H.1 T.2 hk (by decide) (by decide +kernel) ht369 (by decide)
      have hk := cls_st H.1 T.2 hk (by decide)
      have H := shp_st H T
      j_ifge (pc := 345) D rfl (fun q D =>
        j_ic (pc := 348) D rfl fun D =>
        j_goto (pc := 349) D rfl <|
        fk_jump cut_338_353 rfl rfl) (fun q =>
        have D : fk_D 338 [(352, none, .iconst 0, 1, 0, 0, 0)] := fq_of2 cd_338 ow_338 cl_338 rfl (pc := 352) (by decide +kernel)
        j_ic (pc := 352) D rfl fun D =>
        fk_jump cut_338_353 rfl rfl)) (fun q3 h1 e1 =>
      j_tx (hx_338 _))
theorem e_338_353 (d : Nat) (s0 s1 s2 : Int) {h : fi_H} (H : Shp h) : c_338_353 d s0 s1 s2 h =
  if 302 < s0 ∧ fi_et 1 (h 0 s0.toNat 0) ≠ 0 then
  if 0 ≤ s1 ∧ s1 < h 1 s0.toNat 0 then
  if fi_rg (fi_et 1 (h 0 s0.toNat 0)) s2 = true then
  lt_ (fi_upd h (fi_et 1 (h 0 s0.toNat 0)) s0.toNat s1.toNat s2) fun h1 =>
  some (.inl none, h1)
  else none
  else none
  else none := by
  unfold c_338_353
  exact
    have D : fk_D 338 [(353, some [], .bastore, 1, 0, 0, 0), (354, none, .goto 252, 3, 606, 0, 0)] := fq_of2 cd_338 ow_338 cl_338 rfl (pc := 353) (by decide +kernel)
    j_asub (pc := 353) D rfl rfl gn gn gn fun h1 eh1 S q q2 D =>
    have T := fj_hs_ok H.1 S
    have H := shp_st H T
    j_goto (pc := 354) D rfl <|
    have D : fk_D 338 [(606, none, .return_, 1, 0, 0, 0)] := fq_of2 cd_338 ow_338 cl_338 rfl (pc := 606) (by decide +kernel)
    j_vret D rt_338
theorem e_338_357 (d : Nat) (x0 x1 : Int) {h : fi_H} (H : Shp h) (hk : h 0 x0.toNat 0 = 125) (ht369 : h 369 x0.toNat 0 = 303) : c_338_357 d x0 x1 h =
  if fi_in (h 0 (h 367 x0.toNat 0).toNat 0) 340 = true then
  if fi_in (h 0 (h 368 x0.toNat 0).toNat 0) 340 = true then
  ca_ (fj_run d 342 h [(4, 303), (0, x1), (4, h 340 (h 367 x0.toNat 0).toNat 0), (4, h 340 (h 368 x0.toNat 0).toNat 0)]) 0
    (fun v2 h1 =>
    if 0 < v2 then
      c_338_398 d 310 x1 0 h1
    else
      c_338_398 d 310 x1 1 h1)
    (fun q3 h1 => tx_ q3 h1)
  else none
  else none := by
  unfold c_338_357
  exact
    have D : fk_D 338 [(357, some [0, 1], .aload_n 0, 1, 0, 0, 0), (358, none, .getfield 1, 3, 369, 125, 12), (361, none, .getfield 58, 3, 213, 100, 12), (364, none, .getfield 62, 3, 114, 119, 12), (367, none, .iload_n 1, 1, 0, 0, 0), (368, none, .aload_n 0, 1, 0, 0, 0), (369, none, .getfield 1, 3, 369, 125, 12), (372, none, .iload_n 1, 1, 0, 0, 0), (373, none, .aload_n 0, 1, 0, 0, 0), (374, none, .getfield 37, 3, 367, 125, 12), (377, none, .getfield 7, 3, 340, 0, 12), (380, none, .aload_n 0, 1, 0, 0, 0), (381, none, .getfield 41, 3, 368, 125, 12), (384, none, .getfield 7, 3, 340, 0, 12), (387, none, .invokevirtual 81, 3, 3, 226, 1), (390, none, .ifCond .gt 7, 3, 397, 0, 0), (393, none, .iconst 1, 1, 0, 1, 0), (394, none, .goto 4, 3, 398, 0, 0)] := fq_of2 cd_338 ow_338 cl_338 rfl (pc := 357) (by decide +kernel)
    j_aldn (pc := 357) D rfl rfl rfl fun D =>
    j_gfc (pc := 358) (a := x0.toNat) D rfl rfl (nz_cls H.2.1 hk (by decide)) rfl hk rfl ht369 fun D =>
    j_gfc (pc := 361) (a := 303) D rfl rfl (by decide) rfl (s0_303 H) rfl (sf_213_303 H) fun D =>
    j_gfc (pc := 364) (a := 309) D rfl rfl (by decide) rfl (s0_309 H) rfl (sf_114_309 H) fun D =>
    j_ildn (pc := 367) D rfl rfl rfl fun D =>
    j_aldn (pc := 368) D rfl rfl rfl fun D =>
    j_gfc (pc := 369) (a := x0.toNat) D rfl rfl (nz_cls H.2.1 hk (by decide)) rfl hk rfl ht369 fun D =>
    j_ildn (pc := 372) D rfl rfl rfl fun D =>
    j_aldn (pc := 373) D rfl rfl rfl fun D =>
    j_gf (pc := 374) (a := x0.toNat) D rfl rfl (nz_cls H.2.1 hk (by decide)) rfl hk rfl fun D =>
    j_gfu (pc := 377) H.2.1 D rfl rfl fun q D =>
    j_aldn (pc := 380) D rfl rfl rfl fun D =>
    j_gf (pc := 381) (a := x0.toNat) D rfl rfl (nz_cls H.2.1 hk (by decide)) rfl hk rfl fun D =>
    j_gfu (pc := 384) H.2.1 D rfl rfl fun q D =>
    j_iv (pc := 387) (m := 342) (dd := 226) (a := [(0, x1), (4, h 340 (h 367 x0.toNat 0).toNat 0), (4, h 340 (h 368 x0.toNat 0).toNat 0)]) (rest := [(0, x1), (4, 310)]) D rfl rfl rfl rfl rfl (by decide) (s0_303 H) (by decide +kernel) (fun v2 h1 e1 D =>
      have T := fj_run_ok _ _ _ _ _ _ H.1 e1
      have ht369 := fin_st H.1 T.2 hk (by decide) (by decide +kernel) ht369 (by decide)
      have hk := cls_st H.1 T.2 hk (by decide)
      have H := shp_st H T
      j_ifgt (pc := 390) D rfl (fun q =>
        have D : fk_D 338 [(397, none, .iconst 0, 1, 0, 0, 0)] := fq_of2 cd_338 ow_338 cl_338 rfl (pc := 397) (by decide +kernel)
        j_ic (pc := 397) D rfl fun D =>
        fk_jump cut_338_398 rfl rfl) (fun q D =>
        j_ic (pc := 393) D rfl fun D =>
        j_goto (pc := 394) D rfl <|
        fk_jump cut_338_398 rfl rfl)) (fun q3 h1 e1 =>
      j_tx (hx_338 _))
theorem e_338_398 (d : Nat) (s0 s1 s2 : Int) {h : fi_H} (H : Shp h) : c_338_398 d s0 s1 s2 h =
  if 302 < s0 ∧ fi_et 1 (h 0 s0.toNat 0) ≠ 0 then
  if 0 ≤ s1 ∧ s1 < h 1 s0.toNat 0 then
  if fi_rg (fi_et 1 (h 0 s0.toNat 0)) s2 = true then
  lt_ (fi_upd h (fi_et 1 (h 0 s0.toNat 0)) s0.toNat s1.toNat s2) fun h1 =>
  some (.inl none, h1)
  else none
  else none
  else none := by
  unfold c_338_398
  exact
    have D : fk_D 338 [(398, some [], .bastore, 1, 0, 0, 0), (399, none, .goto 207, 3, 606, 0, 0)] := fq_of2 cd_338 ow_338 cl_338 rfl (pc := 398) (by decide +kernel)
    j_asub (pc := 398) D rfl rfl gn gn gn fun h1 eh1 S q q2 D =>
    have T := fj_hs_ok H.1 S
    have H := shp_st H T
    j_goto (pc := 399) D rfl <|
    have D : fk_D 338 [(606, none, .return_, 1, 0, 0, 0)] := fq_of2 cd_338 ow_338 cl_338 rfl (pc := 606) (by decide +kernel)
    j_vret D rt_338
theorem e_338_402 (d : Nat) (x0 x1 : Int) {h : fi_H} (H : Shp h) (hk : h 0 x0.toNat 0 = 125) (ht369 : h 369 x0.toNat 0 = 303) : c_338_402 d x0 x1 h =
  if fi_in (h 0 (h 367 x0.toNat 0).toNat 0) 340 = true then
  if fi_in (h 0 (h 368 x0.toNat 0).toNat 0) 340 = true then
  ca_ (fj_run d 342 h [(4, 303), (0, x1), (4, h 340 (h 367 x0.toNat 0).toNat 0), (4, h 340 (h 368 x0.toNat 0).toNat 0)]) 0
    (fun v2 h1 =>
    if 0 < v2 then
      c_338_443 d 310 x1 1 h1
    else
      c_338_443 d 310 x1 0 h1)
    (fun q3 h1 => tx_ q3 h1)
  else none
  else none := by
  unfold c_338_402
  exact
    have D : fk_D 338 [(402, some [0, 1], .aload_n 0, 1, 0, 0, 0), (403, none, .getfield 1, 3, 369, 125, 12), (406, none, .getfield 58, 3, 213, 100, 12), (409, none, .getfield 62, 3, 114, 119, 12), (412, none, .iload_n 1, 1, 0, 0, 0), (413, none, .aload_n 0, 1, 0, 0, 0), (414, none, .getfield 1, 3, 369, 125, 12), (417, none, .iload_n 1, 1, 0, 0, 0), (418, none, .aload_n 0, 1, 0, 0, 0), (419, none, .getfield 37, 3, 367, 125, 12), (422, none, .getfield 7, 3, 340, 0, 12), (425, none, .aload_n 0, 1, 0, 0, 0), (426, none, .getfield 41, 3, 368, 125, 12), (429, none, .getfield 7, 3, 340, 0, 12), (432, none, .invokevirtual 81, 3, 3, 226, 1), (435, none, .ifCond .le 7, 3, 442, 0, 0), (438, none, .iconst 1, 1, 0, 1, 0), (439, none, .goto 4, 3, 443, 0, 0)] := fq_of2 cd_338 ow_338 cl_338 rfl (pc := 402) (by decide +kernel)
    j_aldn (pc := 402) D rfl rfl rfl fun D =>
    j_gfc (pc := 403) (a := x0.toNat) D rfl rfl (nz_cls H.2.1 hk (by decide)) rfl hk rfl ht369 fun D =>
    j_gfc (pc := 406) (a := 303) D rfl rfl (by decide) rfl (s0_303 H) rfl (sf_213_303 H) fun D =>
    j_gfc (pc := 409) (a := 309) D rfl rfl (by decide) rfl (s0_309 H) rfl (sf_114_309 H) fun D =>
    j_ildn (pc := 412) D rfl rfl rfl fun D =>
    j_aldn (pc := 413) D rfl rfl rfl fun D =>
    j_gfc (pc := 414) (a := x0.toNat) D rfl rfl (nz_cls H.2.1 hk (by decide)) rfl hk rfl ht369 fun D =>
    j_ildn (pc := 417) D rfl rfl rfl fun D =>
    j_aldn (pc := 418) D rfl rfl rfl fun D =>
    j_gf (pc := 419) (a := x0.toNat) D rfl rfl (nz_cls H.2.1 hk (by decide)) rfl hk rfl fun D =>
    j_gfu (pc := 422) H.2.1 D rfl rfl fun q D =>
    j_aldn (pc := 425) D rfl rfl rfl fun D =>
    j_gf (pc := 426) (a := x0.toNat) D rfl rfl (nz_cls H.2.1 hk (by decide)) rfl hk rfl fun D =>
    j_gfu (pc := 429) H.2.1 D rfl rfl fun q D =>
    j_iv (pc := 432) (m := 342) (dd := 226) (a := [(0, x1), (4, h 340 (h 367 x0.toNat 0).toNat 0), (4, h 340 (h 368 x0.toNat 0).toNat 0)]) (rest := [(0, x1), (4, 310)]) D rfl rfl rfl rfl rfl (by decide) (s0_303 H) (by decide +kernel) (fun v2 h1 e1 D =>
      have T := fj_run_ok _ _ _ _ _ _ H.1 e1
      have ht369 := fin_st H.1 T.2 hk (by decide) (by decide +kernel) ht369 (by decide)
      have hk := cls_st H.1 T.2 hk (by decide)
      have H := shp_st H T
      j_ifle (pc := 435) D rfl (fun q D =>
        j_ic (pc := 438) D rfl fun D =>
        j_goto (pc := 439) D rfl <|
        fk_jump cut_338_443 rfl rfl) (fun q =>
        have D : fk_D 338 [(442, none, .iconst 0, 1, 0, 0, 0)] := fq_of2 cd_338 ow_338 cl_338 rfl (pc := 442) (by decide +kernel)
        j_ic (pc := 442) D rfl fun D =>
        fk_jump cut_338_443 rfl rfl)) (fun q3 h1 e1 =>
      j_tx (hx_338 _))
theorem e_338_443 (d : Nat) (s0 s1 s2 : Int) {h : fi_H} (H : Shp h) : c_338_443 d s0 s1 s2 h =
  if 302 < s0 ∧ fi_et 1 (h 0 s0.toNat 0) ≠ 0 then
  if 0 ≤ s1 ∧ s1 < h 1 s0.toNat 0 then
  if fi_rg (fi_et 1 (h 0 s0.toNat 0)) s2 = true then
  lt_ (fi_upd h (fi_et 1 (h 0 s0.toNat 0)) s0.toNat s1.toNat s2) fun h1 =>
  some (.inl none, h1)
  else none
  else none
  else none := by
  unfold c_338_443
  exact
    have D : fk_D 338 [(443, some [], .bastore, 1, 0, 0, 0), (444, none, .goto 162, 3, 606, 0, 0)] := fq_of2 cd_338 ow_338 cl_338 rfl (pc := 443) (by decide +kernel)
    j_asub (pc := 443) D rfl rfl gn gn gn fun h1 eh1 S q q2 D =>
    have T := fj_hs_ok H.1 S
    have H := shp_st H T
    j_goto (pc := 444) D rfl <|
    have D : fk_D 338 [(606, none, .return_, 1, 0, 0, 0)] := fq_of2 cd_338 ow_338 cl_338 rfl (pc := 606) (by decide +kernel)
    j_vret D rt_338
theorem e_338_447 (d : Nat) (x0 x1 : Int) {h : fi_H} (H : Shp h) (hk : h 0 x0.toNat 0 = 125) (ht369 : h 369 x0.toNat 0 = 303) : c_338_447 d x0 x1 h =
  if fi_in (h 0 (h 367 x0.toNat 0).toNat 0) 340 = true then
  if fi_in (h 0 (h 368 x0.toNat 0).toNat 0) 340 = true then
  ca_ (fj_run d 342 h [(4, 303), (0, x1), (4, h 340 (h 367 x0.toNat 0).toNat 0), (4, h 340 (h 368 x0.toNat 0).toNat 0)]) 0
    (fun v2 h1 =>
    if v2 < 0 then
      c_338_488 d 310 x1 0 h1
    else
      c_338_488 d 310 x1 1 h1)
    (fun q3 h1 => tx_ q3 h1)
  else none
  else none := by
  unfold c_338_447
  exact
    have D : fk_D 338 [(447, some [0, 1], .aload_n 0, 1, 0, 0, 0), (448, none, .getfield 1, 3, 369, 125, 12), (451, none, .getfield 58, 3, 213, 100, 12), (454, none, .getfield 62, 3, 114, 119, 12), (457, none, .iload_n 1, 1, 0, 0, 0), (458, none, .aload_n 0, 1, 0, 0, 0), (459, none, .getfield 1, 3, 369, 125, 12), (462, none, .iload_n 1, 1, 0, 0, 0), (463, none, .aload_n 0, 1, 0, 0, 0), (464, none, .getfield 37, 3, 367, 125, 12), (467, none, .getfield 7, 3, 340, 0, 12), (470, none, .aload_n 0, 1, 0, 0, 0), (471, none, .getfield 41, 3, 368, 125, 12), (474, none, .getfield 7, 3, 340, 0, 12), (477, none, .invokevirtual 81, 3, 3, 226, 1), (480, none, .ifCond .lt 7, 3, 487, 0, 0), (483, none, .iconst 1, 1, 0, 1, 0), (484, none, .goto 4, 3, 488, 0, 0)] := fq_of2 cd_338 ow_338 cl_338 rfl (pc := 447) (by decide +kernel)
    j_aldn (pc := 447) D rfl rfl rfl fun D =>
    j_gfc (pc := 448) (a := x0.toNat) D rfl rfl (nz_cls H.2.1 hk (by decide)) rfl hk rfl ht369 fun D =>
    j_gfc (pc := 451) (a := 303) D rfl rfl (by decide) rfl (s0_303 H) rfl (sf_213_303 H) fun D =>
    j_gfc (pc := 454) (a := 309) D rfl rfl (by decide) rfl (s0_309 H) rfl (sf_114_309 H) fun D =>
    j_ildn (pc := 457) D rfl rfl rfl fun D =>
    j_aldn (pc := 458) D rfl rfl rfl fun D =>
    j_gfc (pc := 459) (a := x0.toNat) D rfl rfl (nz_cls H.2.1 hk (by decide)) rfl hk rfl ht369 fun D =>
    j_ildn (pc := 462) D rfl rfl rfl fun D =>
    j_aldn (pc := 463) D rfl rfl rfl fun D =>
    j_gf (pc := 464) (a := x0.toNat) D rfl rfl (nz_cls H.2.1 hk (by decide)) rfl hk rfl fun D =>
    j_gfu (pc := 467) H.2.1 D rfl rfl fun q D =>
    j_aldn (pc := 470) D rfl rfl rfl fun D =>
    j_gf (pc := 471) (a := x0.toNat) D rfl rfl (nz_cls H.2.1 hk (by decide)) rfl hk rfl fun D =>
    j_gfu (pc := 474) H.2.1 D rfl rfl fun q D =>
    j_iv (pc := 477) (m := 342) (dd := 226) (a := [(0, x1), (4, h 340 (h 367 x0.toNat 0).toNat 0), (4, h 340 (h 368 x0.toNat 0).toNat 0)]) (rest := [(0, x1), (4, 310)]) D rfl rfl rfl rfl rfl (by decide) (s0_303 H) (by decide +kernel) (fun v2 h1 e1 D =>
      have T := fj_run_ok _ _ _ _ _ _ H.1 e1
      have ht369 := fin_st H.1 T.2 hk (by decide) (by decide +kernel) ht369 (by decide)
      have hk := cls_st H.1 T.2 hk (by decide)
      have H := shp_st H T
      j_iflt (pc := 480) D rfl (fun q =>
        have D : fk_D 338 [(487, none, .iconst 0, 1, 0, 0, 0)] := fq_of2 cd_338 ow_338 cl_338 rfl (pc := 487) (by decide +kernel)
        j_ic (pc := 487) D rfl fun D =>
        fk_jump cut_338_488 rfl rfl) (fun q D =>
        j_ic (pc := 483) D rfl fun D =>
        j_goto (pc := 484) D rfl <|
        fk_jump cut_338_488 rfl rfl)) (fun q3 h1 e1 =>
      j_tx (hx_338 _))
theorem e_338_488 (d : Nat) (s0 s1 s2 : Int) {h : fi_H} (H : Shp h) : c_338_488 d s0 s1 s2 h =
  if 302 < s0 ∧ fi_et 1 (h 0 s0.toNat 0) ≠ 0 then
  if 0 ≤ s1 ∧ s1 < h 1 s0.toNat 0 then
  if fi_rg (fi_et 1 (h 0 s0.toNat 0)) s2 = true then
  lt_ (fi_upd h (fi_et 1 (h 0 s0.toNat 0)) s0.toNat s1.toNat s2) fun h1 =>
  some (.inl none, h1)
  else none
  else none
  else none := by
  unfold c_338_488
  exact
    have D : fk_D 338 [(488, some [], .bastore, 1, 0, 0, 0), (489, none, .goto 117, 3, 606, 0, 0)] := fq_of2 cd_338 ow_338 cl_338 rfl (pc := 488) (by decide +kernel)
    j_asub (pc := 488) D rfl rfl gn gn gn fun h1 eh1 S q q2 D =>
    have T := fj_hs_ok H.1 S
    have H := shp_st H T
    j_goto (pc := 489) D rfl <|
    have D : fk_D 338 [(606, none, .return_, 1, 0, 0, 0)] := fq_of2 cd_338 ow_338 cl_338 rfl (pc := 606) (by decide +kernel)
    j_vret D rt_338
theorem e_338_492 (d : Nat) (x0 x1 : Int) {h : fi_H} (H : Shp h) (hk : h 0 x0.toNat 0 = 125) (ht369 : h 369 x0.toNat 0 = 303) : c_338_492 d x0 x1 h =
  if fi_in (h 0 (h 367 x0.toNat 0).toNat 0) 340 = true then
  if fi_in (h 0 (h 368 x0.toNat 0).toNat 0) 340 = true then
  cv_ (fj_run d 346 h [(4, 303), (0, x1), (4, h 340 (h 367 x0.toNat 0).toNat 0), (4, h 340 (h 368 x0.toNat 0).toNat 0), (0, 1)])
    (fun h1 =>
    some (.inl none, h1))
    (fun q3 h1 => tx_ q3 h1)
  else none
  else none := by
  unfold c_338_492
  exact
    have D : fk_D 338 [(492, some [0, 1], .aload_n 0, 1, 0, 0, 0), (493, none, .getfield 1, 3, 369, 125, 12), (496, none, .iload_n 1, 1, 0, 0, 0), (497, none, .aload_n 0, 1, 0, 0, 0), (498, none, .getfield 37, 3, 367, 125, 12), (501, none, .getfield 7, 3, 340, 0, 12), (504, none, .aload_n 0, 1, 0, 0, 0), (505, none, .getfield 41, 3, 368, 125, 12), (508, none, .getfield 7, 3, 340, 0, 12), (511, none, .iconst 1, 1, 0, 1, 0), (512, none, .invokevirtual 88, 3, 4, 221, 0), (515, none, .goto 91, 3, 606, 0, 0)] := fq_of2 cd_338 ow_338 cl_338 rfl (pc := 492) (by decide +kernel)
    j_aldn (pc := 492) D rfl rfl rfl fun D =>
    j_gfc (pc := 493) (a := x0.toNat) D rfl rfl (nz_cls H.2.1 hk (by decide)) rfl hk rfl ht369 fun D =>
    j_ildn (pc := 496) D rfl rfl rfl fun D =>
    j_aldn (pc := 497) D rfl rfl rfl fun D =>
    j_gf (pc := 498) (a := x0.toNat) D rfl rfl (nz_cls H.2.1 hk (by decide)) rfl hk rfl fun D =>
    j_gfu (pc := 501) H.2.1 D rfl rfl fun q D =>
    j_aldn (pc := 504) D rfl rfl rfl fun D =>
    j_gf (pc := 505) (a := x0.toNat) D rfl rfl (nz_cls H.2.1 hk (by decide)) rfl hk rfl fun D =>
    j_gfu (pc := 508) H.2.1 D rfl rfl fun q D =>
    j_ic (pc := 511) D rfl fun D =>
    j_ivv (pc := 512) (m := 346) (dd := 221) (a := [(0, x1), (4, h 340 (h 367 x0.toNat 0).toNat 0), (4, h 340 (h 368 x0.toNat 0).toNat 0), (0, 1)]) (rest := []) D rfl rfl rfl rfl rfl (by decide) (s0_303 H) (by decide +kernel) (fun h1 e1 D =>
      have T := fj_run_ok _ _ _ _ _ _ H.1 e1
      have ht369 := fin_st H.1 T.2 hk (by decide) (by decide +kernel) ht369 (by decide)
      have hk := cls_st H.1 T.2 hk (by decide)
      have H := shp_st H T
      j_goto (pc := 515) D rfl <|
      have D : fk_D 338 [(606, none, .return_, 1, 0, 0, 0)] := fq_of2 cd_338 ow_338 cl_338 rfl (pc := 606) (by decide +kernel)
      j_vret D rt_338) (fun q3 h1 e1 =>
      j_tx (hx_338 _))
theorem e_338_518 (d : Nat) (x0 x1 : Int) {h : fi_H} (H : Shp h) (hk : h 0 x0.toNat 0 = 125) (ht369 : h 369 x0.toNat 0 = 303) : c_338_518 d x0 x1 h =
  if fi_in (h 0 (h 367 x0.toNat 0).toNat 0) 340 = true then
  if fi_in (h 0 (h 368 x0.toNat 0).toNat 0) 340 = true then
  cv_ (fj_run d 346 h [(4, 303), (0, x1), (4, h 340 (h 367 x0.toNat 0).toNat 0), (4, h 340 (h 368 x0.toNat 0).toNat 0), (0, (-1))])
    (fun h1 =>
    some (.inl none, h1))
    (fun q3 h1 => tx_ q3 h1)
  else none
  else none := by
  unfold c_338_518
  exact
    have D : fk_D 338 [(518, some [0, 1], .aload_n 0, 1, 0, 0, 0), (519, none, .getfield 1, 3, 369, 125, 12), (522, none, .iload_n 1, 1, 0, 0, 0), (523, none, .aload_n 0, 1, 0, 0, 0), (524, none, .getfield 37, 3, 367, 125, 12), (527, none, .getfield 7, 3, 340, 0, 12), (530, none, .aload_n 0, 1, 0, 0, 0), (531, none, .getfield 41, 3, 368, 125, 12), (534, none, .getfield 7, 3, 340, 0, 12), (537, none, .iconst (-1), 1, 0, (-1), 0), (538, none, .invokevirtual 88, 3, 4, 221, 0), (541, none, .goto 65, 3, 606, 0, 0)] := fq_of2 cd_338 ow_338 cl_338 rfl (pc := 518) (by decide +kernel)
    j_aldn (pc := 518) D rfl rfl rfl fun D =>
    j_gfc (pc := 519) (a := x0.toNat) D rfl rfl (nz_cls H.2.1 hk (by decide)) rfl hk rfl ht369 fun D =>
    j_ildn (pc := 522) D rfl rfl rfl fun D =>
    j_aldn (pc := 523) D rfl rfl rfl fun D =>
    j_gf (pc := 524) (a := x0.toNat) D rfl rfl (nz_cls H.2.1 hk (by decide)) rfl hk rfl fun D =>
    j_gfu (pc := 527) H.2.1 D rfl rfl fun q D =>
    j_aldn (pc := 530) D rfl rfl rfl fun D =>
    j_gf (pc := 531) (a := x0.toNat) D rfl rfl (nz_cls H.2.1 hk (by decide)) rfl hk rfl fun D =>
    j_gfu (pc := 534) H.2.1 D rfl rfl fun q D =>
    j_ic (pc := 537) D rfl fun D =>
    j_ivv (pc := 538) (m := 346) (dd := 221) (a := [(0, x1), (4, h 340 (h 367 x0.toNat 0).toNat 0), (4, h 340 (h 368 x0.toNat 0).toNat 0), (0, (-1))]) (rest := []) D rfl rfl rfl rfl rfl (by decide) (s0_303 H) (by decide +kernel) (fun h1 e1 D =>
      have T := fj_run_ok _ _ _ _ _ _ H.1 e1
      have ht369 := fin_st H.1 T.2 hk (by decide) (by decide +kernel) ht369 (by decide)
      have hk := cls_st H.1 T.2 hk (by decide)
      have H := shp_st H T
      j_goto (pc := 541) D rfl <|
      have D : fk_D 338 [(606, none, .return_, 1, 0, 0, 0)] := fq_of2 cd_338 ow_338 cl_338 rfl (pc := 606) (by decide +kernel)
      j_vret D rt_338) (fun q3 h1 e1 =>
      j_tx (hx_338 _))
theorem e_338_544 (d : Nat) (x0 x1 : Int) {h : fi_H} (H : Shp h) (hk : h 0 x0.toNat 0 = 125) (ht369 : h 369 x0.toNat 0 = 303) : c_338_544 d x0 x1 h =
  if fi_in (h 0 (h 367 x0.toNat 0).toNat 0) 340 = true then
  if fi_in (h 0 (h 368 x0.toNat 0).toNat 0) 340 = true then
  cv_ (fj_run d 355 h [(4, 303), (0, x1), (4, h 340 (h 367 x0.toNat 0).toNat 0), (4, h 340 (h 368 x0.toNat 0).toNat 0)])
    (fun h1 =>
    some (.inl none, h1))
    (fun q3 h1 => tx_ q3 h1)
  else none
  else none := by
  unfold c_338_544
  exact
    have D : fk_D 338 [(544, some [0, 1], .aload_n 0, 1, 0, 0, 0), (545, none, .getfield 1, 3, 369, 125, 12), (548, none, .iload_n 1, 1, 0, 0, 0), (549, none, .aload_n 0, 1, 0, 0, 0), (550, none, .getfield 37, 3, 367, 125, 12), (553, none, .getfield 7, 3, 340, 0, 12), (556, none, .aload_n 0, 1, 0, 0, 0), (557, none, .getfield 41, 3, 368, 125, 12), (560, none, .getfield 7, 3, 340, 0, 12), (563, none, .invokevirtual 92, 3, 3, 238, 0), (566, none, .goto 40, 3, 606, 0, 0)] := fq_of2 cd_338 ow_338 cl_338 rfl (pc := 544) (by decide +kernel)
    j_aldn (pc := 544) D rfl rfl rfl fun D =>
    j_gfc (pc := 545) (a := x0.toNat) D rfl rfl (nz_cls H.2.1 hk (by decide)) rfl hk rfl ht369 fun D =>
    j_ildn (pc := 548) D rfl rfl rfl fun D =>
    j_aldn (pc := 549) D rfl rfl rfl fun D =>
    j_gf (pc := 550) (a := x0.toNat) D rfl rfl (nz_cls H.2.1 hk (by decide)) rfl hk rfl fun D =>
    j_gfu (pc := 553) H.2.1 D rfl rfl fun q D =>
    j_aldn (pc := 556) D rfl rfl rfl fun D =>
    j_gf (pc := 557) (a := x0.toNat) D rfl rfl (nz_cls H.2.1 hk (by decide)) rfl hk rfl fun D =>
    j_gfu (pc := 560) H.2.1 D rfl rfl fun q D =>
    j_ivv (pc := 563) (m := 355) (dd := 238) (a := [(0, x1), (4, h 340 (h 367 x0.toNat 0).toNat 0), (4, h 340 (h 368 x0.toNat 0).toNat 0)]) (rest := []) D rfl rfl rfl rfl rfl (by decide) (s0_303 H) (by decide +kernel) (fun h1 e1 D =>
      have T := fj_run_ok _ _ _ _ _ _ H.1 e1
      have ht369 := fin_st H.1 T.2 hk (by decide) (by decide +kernel) ht369 (by decide)
      have hk := cls_st H.1 T.2 hk (by decide)
      have H := shp_st H T
      j_goto (pc := 566) D rfl <|
      have D : fk_D 338 [(606, none, .return_, 1, 0, 0, 0)] := fq_of2 cd_338 ow_338 cl_338 rfl (pc := 606) (by decide +kernel)
      j_vret D rt_338) (fun q3 h1 e1 =>
      j_tx (hx_338 _))
theorem e_338_569 (d : Nat) (x0 x1 : Int) {h : fi_H} (H : Shp h) (hk : h 0 x0.toNat 0 = 125) (ht369 : h 369 x0.toNat 0 = 303) : c_338_569 d x0 x1 h =
  if fi_in (h 0 (h 367 x0.toNat 0).toNat 0) 340 = true then
  if fi_in (h 0 (h 368 x0.toNat 0).toNat 0) 340 = true then
  cv_ (fj_run d 359 h [(4, 303), (0, x1), (4, h 340 (h 367 x0.toNat 0).toNat 0), (4, h 340 (h 368 x0.toNat 0).toNat 0)])
    (fun h1 =>
    some (.inl none, h1))
    (fun q3 h1 => tx_ q3 h1)
  else none
  else none := by
  unfold c_338_569
  exact
    have D : fk_D 338 [(569, some [0, 1], .aload_n 0, 1, 0, 0, 0), (570, none, .getfield 1, 3, 369, 125, 12), (573, none, .iload_n 1, 1, 0, 0, 0), (574, none, .aload_n 0, 1, 0, 0, 0), (575, none, .getfield 37, 3, 367, 125, 12), (578, none, .getfield 7, 3, 340, 0, 12), (581, none, .aload_n 0, 1, 0, 0, 0), (582, none, .getfield 41, 3, 368, 125, 12), (585, none, .getfield 7, 3, 340, 0, 12), (588, none, .invokevirtual 96, 3, 3, 239, 0), (591, none, .goto 15, 3, 606, 0, 0)] := fq_of2 cd_338 ow_338 cl_338 rfl (pc := 569) (by decide +kernel)
    j_aldn (pc := 569) D rfl rfl rfl fun D =>
    j_gfc (pc := 570) (a := x0.toNat) D rfl rfl (nz_cls H.2.1 hk (by decide)) rfl hk rfl ht369 fun D =>
    j_ildn (pc := 573) D rfl rfl rfl fun D =>
    j_aldn (pc := 574) D rfl rfl rfl fun D =>
    j_gf (pc := 575) (a := x0.toNat) D rfl rfl (nz_cls H.2.1 hk (by decide)) rfl hk rfl fun D =>
    j_gfu (pc := 578) H.2.1 D rfl rfl fun q D =>
    j_aldn (pc := 581) D rfl rfl rfl fun D =>
    j_gf (pc := 582) (a := x0.toNat) D rfl rfl (nz_cls H.2.1 hk (by decide)) rfl hk rfl fun D =>
    j_gfu (pc := 585) H.2.1 D rfl rfl fun q D =>
    j_ivv (pc := 588) (m := 359) (dd := 239) (a := [(0, x1), (4, h 340 (h 367 x0.toNat 0).toNat 0), (4, h 340 (h 368 x0.toNat 0).toNat 0)]) (rest := []) D rfl rfl rfl rfl rfl (by decide) (s0_303 H) (by decide +kernel) (fun h1 e1 D =>
      have T := fj_run_ok _ _ _ _ _ _ H.1 e1
      have ht369 := fin_st H.1 T.2 hk (by decide) (by decide +kernel) ht369 (by decide)
      have hk := cls_st H.1 T.2 hk (by decide)
      have H := shp_st H T
      j_goto (pc := 591) D rfl <|
      have D : fk_D 338 [(606, none, .return_, 1, 0, 0, 0)] := fq_of2 cd_338 ow_338 cl_338 rfl (pc := 606) (by decide +kernel)
      j_vret D rt_338) (fun q3 h1 e1 =>
      j_tx (hx_338 _))
theorem e_338_594 (d : Nat) (x0 x1 : Int) {h : fi_H} (H : Shp h) (hk : h 0 x0.toNat 0 = 125) (ht369 : h 369 x0.toNat 0 = 303) : c_338_594 d x0 x1 h =
  cv_ (fj_run d 360 h [(4, 303), (0, x1), (4, h 340 x0.toNat 0)])
    (fun h1 =>
    some (.inl none, h1))
    (fun q3 h1 => tx_ q3 h1) := by
  unfold c_338_594
  exact
    have D : fk_D 338 [(594, some [0, 1], .aload_n 0, 1, 0, 0, 0), (595, none, .getfield 1, 3, 369, 125, 12), (598, none, .iload_n 1, 1, 0, 0, 0), (599, none, .aload_n 0, 1, 0, 0, 0), (600, none, .getfield 99, 3, 340, 125, 12), (603, none, .invokevirtual 100, 3, 2, 240, 0), (606, none, .return_, 1, 0, 0, 0)] := fq_of2 cd_338 ow_338 cl_338 rfl (pc := 594) (by decide +kernel)
    j_aldn (pc := 594) D rfl rfl rfl fun D =>
    j_gfc (pc := 595) (a := x0.toNat) D rfl rfl (nz_cls H.2.1 hk (by decide)) rfl hk rfl ht369 fun D =>
    j_ildn (pc := 598) D rfl rfl rfl fun D =>
    j_aldn (pc := 599) D rfl rfl rfl fun D =>
    j_gf (pc := 600) (a := x0.toNat) D rfl rfl (nz_cls H.2.1 hk (by decide)) rfl hk rfl fun D =>
    j_ivv (pc := 603) (m := 360) (dd := 240) (a := [(0, x1), (4, h 340 x0.toNat 0)]) (rest := []) D rfl rfl rfl rfl rfl (by decide) (s0_303 H) (by decide +kernel) (fun h1 e1 D =>
      have T := fj_run_ok _ _ _ _ _ _ H.1 e1
      have ht369 := fin_st H.1 T.2 hk (by decide) (by decide +kernel) ht369 (by decide)
      have hk := cls_st H.1 T.2 hk (by decide)
      have H := shp_st H T
      j_vret D rt_338) (fun q3 h1 e1 =>
      j_tx (hx_338 _))
theorem m_338 (d : Nat) (x0 x1 : Int) {h : fi_H} (H : Shp h) (hk : h 0 x0.toNat 0 = 125) (ht369 : h 369 x0.toNat 0 = 303) : fj_run (d + 1) 338 h [(4, x0), (0, x1)] =
  cv_ (fj_run d 313 h [(4, 303)])
    (fun h1 =>
    dv_ (fi_vt 234 (h1 0 (h1 366 x0.toNat 0).toNat 0)) fun m7 => ca_ (fj_run d m7 h1 [(4, h1 366 x0.toNat 0)]) 0
      (fun v5 h4 =>
      if v5 = 0 then
        dv_ (fi_vt 136 (h4 0 (h4 367 x0.toNat 0).toNat 0)) fun m11 => cv_ (fj_run d m11 h4 [(4, h4 367 x0.toNat 0), (0, x1)])
          (fun h8 =>
          if 0 ≤ x1 ∧ x1 < 700 then
          if h8 366 x0.toNat 0 = 15 then
            c_338_91 d x0 x1 (h8 4 310 x1.toNat) 1 h8
          else
            c_338_91 d x0 x1 (h8 4 310 x1.toNat) 0 h8
          else none)
          (fun q10 h8 => tx_ q10 h8)
      else if v5 = 1 then
        dv_ (fi_vt 136 (h4 0 (h4 367 x0.toNat 0).toNat 0)) fun m16 => cv_ (fj_run d m16 h4 [(4, h4 367 x0.toNat 0), (0, x1)])
          (fun h13 =>
          if 0 ≤ x1 ∧ x1 < 700 then
          if h13 366 x0.toNat 0 = 15 then
            c_338_91 d x0 x1 (h13 4 310 x1.toNat) 1 h13
          else
            c_338_91 d x0 x1 (h13 4 310 x1.toNat) 0 h13
          else none)
          (fun q15 h13 => tx_ q15 h13)
      else if v5 = 13 then
        cv_ (fj_run d 339 h4 [(4, x0), (0, x1)])
          (fun h18 =>
          some (.inl none, h18))
          (fun q20 h18 => tx_ q20 h18)
      else if v5 = 14 then
        cv_ (fj_run d 340 h4 [(4, x0), (0, x1)])
          (fun h21 =>
          some (.inl none, h21))
          (fun q23 h21 => tx_ q23 h21)
      else 
        dv_ (fi_vt 136 (h4 0 (h4 367 x0.toNat 0).toNat 0)) fun m27 => cv_ (fj_run d m27 h4 [(4, h4 367 x0.toNat 0), (0, x1)])
          (fun h24 =>
          dv_ (fi_vt 136 (h24 0 (h24 368 x0.toNat 0).toNat 0)) fun m31 => cv_ (fj_run d m31 h24 [(4, h24 368 x0.toNat 0), (0, wI (x1 + 1))])
            (fun h28 =>
            dv_ (fi_vt 234 (h28 0 (h28 366 x0.toNat 0).toNat 0)) fun m35 => ca_ (fj_run d m35 h28 [(4, h28 366 x0.toNat 0)]) 0
              (fun v33 h32 =>
              if v33 = 2 then
                c_338_196 d x0 x1 h32
              else if v33 = 3 then
                c_338_196 d x0 x1 h32
              else if v33 = 4 then
                c_338_312 d x0 x1 h32
              else if v33 = 5 then
                c_338_357 d x0 x1 h32
              else if v33 = 6 then
                c_338_402 d x0 x1 h32
              else if v33 = 7 then
                c_338_447 d x0 x1 h32
              else if v33 = 8 then
                c_338_492 d x0 x1 h32
              else if v33 = 9 then
                c_338_518 d x0 x1 h32
              else if v33 = 10 then
                c_338_544 d x0 x1 h32
              else if v33 = 11 then
                c_338_569 d x0 x1 h32
              else 
                c_338_594 d x0 x1 h32)
              (fun q34 h32 => tx_ q34 h32))
            (fun q30 h28 => tx_ q30 h28))
          (fun q26 h24 => tx_ q26 h24))
      (fun q6 h4 => tx_ q6 h4))
    (fun q3 h1 => tx_ q3 h1) := by
  rw [fj_run_eq d (by decide) h [(4, x0), (0, x1)] (Nat.le_of_ble_eq_true (by rw [nl_338]; rfl))]
  show gG (fj_run d) 338 0 [(0, (4, x0)), (1, (0, x1))] [] h = _
  exact
    have D : fk_D 338 [(0, none, .aload_n 0, 1, 0, 0, 0), (1, none, .getfield 1, 3, 369, 125, 12), (4, none, .invokevirtual 44, 3, 0, 135, 0), (7, none, .aload_n 0, 1, 0, 0, 0), (8, none, .getfield 33, 3, 366, 125, 12), (11, none, .invokevirtual 50, 3, 0, 234, 1), (14, none, .lookupswitch 101 #[(0, 42), (1, 42), (13, 89), (14, 95)], 42, 0, 0, 0)] := fq_of3 cd_338 ow_338 cl_338 rfl (pc := 0) (by decide +kernel)
    j_aldn (pc := 0) D rfl rfl rfl fun D =>
    j_gfc (pc := 1) (a := x0.toNat) D rfl rfl (nz_cls H.2.1 hk (by decide)) rfl hk rfl ht369 fun D =>
    j_ivv (pc := 4) (m := 313) (dd := 135) (a := []) (rest := []) D rfl rfl rfl rfl rfl (by decide) (s0_303 H) (by decide +kernel) (fun h1 e1 D =>
      have T := fj_run_ok _ _ _ _ _ _ H.1 e1
      have ht369 := fin_st H.1 T.2 hk (by decide) (by decide +kernel) ht369 (by decide)
      have hk := cls_st H.1 T.2 hk (by decide)
      have H := shp_st H T
      j_aldn (pc := 7) D rfl rfl rfl fun D =>
      j_gf (pc := 8) (a := x0.toNat) D rfl rfl (nz_cls H.2.1 hk (by decide)) rfl hk rfl fun D =>
      j_ivu (pc := 11) (dd := 234) (a := []) (rest := []) H.2.1 D rfl rfl rfl rfl rfl (fun m7 v5 h4 e1 D =>
        have T := fj_run_ok _ _ _ _ _ _ H.1 e1
        have ht369 := fin_st H.1 T.2 hk (by decide) (by decide +kernel) ht369 (by decide)
        have hk := cls_st H.1 T.2 hk (by decide)
        have H := shp_st H T
        have N : fk_ni (v5) [] := trivial
        j_lc (pc := 14) 0 (t := 56) D N rfl (by decide +kernel) (by decide +kernel) (fun q =>
          have D : fk_D 338 [(56, none, .aload_n 0, 1, 0, 0, 0), (57, none, .getfield 37, 3, 367, 125, 12), (60, none, .iload_n 1, 1, 0, 0, 0), (61, none, .invokevirtual 54, 3, 1, 136, 0), (64, none, .aload_n 0, 1, 0, 0, 0), (65, none, .getfield 1, 3, 369, 125, 12), (68, none, .getfield 58, 3, 213, 100, 12), (71, none, .getfield 62, 3, 114, 119, 12), (74, none, .iload_n 1, 1, 0, 0, 0), (75, none, .baload, 1, 0, 0, 0), (76, none, .aload_n 0, 1, 0, 0, 0), (77, none, .getfield 33, 3, 366, 125, 12), (80, none, .getstatic 68, 3, 4, 15, 0), (83, none, .if_acmp .ne 7, 3, 90, 0, 0), (86, none, .iconst 1, 1, 0, 1, 0), (87, none, .goto 4, 3, 91, 0, 0)] := fq_of2 cd_338 ow_338 cl_338 rfl (pc := 56) (by decide +kernel)
          j_aldn (pc := 56) D rfl rfl rfl fun D =>
          j_gf (pc := 57) (a := x0.toNat) D rfl rfl (nz_cls H.2.1 hk (by decide)) rfl hk rfl fun D =>
          j_ildn (pc := 60) D rfl rfl rfl fun D =>
          j_ivuv (pc := 61) (dd := 136) (a := [(0, x1)]) (rest := []) H.2.1 D rfl rfl rfl rfl rfl (fun m11 h8 e1 D =>
            have T := fj_run_ok _ _ _ _ _ _ H.1 e1
            have ht369 := fin_st H.1 T.2 hk (by decide) (by decide +kernel) ht369 (by decide)
            have hk := cls_st H.1 T.2 hk (by decide)
            have H := shp_st H T
            j_aldn (pc := 64) D rfl rfl rfl fun D =>
            j_gfc (pc := 65) (a := x0.toNat) D rfl rfl (nz_cls H.2.1 hk (by decide)) rfl hk rfl ht369 fun D =>
            j_gfc (pc := 68) (a := 303) D rfl rfl (by decide) rfl (s0_303 H) rfl (sf_213_303 H) fun D =>
            j_gfc (pc := 71) (a := 309) D rfl rfl (by decide) rfl (s0_309 H) rfl (sf_114_309 H) fun D =>
            j_ildn (pc := 74) D rfl rfl rfl fun D =>
            j_al (pc := 75) (a := 310) (e := 4) D rfl rfl rfl (by decide) (s0_310 H) (s1_310 H) ⟨rfl, rfl, rfl⟩ rfl gn fun qb12 D =>
            j_aldn (pc := 76) D rfl rfl rfl fun D =>
            j_gf (pc := 77) (a := x0.toNat) D rfl rfl (nz_cls H.2.1 hk (by decide)) rfl hk rfl fun D =>
            j_gs (pc := 80) D rfl fun D =>
            j_ane (pc := 83) D rfl (fun q D =>
              j_ic (pc := 86) D rfl fun D =>
              j_goto (pc := 87) D rfl <|
              fk_jump cut_338_91 rfl rfl) (fun q =>
              have D : fk_D 338 [(90, none, .iconst 0, 1, 0, 0, 0)] := fq_of2 cd_338 ow_338 cl_338 rfl (pc := 90) (by decide +kernel)
              j_ic (pc := 90) D rfl fun D =>
              fk_jump cut_338_91 rfl rfl)) (fun m11 q10 h8 e1 =>
            j_tx (hx_338 _))) (fun N =>
          j_lc 1 (t := 56) D N rfl (by decide +kernel) (by decide +kernel) (fun q =>
            have D : fk_D 338 [(56, none, .aload_n 0, 1, 0, 0, 0), (57, none, .getfield 37, 3, 367, 125, 12), (60, none, .iload_n 1, 1, 0, 0, 0), (61, none, .invokevirtual 54, 3, 1, 136, 0), (64, none, .aload_n 0, 1, 0, 0, 0), (65, none, .getfield 1, 3, 369, 125, 12), (68, none, .getfield 58, 3, 213, 100, 12), (71, none, .getfield 62, 3, 114, 119, 12), (74, none, .iload_n 1, 1, 0, 0, 0), (75, none, .baload, 1, 0, 0, 0), (76, none, .aload_n 0, 1, 0, 0, 0), (77, none, .getfield 33, 3, 366, 125, 12), (80, none, .getstatic 68, 3, 4, 15, 0), (83, none, .if_acmp .ne 7, 3, 90, 0, 0), (86, none, .iconst 1, 1, 0, 1, 0), (87, none, .goto 4, 3, 91, 0, 0)] := fq_of2 cd_338 ow_338 cl_338 rfl (pc := 56) (by decide +kernel)
            j_aldn (pc := 56) D rfl rfl rfl fun D =>
            j_gf (pc := 57) (a := x0.toNat) D rfl rfl (nz_cls H.2.1 hk (by decide)) rfl hk rfl fun D =>
            j_ildn (pc := 60) D rfl rfl rfl fun D =>
            j_ivuv (pc := 61) (dd := 136) (a := [(0, x1)]) (rest := []) H.2.1 D rfl rfl rfl rfl rfl (fun m16 h13 e1 D =>
              have T := fj_run_ok _ _ _ _ _ _ H.1 e1
              have ht369 := fin_st H.1 T.2 hk (by decide) (by decide +kernel) ht369 (by decide)
              have hk := cls_st H.1 T.2 hk (by decide)
              have H := shp_st H T
              j_aldn (pc := 64) D rfl rfl rfl fun D =>
              j_gfc (pc := 65) (a := x0.toNat) D rfl rfl (nz_cls H.2.1 hk (by decide)) rfl hk rfl ht369 fun D =>
              j_gfc (pc := 68) (a := 303) D rfl rfl (by decide) rfl (s0_303 H) rfl (sf_213_303 H) fun D =>
              j_gfc (pc := 71) (a := 309) D rfl rfl (by decide) rfl (s0_309 H) rfl (sf_114_309 H) fun D =>
              j_ildn (pc := 74) D rfl rfl rfl fun D =>
              j_al (pc := 75) (a := 310) (e := 4) D rfl rfl rfl (by decide) (s0_310 H) (s1_310 H) ⟨rfl, rfl, rfl⟩ rfl gn fun qb17 D =>
              j_aldn (pc := 76) D rfl rfl rfl fun D =>
              j_gf (pc := 77) (a := x0.toNat) D rfl rfl (nz_cls H.2.1 hk (by decide)) rfl hk rfl fun D =>
              j_gs (pc := 80) D rfl fun D =>
              j_ane (pc := 83) D rfl (fun q D =>
                j_ic (pc := 86) D rfl fun D =>
                j_goto (pc := 87) D rfl <|
                fk_jump cut_338_91 rfl rfl) (fun q =>
                have D : fk_D 338 [(90, none, .iconst 0, 1, 0, 0, 0)] := fq_of2 cd_338 ow_338 cl_338 rfl (pc := 90) (by decide +kernel)
                j_ic (pc := 90) D rfl fun D =>
                fk_jump cut_338_91 rfl rfl)) (fun m16 q15 h13 e1 =>
              j_tx (hx_338 _))) (fun N =>
            j_lc 13 (t := 103) D N rfl (by decide +kernel) (by decide +kernel) (fun q =>
              have D : fk_D 338 [(103, none, .aload_n 0, 1, 0, 0, 0), (104, none, .iload_n 1, 1, 0, 0, 0), (105, none, .invokevirtual 71, 3, 1, 235, 0), (108, none, .return_, 1, 0, 0, 0)] := fq_of2 cd_338 ow_338 cl_338 rfl (pc := 103) (by decide +kernel)
              j_aldn (pc := 103) D rfl rfl rfl fun D =>
              j_ildn (pc := 104) D rfl rfl rfl fun D =>
              j_ivv (pc := 105) (m := 339) (dd := 235) (a := [(0, x1)]) (rest := []) D rfl rfl rfl rfl rfl (nz_cls H.2.1 hk (by decide)) hk (by decide +kernel) (fun h18 e1 D =>
                have T := fj_run_ok _ _ _ _ _ _ H.1 e1
                have ht369 := fin_st H.1 T.2 hk (by decide) (by decide +kernel) ht369 (by decide)
                have hk := cls_st H.1 T.2 hk (by decide)
                have H := shp_st H T
                j_vret D rt_338) (fun q20 h18 e1 =>
                j_tx (hx_338 _))) (fun N =>
              j_lc 14 (t := 109) D N rfl (by decide +kernel) (by decide +kernel) (fun q =>
                have D : fk_D 338 [(109, none, .aload_n 0, 1, 0, 0, 0), (110, none, .iload_n 1, 1, 0, 0, 0), (111, none, .invokevirtual 74, 3, 1, 236, 0), (114, none, .return_, 1, 0, 0, 0)] := fq_of2 cd_338 ow_338 cl_338 rfl (pc := 109) (by decide +kernel)
                j_aldn (pc := 109) D rfl rfl rfl fun D =>
                j_ildn (pc := 110) D rfl rfl rfl fun D =>
                j_ivv (pc := 111) (m := 340) (dd := 236) (a := [(0, x1)]) (rest := []) D rfl rfl rfl rfl rfl (nz_cls H.2.1 hk (by decide)) hk (by decide +kernel) (fun h21 e1 D =>
                  have T := fj_run_ok _ _ _ _ _ _ H.1 e1
                  have ht369 := fin_st H.1 T.2 hk (by decide) (by decide +kernel) ht369 (by decide)
                  have hk := cls_st H.1 T.2 hk (by decide)
                  have H := shp_st H T
                  j_vret D rt_338) (fun q23 h21 e1 =>
                  j_tx (hx_338 _))) (fun N =>
                j_ldf (t := 115) D N rfl (by decide +kernel) (by decide +kernel) (by decide +kernel) <|
                have D : fk_D 338 [(115, none, .aload_n 0, 1, 0, 0, 0), (116, none, .getfield 37, 3, 367, 125, 12), (119, none, .iload_n 1, 1, 0, 0, 0), (120, none, .invokevirtual 54, 3, 1, 136, 0), (123, none, .aload_n 0, 1, 0, 0, 0), (124, none, .getfield 41, 3, 368, 125, 12), (127, none, .iload_n 1, 1, 0, 0, 0), (128, none, .iconst 1, 1, 0, 1, 0), (129, none, .iadd, 1, 0, 0, 0), (130, none, .invokevirtual 54, 3, 1, 136, 0), (133, none, .aload_n 0, 1, 0, 0, 0), (134, none, .getfield 33, 3, 366, 125, 12), (137, none, .invokevirtual 50, 3, 0, 234, 1), (140, none, .tableswitch 454 2 11 #[56, 56, 172, 217, 262, 307, 352, 378, 404, 429], 56, 0, 0, 0)] := fq_of3 cd_338 ow_338 cl_338 rfl (pc := 115) (by decide +kernel)
                j_aldn (pc := 115) D rfl rfl rfl fun D =>
                j_gf (pc := 116) (a := x0.toNat) D rfl rfl (nz_cls H.2.1 hk (by decide)) rfl hk rfl fun D =>
                j_ildn (pc := 119) D rfl rfl rfl fun D =>
                j_ivuv (pc := 120) (dd := 136) (a := [(0, x1)]) (rest := []) H.2.1 D rfl rfl rfl rfl rfl (fun m27 h24 e1 D =>
                  have T := fj_run_ok _ _ _ _ _ _ H.1 e1
                  have ht369 := fin_st H.1 T.2 hk (by decide) (by decide +kernel) ht369 (by decide)
                  have hk := cls_st H.1 T.2 hk (by decide)
                  have H := shp_st H T
                  j_aldn (pc := 123) D rfl rfl rfl fun D =>
                  j_gf (pc := 124) (a := x0.toNat) D rfl rfl (nz_cls H.2.1 hk (by decide)) rfl hk rfl fun D =>
                  j_ildn (pc := 127) D rfl rfl rfl fun D =>
                  j_ic (pc := 128) D rfl fun D =>
                  j_iadd (pc := 129) D rfl fun D =>
                  j_ivuv (pc := 130) (dd := 136) (a := [(0, wI (x1 + 1))]) (rest := []) H.2.1 D rfl rfl rfl rfl rfl (fun m31 h28 e1 D =>
                    have T := fj_run_ok _ _ _ _ _ _ H.1 e1
                    have ht369 := fin_st H.1 T.2 hk (by decide) (by decide +kernel) ht369 (by decide)
                    have hk := cls_st H.1 T.2 hk (by decide)
                    have H := shp_st H T
                    j_aldn (pc := 133) D rfl rfl rfl fun D =>
                    j_gf (pc := 134) (a := x0.toNat) D rfl rfl (nz_cls H.2.1 hk (by decide)) rfl hk rfl fun D =>
                    j_ivu (pc := 137) (dd := 234) (a := []) (rest := []) H.2.1 D rfl rfl rfl rfl rfl (fun m35 v33 h32 e1 D =>
                      have T := fj_run_ok _ _ _ _ _ _ H.1 e1
                      have ht369 := fin_st H.1 T.2 hk (by decide) (by decide +kernel) ht369 (by decide)
                      have hk := cls_st H.1 T.2 hk (by decide)
                      have H := shp_st H T
                      have N : fk_ni (v33) [] := trivial
                      j_tc (pc := 140) 2 (t := 196) D N rfl (by decide +kernel) (fun q =>
                        fk_jump cut_338_196 rfl rfl) (fun N =>
                        j_tc 3 (t := 196) D N rfl (by decide +kernel) (fun q =>
                          fk_jump cut_338_196 rfl rfl) (fun N =>
                          j_tc 4 (t := 312) D N rfl (by decide +kernel) (fun q =>
                            fk_jump cut_338_312 rfl rfl) (fun N =>
                            j_tc 5 (t := 357) D N rfl (by decide +kernel) (fun q =>
                              fk_jump cut_338_357 rfl rfl) (fun N =>
                              j_tc 6 (t := 402) D N rfl (by decide +kernel) (fun q =>
                                fk_jump cut_338_402 rfl rfl) (fun N =>
                                j_tc 7 (t := 447) D N rfl (by decide +kernel) (fun q =>
                                  fk_jump cut_338_447 rfl rfl) (fun N =>
                                  j_tc 8 (t := 492) D N rfl (by decide +kernel) (fun q =>
                                    fk_jump cut_338_492 rfl rfl) (fun N =>
                                    j_tc 9 (t := 518) D N rfl (by decide +kernel) (fun q =>
                                      fk_jump cut_338_518 rfl rfl) (fun N =>
                                      j_tc 10 (t := 544) D N rfl (by decide +kernel) (fun q =>
                                        fk_jump cut_338_544 rfl rfl) (fun N =>
                                        j_tc 11 (t := 569) D N rfl (by decide +kernel) (fun q =>
                                          fk_jump cut_338_569 rfl rfl) (fun N =>
                                          j_td (t := 594) D N rfl (by decide +kernel) (by decide +kernel) <|
                                          fk_jump cut_338_594 rfl rfl))))))))))) (fun m35 q34 h32 e1 =>
                      j_tx (hx_338 _))) (fun m31 q30 h28 e1 =>
                    j_tx (hx_338 _))) (fun m27 q26 h24 e1 =>
                  j_tx (hx_338 _))))))) (fun m7 q6 h4 e1 =>
        j_tx (hx_338 _))) (fun q3 h1 e1 =>
      j_tx (hx_338 _))
/-! 339 StatuteHouse$Two.workOf(I)V -/
theorem cd_339 : fi_code 339 = prog_64_method_3_code := rfl
theorem rt_339 : fi_ret 339 = none := rfl
theorem nl_339 : fi_nl 339 = 4 := rfl
theorem ow_339 : fi_ow 339 = 25 := rfl
theorem cl_339 : fj_cutT.getD 339 [] = [(54, [0, 2])] := rfl
theorem cut_339_54 : fj_cut 339 54 = some [0, 2] := by decide +kernel
noncomputable def c_339_54 (d : Nat) (x0 x2 s0 : Int) (h : fi_H) : fk_R := gG (fj_run d) 339 54 [(0, (4, x0)), (2, (0, x2))] [(4, s0)] h
theorem e_339_54 (d : Nat) (x0 x2 s0 : Int) {h : fi_H} (H : Shp h) (hk : h 0 x0.toNat 0 = 125) (ht369 : h 369 x0.toNat 0 = 303) : c_339_54 d x0 x2 s0 h =
  lt_ (fi_upd h 241 303 0 x2) fun h1 =>
  if s0 ≠ 0 then
  tx_ s0.toNat h1
  else none := by
  unfold c_339_54
  exact
    have D : fk_D 339 [(54, some [0, 2], .astore_n 3, 1, 0, 0, 0), (55, none, .aload_n 0, 1, 0, 0, 0), (56, none, .getfield 1, 3, 369, 125, 12), (59, none, .iload_n 2, 1, 0, 0, 0), (60, none, .putfield 104, 3, 241, 100, 10), (63, none, .aload_n 3, 1, 0, 0, 0), (64, none, .athrow, 1, 0, 0, 0)] := fq_of2 cd_339 ow_339 cl_339 rfl (pc := 54) (by decide +kernel)
    j_astn (pc := 54) (L' := [(3, (4, s0)), (0, (4, x0)), (2, (0, x2))]) D rfl nl_339 rfl rfl fun D =>
    j_aldn (pc := 55) D rfl rfl rfl fun D =>
    j_gfc (pc := 56) (a := x0.toNat) D rfl rfl (nz_cls H.2.1 hk (by decide)) rfl hk rfl ht369 fun D =>
    j_ildn (pc := 59) D rfl rfl rfl fun D =>
    j_pf (pc := 60) (a := 303) D rfl rfl rfl (s0_303 H) rfl rfl (gy (by decide)) (gy rfl) fun h1 eh1 S D =>
    have T := fj_hs_ok H.1 S
    have ht369 := fin_st H.1 T.2 hk (by decide) (by decide +kernel) ht369 (by decide)
    have hk := cls_st H.1 T.2 hk (by decide)
    have H := shp_st H T
    j_aldn (pc := 63) D rfl rfl rfl fun D =>
    j_at (pc := 64) D gn <|
    j_tx (by decide +kernel)
theorem m_339 (d : Nat) (x0 x1 : Int) {h : fi_H} (H : Shp h) (hk : h 0 x0.toNat 0 = 125) (ht369 : h 369 x0.toNat 0 = 303) : fj_run (d + 1) 339 h [(4, x0), (0, x1)] =
  dv_ (fi_vt 136 (h 0 (h 368 x0.toNat 0).toNat 0)) fun m4 => cv_ (fj_run d m4 h [(4, h 368 x0.toNat 0), (0, x1)])
    (fun h1 =>
    if 0 ≤ x1 ∧ x1 < 700 then
    lt_ (fi_upd h1 241 303 0 (h1 8 319 x1.toNat)) fun h6 =>
    dv_ (fi_vt 136 (h6 0 (h6 367 x0.toNat 0).toNat 0)) fun m10 => cv_ (fj_run d m10 h6 [(4, h6 367 x0.toNat 0), (0, x1)])
      (fun h7 =>
      lt_ (fi_upd h7 241 303 0 (h1 241 303 0)) fun h11 =>
      some (.inl none, h11))
      (fun q9 h7 => ta_ q9 h7 (c_339_54 d x0 (h1 241 303 0) (q9 : Int) h7))
    else none)
    (fun q3 h1 => tx_ q3 h1) := by
  rw [fj_run_eq d (by decide) h [(4, x0), (0, x1)] (Nat.le_of_ble_eq_true (by rw [nl_339]; rfl))]
  show gG (fj_run d) 339 0 [(0, (4, x0)), (1, (0, x1))] [] h = _
  exact
    have D : fk_D 339 [(0, none, .aload_n 0, 1, 0, 0, 0), (1, none, .getfield 41, 3, 368, 125, 12), (4, none, .iload_n 1, 1, 0, 0, 0), (5, none, .invokevirtual 54, 3, 1, 136, 0), (8, none, .aload_n 0, 1, 0, 0, 0), (9, none, .getfield 1, 3, 369, 125, 12), (12, none, .getfield 104, 3, 241, 100, 10), (15, none, .istore_n 2, 1, 0, 0, 0), (16, none, .aload_n 0, 1, 0, 0, 0), (17, none, .getfield 1, 3, 369, 125, 12), (20, none, .aload_n 0, 1, 0, 0, 0), (21, none, .getfield 1, 3, 369, 125, 12), (24, none, .getfield 58, 3, 213, 100, 12), (27, none, .getfield 107, 3, 123, 119, 12), (30, none, .iload_n 1, 1, 0, 0, 0), (31, none, .baload, 1, 0, 0, 0), (32, none, .putfield 104, 3, 241, 100, 10), (35, none, .aload_n 0, 1, 0, 0, 0), (36, none, .getfield 37, 3, 367, 125, 12), (39, none, .iload_n 1, 1, 0, 0, 0)] := fq_of2 cd_339 ow_339 cl_339 rfl (pc := 0) (by decide +kernel)
    j_aldn (pc := 0) D rfl rfl rfl fun D =>
    j_gf (pc := 1) (a := x0.toNat) D rfl rfl (nz_cls H.2.1 hk (by decide)) rfl hk rfl fun D =>
    j_ildn (pc := 4) D rfl rfl rfl fun D =>
    j_ivuv (pc := 5) (dd := 136) (a := [(0, x1)]) (rest := []) H.2.1 D rfl rfl rfl rfl rfl (fun m4 h1 e1 D =>
      have T := fj_run_ok _ _ _ _ _ _ H.1 e1
      have ht369 := fin_st H.1 T.2 hk (by decide) (by decide +kernel) ht369 (by decide)
      have hk := cls_st H.1 T.2 hk (by decide)
      have H := shp_st H T
      j_aldn (pc := 8) D rfl rfl rfl fun D =>
      j_gfc (pc := 9) (a := x0.toNat) D rfl rfl (nz_cls H.2.1 hk (by decide)) rfl hk rfl ht369 fun D =>
      j_gf (pc := 12) (a := 303) D rfl rfl (by decide) rfl (s0_303 H) rfl fun D =>
      j_istn (pc := 15) (L' := [(2, (0, h1 241 303 0)), (0, (4, x0)), (1, (0, x1))]) D rfl nl_339 rfl rfl fun D =>
      j_aldn (pc := 16) D rfl rfl rfl fun D =>
      j_gfc (pc := 17) (a := x0.toNat) D rfl rfl (nz_cls H.2.1 hk (by decide)) rfl hk rfl ht369 fun D =>
      j_aldn (pc := 20) D rfl rfl rfl fun D =>
      j_gfc (pc := 21) (a := x0.toNat) D rfl rfl (nz_cls H.2.1 hk (by decide)) rfl hk rfl ht369 fun D =>
      j_gfc (pc := 24) (a := 303) D rfl rfl (by decide) rfl (s0_303 H) rfl (sf_213_303 H) fun D =>
      j_gfc (pc := 27) (a := 309) D rfl rfl (by decide) rfl (s0_309 H) rfl (sf_123_309 H) fun D =>
      j_ildn (pc := 30) D rfl rfl rfl fun D =>
      j_al (pc := 31) (a := 319) (e := 8) D rfl rfl rfl (by decide) (s0_319 H) (s1_319 H) ⟨rfl, rfl, rfl⟩ rfl gn fun qb5 D =>
      j_pf (pc := 32) (a := 303) D rfl rfl rfl (s0_303 H) rfl rfl (gy (by decide)) (gy rfl) fun h6 eh6 S D =>
      have T := fj_hs_ok H.1 S
      have ht369 := fin_st H.1 T.2 hk (by decide) (by decide +kernel) ht369 (by decide)
      have hk := cls_st H.1 T.2 hk (by decide)
      have H := shp_st H T
      j_aldn (pc := 35) D rfl rfl rfl fun D =>
      j_gf (pc := 36) (a := x0.toNat) D rfl rfl (nz_cls H.2.1 hk (by decide)) rfl hk rfl fun D =>
      j_ildn (pc := 39) D rfl rfl rfl fun D =>
      have D : fk_D 339 [(40, none, .invokevirtual 54, 3, 1, 136, 0), (43, none, .aload_n 0, 1, 0, 0, 0), (44, none, .getfield 1, 3, 369, 125, 12), (47, none, .iload_n 2, 1, 0, 0, 0), (48, none, .putfield 104, 3, 241, 100, 10), (51, none, .goto 14, 3, 65, 0, 0)] := fq_of2 cd_339 ow_339 cl_339 rfl (pc := 40) (by decide +kernel)
      j_ivuv (pc := 40) (dd := 136) (a := [(0, x1)]) (rest := []) H.2.1 D rfl rfl rfl rfl rfl (fun m10 h7 e1 D =>
        have T := fj_run_ok _ _ _ _ _ _ H.1 e1
        have ht369 := fin_st H.1 T.2 hk (by decide) (by decide +kernel) ht369 (by decide)
        have hk := cls_st H.1 T.2 hk (by decide)
        have H := shp_st H T
        j_aldn (pc := 43) D rfl rfl rfl fun D =>
        j_gfc (pc := 44) (a := x0.toNat) D rfl rfl (nz_cls H.2.1 hk (by decide)) rfl hk rfl ht369 fun D =>
        j_ildn (pc := 47) D rfl rfl rfl fun D =>
        j_pf (pc := 48) (a := 303) D rfl rfl rfl (s0_303 H) rfl rfl (gy (by decide)) (gy rfl) fun h11 eh11 S D =>
        have T := fj_hs_ok H.1 S
        have ht369 := fin_st H.1 T.2 hk (by decide) (by decide +kernel) ht369 (by decide)
        have hk := cls_st H.1 T.2 hk (by decide)
        have H := shp_st H T
        j_goto (pc := 51) D rfl <|
        have D : fk_D 339 [(65, none, .return_, 1, 0, 0, 0)] := fq_of2 cd_339 ow_339 cl_339 rfl (pc := 65) (by decide +kernel)
        j_vret D rt_339) (fun m10 q9 h7 e1 =>
        j_ta (fk_at (cu := none) (by decide +kernel) rfl) (s := 16) (e := 43) (hp := 54) (by decide +kernel) <|
        fk_jump cut_339_54 rfl rfl)) (fun m4 q3 h1 e1 =>
      j_tx (by decide +kernel))
/-! 340 StatuteHouse$Two.workOn(I)V -/
theorem cd_340 : fi_code 340 = prog_64_method_4_code := rfl
theorem rt_340 : fi_ret 340 = none := rfl
theorem nl_340 : fi_nl 340 = 4 := rfl
theorem ow_340 : fi_ow 340 = 25 := rfl
theorem cl_340 : fj_cutT.getD 340 [] = [(54, [0, 2])] := rfl
theorem cut_340_54 : fj_cut 340 54 = some [0, 2] := by decide +kernel
noncomputable def c_340_54 (d : Nat) (x0 x2 s0 : Int) (h : fi_H) : fk_R := gG (fj_run d) 340 54 [(0, (4, x0)), (2, (0, x2))] [(4, s0)] h
theorem e_340_54 (d : Nat) (x0 x2 s0 : Int) {h : fi_H} (H : Shp h) (hk : h 0 x0.toNat 0 = 125) (ht369 : h 369 x0.toNat 0 = 303) : c_340_54 d x0 x2 s0 h =
  lt_ (fi_upd h 242 303 0 x2) fun h1 =>
  if s0 ≠ 0 then
  tx_ s0.toNat h1
  else none := by
  unfold c_340_54
  exact
    have D : fk_D 340 [(54, some [0, 2], .astore_n 3, 1, 0, 0, 0), (55, none, .aload_n 0, 1, 0, 0, 0), (56, none, .getfield 1, 3, 369, 125, 12), (59, none, .iload_n 2, 1, 0, 0, 0), (60, none, .putfield 111, 3, 242, 100, 10), (63, none, .aload_n 3, 1, 0, 0, 0), (64, none, .athrow, 1, 0, 0, 0)] := fq_of2 cd_340 ow_340 cl_340 rfl (pc := 54) (by decide +kernel)
    j_astn (pc := 54) (L' := [(3, (4, s0)), (0, (4, x0)), (2, (0, x2))]) D rfl nl_340 rfl rfl fun D =>
    j_aldn (pc := 55) D rfl rfl rfl fun D =>
    j_gfc (pc := 56) (a := x0.toNat) D rfl rfl (nz_cls H.2.1 hk (by decide)) rfl hk rfl ht369 fun D =>
    j_ildn (pc := 59) D rfl rfl rfl fun D =>
    j_pf (pc := 60) (a := 303) D rfl rfl rfl (s0_303 H) rfl rfl (gy (by decide)) (gy rfl) fun h1 eh1 S D =>
    have T := fj_hs_ok H.1 S
    have ht369 := fin_st H.1 T.2 hk (by decide) (by decide +kernel) ht369 (by decide)
    have hk := cls_st H.1 T.2 hk (by decide)
    have H := shp_st H T
    j_aldn (pc := 63) D rfl rfl rfl fun D =>
    j_at (pc := 64) D gn <|
    j_tx (by decide +kernel)
theorem m_340 (d : Nat) (x0 x1 : Int) {h : fi_H} (H : Shp h) (hk : h 0 x0.toNat 0 = 125) (ht369 : h 369 x0.toNat 0 = 303) : fj_run (d + 1) 340 h [(4, x0), (0, x1)] =
  dv_ (fi_vt 136 (h 0 (h 368 x0.toNat 0).toNat 0)) fun m4 => cv_ (fj_run d m4 h [(4, h 368 x0.toNat 0), (0, x1)])
    (fun h1 =>
    if 0 ≤ x1 ∧ x1 < 700 then
    lt_ (fi_upd h1 242 303 0 (h1 5 316 x1.toNat)) fun h6 =>
    dv_ (fi_vt 136 (h6 0 (h6 367 x0.toNat 0).toNat 0)) fun m10 => cv_ (fj_run d m10 h6 [(4, h6 367 x0.toNat 0), (0, x1)])
      (fun h7 =>
      lt_ (fi_upd h7 242 303 0 (h1 242 303 0)) fun h11 =>
      some (.inl none, h11))
      (fun q9 h7 => ta_ q9 h7 (c_340_54 d x0 (h1 242 303 0) (q9 : Int) h7))
    else none)
    (fun q3 h1 => tx_ q3 h1) := by
  rw [fj_run_eq d (by decide) h [(4, x0), (0, x1)] (Nat.le_of_ble_eq_true (by rw [nl_340]; rfl))]
  show gG (fj_run d) 340 0 [(0, (4, x0)), (1, (0, x1))] [] h = _
  exact
    have D : fk_D 340 [(0, none, .aload_n 0, 1, 0, 0, 0), (1, none, .getfield 41, 3, 368, 125, 12), (4, none, .iload_n 1, 1, 0, 0, 0), (5, none, .invokevirtual 54, 3, 1, 136, 0), (8, none, .aload_n 0, 1, 0, 0, 0), (9, none, .getfield 1, 3, 369, 125, 12), (12, none, .getfield 111, 3, 242, 100, 10), (15, none, .istore_n 2, 1, 0, 0, 0), (16, none, .aload_n 0, 1, 0, 0, 0), (17, none, .getfield 1, 3, 369, 125, 12), (20, none, .aload_n 0, 1, 0, 0, 0), (21, none, .getfield 1, 3, 369, 125, 12), (24, none, .getfield 58, 3, 213, 100, 12), (27, none, .getfield 114, 3, 120, 119, 12), (30, none, .iload_n 1, 1, 0, 0, 0), (31, none, .caload, 1, 0, 0, 0), (32, none, .putfield 111, 3, 242, 100, 10), (35, none, .aload_n 0, 1, 0, 0, 0), (36, none, .getfield 37, 3, 367, 125, 12), (39, none, .iload_n 1, 1, 0, 0, 0)] := fq_of2 cd_340 ow_340 cl_340 rfl (pc := 0) (by decide +kernel)
    j_aldn (pc := 0) D rfl rfl rfl fun D =>
    j_gf (pc := 1) (a := x0.toNat) D rfl rfl (nz_cls H.2.1 hk (by decide)) rfl hk rfl fun D =>
    j_ildn (pc := 4) D rfl rfl rfl fun D =>
    j_ivuv (pc := 5) (dd := 136) (a := [(0, x1)]) (rest := []) H.2.1 D rfl rfl rfl rfl rfl (fun m4 h1 e1 D =>
      have T := fj_run_ok _ _ _ _ _ _ H.1 e1
      have ht369 := fin_st H.1 T.2 hk (by decide) (by decide +kernel) ht369 (by decide)
      have hk := cls_st H.1 T.2 hk (by decide)
      have H := shp_st H T
      j_aldn (pc := 8) D rfl rfl rfl fun D =>
      j_gfc (pc := 9) (a := x0.toNat) D rfl rfl (nz_cls H.2.1 hk (by decide)) rfl hk rfl ht369 fun D =>
      j_gf (pc := 12) (a := 303) D rfl rfl (by decide) rfl (s0_303 H) rfl fun D =>
      j_istn (pc := 15) (L' := [(2, (0, h1 242 303 0)), (0, (4, x0)), (1, (0, x1))]) D rfl nl_340 rfl rfl fun D =>
      j_aldn (pc := 16) D rfl rfl rfl fun D =>
      j_gfc (pc := 17) (a := x0.toNat) D rfl rfl (nz_cls H.2.1 hk (by decide)) rfl hk rfl ht369 fun D =>
      j_aldn (pc := 20) D rfl rfl rfl fun D =>
      j_gfc (pc := 21) (a := x0.toNat) D rfl rfl (nz_cls H.2.1 hk (by decide)) rfl hk rfl ht369 fun D =>
      j_gfc (pc := 24) (a := 303) D rfl rfl (by decide) rfl (s0_303 H) rfl (sf_213_303 H) fun D =>
      j_gfc (pc := 27) (a := 309) D rfl rfl (by decide) rfl (s0_309 H) rfl (sf_120_309 H) fun D =>
      j_ildn (pc := 30) D rfl rfl rfl fun D =>
      j_al (pc := 31) (a := 316) (e := 5) D rfl rfl rfl (by decide) (s0_316 H) (s1_316 H) ⟨rfl, rfl, rfl⟩ rfl gn fun qb5 D =>
      j_pf (pc := 32) (a := 303) D rfl rfl rfl (s0_303 H) rfl rfl (gy (by decide)) (gy rfl) fun h6 eh6 S D =>
      have T := fj_hs_ok H.1 S
      have ht369 := fin_st H.1 T.2 hk (by decide) (by decide +kernel) ht369 (by decide)
      have hk := cls_st H.1 T.2 hk (by decide)
      have H := shp_st H T
      j_aldn (pc := 35) D rfl rfl rfl fun D =>
      j_gf (pc := 36) (a := x0.toNat) D rfl rfl (nz_cls H.2.1 hk (by decide)) rfl hk rfl fun D =>
      j_ildn (pc := 39) D rfl rfl rfl fun D =>
      have D : fk_D 340 [(40, none, .invokevirtual 54, 3, 1, 136, 0), (43, none, .aload_n 0, 1, 0, 0, 0), (44, none, .getfield 1, 3, 369, 125, 12), (47, none, .iload_n 2, 1, 0, 0, 0), (48, none, .putfield 111, 3, 242, 100, 10), (51, none, .goto 14, 3, 65, 0, 0)] := fq_of2 cd_340 ow_340 cl_340 rfl (pc := 40) (by decide +kernel)
      j_ivuv (pc := 40) (dd := 136) (a := [(0, x1)]) (rest := []) H.2.1 D rfl rfl rfl rfl rfl (fun m10 h7 e1 D =>
        have T := fj_run_ok _ _ _ _ _ _ H.1 e1
        have ht369 := fin_st H.1 T.2 hk (by decide) (by decide +kernel) ht369 (by decide)
        have hk := cls_st H.1 T.2 hk (by decide)
        have H := shp_st H T
        j_aldn (pc := 43) D rfl rfl rfl fun D =>
        j_gfc (pc := 44) (a := x0.toNat) D rfl rfl (nz_cls H.2.1 hk (by decide)) rfl hk rfl ht369 fun D =>
        j_ildn (pc := 47) D rfl rfl rfl fun D =>
        j_pf (pc := 48) (a := 303) D rfl rfl rfl (s0_303 H) rfl rfl (gy (by decide)) (gy rfl) fun h11 eh11 S D =>
        have T := fj_hs_ok H.1 S
        have ht369 := fin_st H.1 T.2 hk (by decide) (by decide +kernel) ht369 (by decide)
        have hk := cls_st H.1 T.2 hk (by decide)
        have H := shp_st H T
        j_goto (pc := 51) D rfl <|
        have D : fk_D 340 [(65, none, .return_, 1, 0, 0, 0)] := fq_of2 cd_340 ow_340 cl_340 rfl (pc := 65) (by decide +kernel)
        j_vret D rt_340) (fun m10 q9 h7 e1 =>
        j_ta (fk_at (cu := none) (by decide +kernel) rfl) (s := 16) (e := 43) (hp := 54) (by decide +kernel) <|
        fk_jump cut_340_54 rfl rfl)) (fun m4 q3 h1 e1 =>
      j_tx (by decide +kernel))
/-! 341 StatuteHouse$Shelf.alike(ILStatuteHouse$Shelf;ILStatuteHouse$Kind;)Z -/
theorem cd_341 : fi_code 341 = prog_57_method_5_code := rfl
theorem hx_341 : ∀ pc, fi_hat 341 pc = none := fun pc => by unfold fi_hat; rw [show fi_hh 341 = [] from rfl]; rfl
theorem rt_341 : fi_ret 341 = some .boolean := rfl
theorem nl_341 : fi_nl 341 = 5 := rfl
theorem ow_341 : fi_ow 341 = 19 := rfl
theorem cl_341 : fj_cutT.getD 341 [] = [] := rfl
theorem m_341 (d : Nat) (x0 x1 x2 x3 x4 : Int) {h : fi_H} (H : Shp h) (hk : h 0 x0.toNat 0 = 119) : fj_run (d + 1) 341 h [(4, x0), (0, x1), (4, x2), (0, x3), (4, x4)] =
  dv_ (fi_vt 111 (h 0 x4.toNat 0)) fun m4 => ca_ (fj_run d m4 h [(4, x4)]) 0
    (fun v2 h1 =>
    if v2 = 6 then
      if h1 0 (h1 122 x0.toNat 0).toNat 0 = 7 ∧ 0 ≤ x1 ∧ x1 < h1 1 (h1 122 x0.toNat 0).toNat 0 then
      if h1 0 x2.toNat 0 = 119 then
      if h1 0 (h1 122 x2.toNat 0).toNat 0 = 7 ∧ 0 ≤ x3 ∧ x3 < h1 1 (h1 122 x2.toNat 0).toNat 0 then
      if dl_ (h1 7 (h1 122 x0.toNat 0).toNat x1.toNat) (h1 7 (h1 122 x2.toNat 0).toNat x3.toNat) = 0 then
        some (.inl (some (0, 1)), h1)
      else
        some (.inl (some (0, 0)), h1)
      else none
      else none
      else none
    else 
      ca_ (fj_run d 322 h1 [(4, x0), (0, x1), (4, x4)]) 1
        (fun v7 h6 =>
        dv_ (fi_vt 124 (h6 0 x2.toNat 0)) fun m12 => ca_ (fj_run d m12 h6 [(4, x2), (0, x3), (4, x4)]) 1
          (fun v10 h9 =>
          if lc_ v7 v10 = 0 then
            ca_ (fj_run d 325 h9 [(4, x0), (0, x1), (4, x4)]) 1
              (fun v14 h13 =>
              dv_ (fi_vt 137 (h13 0 x2.toNat 0)) fun m19 => ca_ (fj_run d m19 h13 [(4, x2), (0, x3), (4, x4)]) 1
                (fun v17 h16 =>
                if lc_ v14 v17 = 0 then
                  some (.inl (some (0, 1)), h16)
                else
                  some (.inl (some (0, 0)), h16))
                (fun q18 h16 => tx_ q18 h16))
              (fun q15 h13 => tx_ q15 h13)
          else
            some (.inl (some (0, 0)), h9))
          (fun q11 h9 => tx_ q11 h9))
        (fun q8 h6 => tx_ q8 h6))
    (fun q3 h1 => tx_ q3 h1) := by
  rw [fj_run_eq d (by decide) h [(4, x0), (0, x1), (4, x2), (0, x3), (4, x4)] (Nat.le_of_ble_eq_true (by rw [nl_341]; rfl))]
  show gG (fj_run d) 341 0 [(0, (4, x0)), (1, (0, x1)), (2, (4, x2)), (3, (0, x3)), (4, (4, x4))] [] h = _
  exact
    have D : fk_D 341 [(0, none, .aload 4, 2, 0, 0, 0), (2, none, .invokevirtual 46, 3, 0, 111, 1), (5, none, .lookupswitch 41 #[(6, 19)], 19, 0, 0, 0)] := fq_of3 cd_341 ow_341 cl_341 rfl (pc := 0) (by decide +kernel)
    j_ald (pc := 0) D rfl rfl rfl fun D =>
    j_ivu (pc := 2) (dd := 111) (a := []) (rest := []) H.2.1 D rfl rfl rfl rfl rfl (fun m4 v2 h1 e1 D =>
      have T := fj_run_ok _ _ _ _ _ _ H.1 e1
      have hk := cls_st H.1 T.2 hk (by decide)
      have H := shp_st H T
      have N : fk_ni (v2) [] := trivial
      j_lc (pc := 5) 6 (t := 24) D N rfl (by decide +kernel) (by decide +kernel) (fun q =>
        have D : fk_D 341 [(24, none, .aload_n 0, 1, 0, 0, 0), (25, none, .getfield 38, 3, 122, 119, 12), (28, none, .iload_n 1, 1, 0, 0, 0), (29, none, .daload, 1, 0, 0, 0), (30, none, .aload_n 2, 1, 0, 0, 0), (31, none, .getfield 38, 3, 122, (-119), 12), (34, none, .iload_n 3, 1, 0, 0, 0), (35, none, .daload, 1, 0, 0, 0), (36, none, .dcmp .l, 1, 0, 0, 0), (37, none, .ifCond .ne 7, 3, 44, 0, 0), (40, none, .iconst 1, 1, 0, 1, 0), (41, none, .goto 4, 3, 45, 0, 0)] := fq_of2 cd_341 ow_341 cl_341 rfl (pc := 24) (by decide +kernel)
        j_aldn (pc := 24) D rfl rfl rfl fun D =>
        j_gf (pc := 25) (a := x0.toNat) D rfl rfl (nz_cls H.2.1 hk (by decide)) rfl hk rfl fun D =>
        j_ildn (pc := 28) D rfl rfl rfl fun D =>
        j_alp (pc := 29) (e := 7) H.2.1 D rfl rfl ⟨rfl, rfl, rfl⟩ rfl fun q q2 D =>
        j_aldn (pc := 30) D rfl rfl rfl fun D =>
        j_gfo (pc := 31) H.2.1 D rfl rfl rfl rfl fun kc5 D =>
        j_ildn (pc := 34) D rfl rfl rfl fun D =>
        j_alp (pc := 35) (e := 7) H.2.1 D rfl rfl ⟨rfl, rfl, rfl⟩ rfl fun q q2 D =>
        j_dcmpl (pc := 36) D rfl fun D =>
        j_ifne (pc := 37) D rfl (fun q D =>
          j_ic (pc := 40) D rfl fun D =>
          j_goto (pc := 41) D rfl <|
          have D : fk_D 341 [(45, none, .ireturn, 1, 0, 0, 0)] := fq_of2 cd_341 ow_341 cl_341 rfl (pc := 45) (by decide +kernel)
          j_zret D rt_341 (gy (by decide))) (fun q =>
          have D : fk_D 341 [(44, none, .iconst 0, 1, 0, 0, 0), (45, none, .ireturn, 1, 0, 0, 0)] := fq_of2 cd_341 ow_341 cl_341 rfl (pc := 44) (by decide +kernel)
          j_ic (pc := 44) D rfl fun D =>
          j_zret D rt_341 (gy (by decide)))) (fun N =>
        j_ldf (t := 46) D N rfl (by decide +kernel) (by decide +kernel) (by decide +kernel) <|
        have D : fk_D 341 [(46, none, .aload_n 0, 1, 0, 0, 0), (47, none, .iload_n 1, 1, 0, 0, 0), (48, none, .aload 4, 2, 0, 0, 0), (50, none, .invokevirtual 65, 3, 2, 124, 2), (53, none, .aload_n 2, 1, 0, 0, 0), (54, none, .iload_n 3, 1, 0, 0, 0), (55, none, .aload 4, 2, 0, 0, 0), (57, none, .invokevirtual 65, 3, 2, 124, 2), (60, none, .lcmp, 1, 0, 0, 0), (61, none, .ifCond .ne 25, 3, 86, 0, 0), (64, none, .aload_n 0, 1, 0, 0, 0), (65, none, .iload_n 1, 1, 0, 0, 0), (66, none, .aload 4, 2, 0, 0, 0), (68, none, .invokevirtual 69, 3, 2, 137, 2), (71, none, .aload_n 2, 1, 0, 0, 0), (72, none, .iload_n 3, 1, 0, 0, 0), (73, none, .aload 4, 2, 0, 0, 0), (75, none, .invokevirtual 69, 3, 2, 137, 2), (78, none, .lcmp, 1, 0, 0, 0), (79, none, .ifCond .ne 7, 3, 86, 0, 0)] := fq_of2 cd_341 ow_341 cl_341 rfl (pc := 46) (by decide +kernel)
        j_aldn (pc := 46) D rfl rfl rfl fun D =>
        j_ildn (pc := 47) D rfl rfl rfl fun D =>
        j_ald (pc := 48) D rfl rfl rfl fun D =>
        j_iv (pc := 50) (m := 322) (dd := 124) (a := [(0, x1), (4, x4)]) (rest := []) D rfl rfl rfl rfl rfl (nz_cls H.2.1 hk (by decide)) hk (by decide +kernel) (fun v7 h6 e1 D =>
          have T := fj_run_ok _ _ _ _ _ _ H.1 e1
          have hk := cls_st H.1 T.2 hk (by decide)
          have H := shp_st H T
          j_aldn (pc := 53) D rfl rfl rfl fun D =>
          j_ildn (pc := 54) D rfl rfl rfl fun D =>
          j_ald (pc := 55) D rfl rfl rfl fun D =>
          j_ivu (pc := 57) (dd := 124) (a := [(0, x3), (4, x4)]) (rest := [(1, v7)]) H.2.1 D rfl rfl rfl rfl rfl (fun m12 v10 h9 e1 D =>
            have T := fj_run_ok _ _ _ _ _ _ H.1 e1
            have hk := cls_st H.1 T.2 hk (by decide)
            have H := shp_st H T
            j_lcmp (pc := 60) D rfl fun D =>
            j_ifne (pc := 61) D rfl (fun q D =>
              j_aldn (pc := 64) D rfl rfl rfl fun D =>
              j_ildn (pc := 65) D rfl rfl rfl fun D =>
              j_ald (pc := 66) D rfl rfl rfl fun D =>
              j_iv (pc := 68) (m := 325) (dd := 137) (a := [(0, x1), (4, x4)]) (rest := []) D rfl rfl rfl rfl rfl (nz_cls H.2.1 hk (by decide)) hk (by decide +kernel) (fun v14 h13 e1 D =>
                have T := fj_run_ok _ _ _ _ _ _ H.1 e1
                have hk := cls_st H.1 T.2 hk (by decide)
                have H := shp_st H T
                j_aldn (pc := 71) D rfl rfl rfl fun D =>
                j_ildn (pc := 72) D rfl rfl rfl fun D =>
                j_ald (pc := 73) D rfl rfl rfl fun D =>
                j_ivu (pc := 75) (dd := 137) (a := [(0, x3), (4, x4)]) (rest := [(1, v14)]) H.2.1 D rfl rfl rfl rfl rfl (fun m19 v17 h16 e1 D =>
                  have T := fj_run_ok _ _ _ _ _ _ H.1 e1
                  have hk := cls_st H.1 T.2 hk (by decide)
                  have H := shp_st H T
                  j_lcmp (pc := 78) D rfl fun D =>
                  j_ifne (pc := 79) D rfl (fun q D =>
                    have D : fk_D 341 [(82, none, .iconst 1, 1, 0, 1, 0), (83, none, .goto 4, 3, 87, 0, 0)] := fq_of2 cd_341 ow_341 cl_341 rfl (pc := 82) (by decide +kernel)
                    j_ic (pc := 82) D rfl fun D =>
                    j_goto (pc := 83) D rfl <|
                    have D : fk_D 341 [(87, none, .ireturn, 1, 0, 0, 0)] := fq_of2 cd_341 ow_341 cl_341 rfl (pc := 87) (by decide +kernel)
                    j_zret D rt_341 (gy (by decide))) (fun q =>
                    have D : fk_D 341 [(86, none, .iconst 0, 1, 0, 0, 0), (87, none, .ireturn, 1, 0, 0, 0)] := fq_of2 cd_341 ow_341 cl_341 rfl (pc := 86) (by decide +kernel)
                    j_ic (pc := 86) D rfl fun D =>
                    j_zret D rt_341 (gy (by decide)))) (fun m19 q18 h16 e1 =>
                  j_tx (hx_341 _))) (fun q15 h13 e1 =>
                j_tx (hx_341 _))) (fun q =>
              have D : fk_D 341 [(86, none, .iconst 0, 1, 0, 0, 0), (87, none, .ireturn, 1, 0, 0, 0)] := fq_of2 cd_341 ow_341 cl_341 rfl (pc := 86) (by decide +kernel)
              j_ic (pc := 86) D rfl fun D =>
              j_zret D rt_341 (gy (by decide)))) (fun m12 q11 h9 e1 =>
            j_tx (hx_341 _))) (fun q8 h6 e1 =>
          j_tx (hx_341 _)))) (fun m4 q3 h1 e1 =>
      j_tx (hx_341 _))
/-! 342 StatuteHouse.order(ILStatuteHouse$Kind;LStatuteHouse$Kind;)I -/
theorem cd_342 : fi_code 342 = prog_1_method_18_code := rfl
theorem hx_342 : ∀ pc, fi_hat 342 pc = none := fun pc => by unfold fi_hat; rw [show fi_hh 342 = [] from rfl]; rfl
theorem rt_342 : fi_ret 342 = some .int := rfl
theorem nl_342 : fi_nl 342 = 4 := rfl
theorem ow_342 : fi_ow 342 = 0 := rfl
theorem cl_342 : fj_cutT.getD 342 [] = [] := rfl
theorem m_342 (d : Nat) (x1 x2 x3 : Int) {h : fi_H} (H : Shp h) : fj_run (d + 1) 342 h [(4, 303), (0, x1), (4, x2), (4, x3)] =
  dv_ (fi_vt 111 (h 0 x2.toNat 0)) fun m4 => ca_ (fj_run d m4 h [(4, x2)]) 0
    (fun v2 h1 =>
    if v2 = 2 then
      if 0 ≤ x1 ∧ x1 < 700 then
      if 0 ≤ wI (x1 + 1) ∧ wI (x1 + 1) < 700 then
      ca_ (fj_run d 343 h1 [(1, wJ ((h1 11 315 x1.toNat) - (h1 11 315 (wI (x1 + 1)).toNat)))]) 0
        (fun v8 h7 =>
        some (.inl (some (0, v8)), h7))
        (fun q9 h7 => tx_ q9 h7)
      else none
      else none
    else if v2 = 4 then
      if 0 ≤ x1 ∧ x1 < 700 then
      if 0 ≤ wI (x1 + 1) ∧ wI (x1 + 1) < 700 then
      some (.inl (some (0, wI ((h1 5 316 x1.toNat) - (h1 5 316 (wI (x1 + 1)).toNat)))), h1)
      else none
      else none
    else if v2 = 6 then
      if 0 ≤ x1 ∧ x1 < 700 then
      if 0 ≤ wI (x1 + 1) ∧ wI (x1 + 1) < 700 then
      if dg_ (h1 7 318 x1.toNat) (h1 7 318 (wI (x1 + 1)).toNat) < 0 then
        some (.inl (some (0, (-1))), h1)
      else
        if 0 < dl_ (h1 7 318 x1.toNat) (h1 7 318 (wI (x1 + 1)).toNat) then
          some (.inl (some (0, 1)), h1)
        else
          some (.inl (some (0, 0)), h1)
      else none
      else none
    else 
      ca_ (fj_run d 344 h1 [(4, 303), (0, x1), (4, x2)]) 1
        (fun v15 h14 =>
        ca_ (fj_run d 345 h14 [(4, 303), (0, wI (x1 + 1)), (4, x3)]) 1
          (fun v18 h17 =>
          ca_ (fj_run d 344 h17 [(4, 303), (0, wI (x1 + 1)), (4, x3)]) 1
            (fun v21 h20 =>
            ca_ (fj_run d 345 h20 [(4, 303), (0, x1), (4, x2)]) 1
              (fun v24 h23 =>
              ca_ (fj_run d 343 h23 [(1, wJ ((wJ (v15 * v18)) - (wJ (v21 * v24))))]) 0
                (fun v27 h26 =>
                some (.inl (some (0, v27)), h26))
                (fun q28 h26 => tx_ q28 h26))
              (fun q25 h23 => tx_ q25 h23))
            (fun q22 h20 => tx_ q22 h20))
          (fun q19 h17 => tx_ q19 h17))
        (fun q16 h14 => tx_ q16 h14))
    (fun q3 h1 => tx_ q3 h1) := by
  rw [fj_run_eq d (by decide) h [(4, 303), (0, x1), (4, x2), (4, x3)] (Nat.le_of_ble_eq_true (by rw [nl_342]; rfl))]
  show gG (fj_run d) 342 0 [(0, (4, 303)), (1, (0, x1)), (2, (4, x2)), (3, (4, x3))] [] h = _
  exact
    have D : fk_D 342 [(0, none, .aload_n 2, 1, 0, 0, 0), (1, none, .invokevirtual 50, 3, 0, 111, 1), (4, none, .tableswitch 141 2 6 #[36, 141, 61, 141, 83], 36, 0, 0, 0)] := fq_of3 cd_342 ow_342 cl_342 rfl (pc := 0) (by decide +kernel)
    j_aldn (pc := 0) D rfl rfl rfl fun D =>
    j_ivu (pc := 1) (dd := 111) (a := []) (rest := []) H.2.1 D rfl rfl rfl rfl rfl (fun m4 v2 h1 e1 D =>
      have T := fj_run_ok _ _ _ _ _ _ H.1 e1
      have H := shp_st H T
      have N : fk_ni (v2) [] := trivial
      j_tc (pc := 4) 2 (t := 40) D N rfl (by decide +kernel) (fun q =>
        have D : fk_D 342 [(40, none, .aload_n 0, 1, 0, 0, 0), (41, none, .getfield 113, 3, 213, 100, 12), (44, none, .getfield 66, 3, 119, 119, 12), (47, none, .iload_n 1, 1, 0, 0, 0), (48, none, .laload, 1, 0, 0, 0), (49, none, .aload_n 0, 1, 0, 0, 0), (50, none, .getfield 113, 3, 213, 100, 12), (53, none, .getfield 66, 3, 119, 119, 12), (56, none, .iload_n 1, 1, 0, 0, 0), (57, none, .iconst 1, 1, 0, 1, 0), (58, none, .iadd, 1, 0, 0, 0), (59, none, .laload, 1, 0, 0, 0), (60, none, .lsub, 1, 0, 0, 0), (61, none, .invokestatic 146, 3, 1, 343, 1), (64, none, .ireturn, 1, 0, 0, 0)] := fq_of2 cd_342 ow_342 cl_342 rfl (pc := 40) (by decide +kernel)
        j_aldn (pc := 40) D rfl rfl rfl fun D =>
        j_gfc (pc := 41) (a := 303) D rfl rfl (by decide) rfl (s0_303 H) rfl (sf_213_303 H) fun D =>
        j_gfc (pc := 44) (a := 309) D rfl rfl (by decide) rfl (s0_309 H) rfl (sf_119_309 H) fun D =>
        j_ildn (pc := 47) D rfl rfl rfl fun D =>
        j_al (pc := 48) (a := 315) (e := 11) D rfl rfl rfl (by decide) (s0_315 H) (s1_315 H) ⟨rfl, rfl, rfl⟩ rfl gn fun qb5 D =>
        j_aldn (pc := 49) D rfl rfl rfl fun D =>
        j_gfc (pc := 50) (a := 303) D rfl rfl (by decide) rfl (s0_303 H) rfl (sf_213_303 H) fun D =>
        j_gfc (pc := 53) (a := 309) D rfl rfl (by decide) rfl (s0_309 H) rfl (sf_119_309 H) fun D =>
        j_ildn (pc := 56) D rfl rfl rfl fun D =>
        j_ic (pc := 57) D rfl fun D =>
        j_iadd (pc := 58) D rfl fun D =>
        j_al (pc := 59) (a := 315) (e := 11) D rfl rfl rfl (by decide) (s0_315 H) (s1_315 H) ⟨rfl, rfl, rfl⟩ rfl gn fun qb6 D =>
        j_lsub (pc := 60) D rfl fun D =>
        j_is (pc := 61) (m := 343) (a := [(1, wJ ((h1 11 315 x1.toNat) - (h1 11 315 (wI (x1 + 1)).toNat)))]) (rest := []) D rfl rfl rfl rfl (fun v8 h7 e1 D =>
          have T := fj_run_ok _ _ _ _ _ _ H.1 e1
          have H := shp_st H T
          j_iret D rt_342) (fun q9 h7 e1 =>
          j_tx (hx_342 _))) (fun N =>
        j_tc 4 (t := 65) D N rfl (by decide +kernel) (fun q =>
          have D : fk_D 342 [(65, none, .aload_n 0, 1, 0, 0, 0), (66, none, .getfield 113, 3, 213, 100, 12), (69, none, .getfield 76, 3, 120, 119, 12), (72, none, .iload_n 1, 1, 0, 0, 0), (73, none, .caload, 1, 0, 0, 0), (74, none, .aload_n 0, 1, 0, 0, 0), (75, none, .getfield 113, 3, 213, 100, 12), (78, none, .getfield 76, 3, 120, 119, 12), (81, none, .iload_n 1, 1, 0, 0, 0), (82, none, .iconst 1, 1, 0, 1, 0), (83, none, .iadd, 1, 0, 0, 0), (84, none, .caload, 1, 0, 0, 0), (85, none, .isub, 1, 0, 0, 0), (86, none, .ireturn, 1, 0, 0, 0)] := fq_of2 cd_342 ow_342 cl_342 rfl (pc := 65) (by decide +kernel)
          j_aldn (pc := 65) D rfl rfl rfl fun D =>
          j_gfc (pc := 66) (a := 303) D rfl rfl (by decide) rfl (s0_303 H) rfl (sf_213_303 H) fun D =>
          j_gfc (pc := 69) (a := 309) D rfl rfl (by decide) rfl (s0_309 H) rfl (sf_120_309 H) fun D =>
          j_ildn (pc := 72) D rfl rfl rfl fun D =>
          j_al (pc := 73) (a := 316) (e := 5) D rfl rfl rfl (by decide) (s0_316 H) (s1_316 H) ⟨rfl, rfl, rfl⟩ rfl gn fun qb10 D =>
          j_aldn (pc := 74) D rfl rfl rfl fun D =>
          j_gfc (pc := 75) (a := 303) D rfl rfl (by decide) rfl (s0_303 H) rfl (sf_213_303 H) fun D =>
          j_gfc (pc := 78) (a := 309) D rfl rfl (by decide) rfl (s0_309 H) rfl (sf_120_309 H) fun D =>
          j_ildn (pc := 81) D rfl rfl rfl fun D =>
          j_ic (pc := 82) D rfl fun D =>
          j_iadd (pc := 83) D rfl fun D =>
          j_al (pc := 84) (a := 316) (e := 5) D rfl rfl rfl (by decide) (s0_316 H) (s1_316 H) ⟨rfl, rfl, rfl⟩ rfl gn fun qb11 D =>
          j_isub (pc := 85) D rfl fun D =>
          j_iret D rt_342) (fun N =>
          j_tc 6 (t := 87) D N rfl (by decide +kernel) (fun q =>
            have D : fk_D 342 [(87, none, .aload_n 0, 1, 0, 0, 0), (88, none, .getfield 113, 3, 213, 100, 12), (91, none, .getfield 87, 3, 122, 119, 12), (94, none, .iload_n 1, 1, 0, 0, 0), (95, none, .daload, 1, 0, 0, 0), (96, none, .aload_n 0, 1, 0, 0, 0), (97, none, .getfield 113, 3, 213, 100, 12), (100, none, .getfield 87, 3, 122, 119, 12), (103, none, .iload_n 1, 1, 0, 0, 0), (104, none, .iconst 1, 1, 0, 1, 0), (105, none, .iadd, 1, 0, 0, 0), (106, none, .daload, 1, 0, 0, 0), (107, none, .dcmp .g, 1, 0, 0, 0), (108, none, .ifCond .ge 7, 3, 115, 0, 0), (111, none, .iconst (-1), 1, 0, (-1), 0), (112, none, .goto 32, 3, 144, 0, 0)] := fq_of2 cd_342 ow_342 cl_342 rfl (pc := 87) (by decide +kernel)
            j_aldn (pc := 87) D rfl rfl rfl fun D =>
            j_gfc (pc := 88) (a := 303) D rfl rfl (by decide) rfl (s0_303 H) rfl (sf_213_303 H) fun D =>
            j_gfc (pc := 91) (a := 309) D rfl rfl (by decide) rfl (s0_309 H) rfl (sf_122_309 H) fun D =>
            j_ildn (pc := 94) D rfl rfl rfl fun D =>
            j_al (pc := 95) (a := 318) (e := 7) D rfl rfl rfl (by decide) (s0_318 H) (s1_318 H) ⟨rfl, rfl, rfl⟩ rfl gn fun qb12 D =>
            j_aldn (pc := 96) D rfl rfl rfl fun D =>
            j_gfc (pc := 97) (a := 303) D rfl rfl (by decide) rfl (s0_303 H) rfl (sf_213_303 H) fun D =>
            j_gfc (pc := 100) (a := 309) D rfl rfl (by decide) rfl (s0_309 H) rfl (sf_122_309 H) fun D =>
            j_ildn (pc := 103) D rfl rfl rfl fun D =>
            j_ic (pc := 104) D rfl fun D =>
            j_iadd (pc := 105) D rfl fun D =>
            j_al (pc := 106) (a := 318) (e := 7) D rfl rfl rfl (by decide) (s0_318 H) (s1_318 H) ⟨rfl, rfl, rfl⟩ rfl gn fun qb13 D =>
            j_dcmpg (pc := 107) D rfl fun D =>
            j_ifge (pc := 108) D rfl (fun q D =>
              j_ic (pc := 111) D rfl fun D =>
              j_goto (pc := 112) D rfl <|
              have D : fk_D 342 [(144, none, .ireturn, 1, 0, 0, 0)] := fq_of2 cd_342 ow_342 cl_342 rfl (pc := 144) (by decide +kernel)
              j_iret D rt_342) (fun q =>
              have D : fk_D 342 [(115, none, .aload_n 0, 1, 0, 0, 0), (116, none, .getfield 113, 3, 213, 100, 12), (119, none, .getfield 87, 3, 122, 119, 12), (122, none, .iload_n 1, 1, 0, 0, 0), (123, none, .daload, 1, 0, 0, 0), (124, none, .aload_n 0, 1, 0, 0, 0), (125, none, .getfield 113, 3, 213, 100, 12), (128, none, .getfield 87, 3, 122, 119, 12), (131, none, .iload_n 1, 1, 0, 0, 0), (132, none, .iconst 1, 1, 0, 1, 0), (133, none, .iadd, 1, 0, 0, 0), (134, none, .daload, 1, 0, 0, 0), (135, none, .dcmp .l, 1, 0, 0, 0), (136, none, .ifCond .le 7, 3, 143, 0, 0), (139, none, .iconst 1, 1, 0, 1, 0), (140, none, .goto 4, 3, 144, 0, 0)] := fq_of2 cd_342 ow_342 cl_342 rfl (pc := 115) (by decide +kernel)
              j_aldn (pc := 115) D rfl rfl rfl fun D =>
              j_gfc (pc := 116) (a := 303) D rfl rfl (by decide) rfl (s0_303 H) rfl (sf_213_303 H) fun D =>
              j_gfc (pc := 119) (a := 309) D rfl rfl (by decide) rfl (s0_309 H) rfl (sf_122_309 H) fun D =>
              j_ildn (pc := 122) D rfl rfl rfl fun D =>
              j_al (pc := 123) (a := 318) (e := 7) D rfl rfl rfl (by decide) (s0_318 H) (s1_318 H) ⟨rfl, rfl, rfl⟩ rfl (gy qb12) fun q D =>
              j_aldn (pc := 124) D rfl rfl rfl fun D =>
              j_gfc (pc := 125) (a := 303) D rfl rfl (by decide) rfl (s0_303 H) rfl (sf_213_303 H) fun D =>
              j_gfc (pc := 128) (a := 309) D rfl rfl (by decide) rfl (s0_309 H) rfl (sf_122_309 H) fun D =>
              j_ildn (pc := 131) D rfl rfl rfl fun D =>
              j_ic (pc := 132) D rfl fun D =>
              j_iadd (pc := 133) D rfl fun D =>
              j_al (pc := 134) (a := 318) (e := 7) D rfl rfl rfl (by decide) (s0_318 H) (s1_318 H) ⟨rfl, rfl, rfl⟩ rfl (gy qb13) fun q D =>
              j_dcmpl (pc := 135) D rfl fun D =>
              j_ifle (pc := 136) D rfl (fun q D =>
                j_ic (pc := 139) D rfl fun D =>
                j_goto (pc := 140) D rfl <|
                have D : fk_D 342 [(144, none, .ireturn, 1, 0, 0, 0)] := fq_of2 cd_342 ow_342 cl_342 rfl (pc := 144) (by decide +kernel)
                j_iret D rt_342) (fun q =>
                have D : fk_D 342 [(143, none, .iconst 0, 1, 0, 0, 0), (144, none, .ireturn, 1, 0, 0, 0)] := fq_of2 cd_342 ow_342 cl_342 rfl (pc := 143) (by decide +kernel)
                j_ic (pc := 143) D rfl fun D =>
                j_iret D rt_342))) (fun N =>
            j_td (t := 145) D N rfl (by decide +kernel) (by decide +kernel) <|
            have D : fk_D 342 [(145, none, .aload_n 0, 1, 0, 0, 0), (146, none, .iload_n 1, 1, 0, 0, 0), (147, none, .aload_n 2, 1, 0, 0, 0), (148, none, .invokevirtual 150, 3, 2, 114, 2), (151, none, .aload_n 0, 1, 0, 0, 0), (152, none, .iload_n 1, 1, 0, 0, 0), (153, none, .iconst 1, 1, 0, 1, 0), (154, none, .iadd, 1, 0, 0, 0), (155, none, .aload_n 3, 1, 0, 0, 0), (156, none, .invokevirtual 153, 3, 2, 115, 2), (159, none, .lmul, 1, 0, 0, 0), (160, none, .aload_n 0, 1, 0, 0, 0), (161, none, .iload_n 1, 1, 0, 0, 0), (162, none, .iconst 1, 1, 0, 1, 0), (163, none, .iadd, 1, 0, 0, 0), (164, none, .aload_n 3, 1, 0, 0, 0), (165, none, .invokevirtual 150, 3, 2, 114, 2), (168, none, .aload_n 0, 1, 0, 0, 0), (169, none, .iload_n 1, 1, 0, 0, 0), (170, none, .aload_n 2, 1, 0, 0, 0)] := fq_of2 cd_342 ow_342 cl_342 rfl (pc := 145) (by decide +kernel)
            j_aldn (pc := 145) D rfl rfl rfl fun D =>
            j_ildn (pc := 146) D rfl rfl rfl fun D =>
            j_aldn (pc := 147) D rfl rfl rfl fun D =>
            j_iv (pc := 148) (m := 344) (dd := 114) (a := [(0, x1), (4, x2)]) (rest := []) D rfl rfl rfl rfl rfl (by decide) (s0_303 H) (by decide +kernel) (fun v15 h14 e1 D =>
              have T := fj_run_ok _ _ _ _ _ _ H.1 e1
              have H := shp_st H T
              j_aldn (pc := 151) D rfl rfl rfl fun D =>
              j_ildn (pc := 152) D rfl rfl rfl fun D =>
              j_ic (pc := 153) D rfl fun D =>
              j_iadd (pc := 154) D rfl fun D =>
              j_aldn (pc := 155) D rfl rfl rfl fun D =>
              j_iv (pc := 156) (m := 345) (dd := 115) (a := [(0, wI (x1 + 1)), (4, x3)]) (rest := [(1, v15)]) D rfl rfl rfl rfl rfl (by decide) (s0_303 H) (by decide +kernel) (fun v18 h17 e1 D =>
                have T := fj_run_ok _ _ _ _ _ _ H.1 e1
                have H := shp_st H T
                j_lmul (pc := 159) D rfl fun D =>
                j_aldn (pc := 160) D rfl rfl rfl fun D =>
                j_ildn (pc := 161) D rfl rfl rfl fun D =>
                j_ic (pc := 162) D rfl fun D =>
                j_iadd (pc := 163) D rfl fun D =>
                j_aldn (pc := 164) D rfl rfl rfl fun D =>
                j_iv (pc := 165) (m := 344) (dd := 114) (a := [(0, wI (x1 + 1)), (4, x3)]) (rest := [(1, wJ (v15 * v18))]) D rfl rfl rfl rfl rfl (by decide) (s0_303 H) (by decide +kernel) (fun v21 h20 e1 D =>
                  have T := fj_run_ok _ _ _ _ _ _ H.1 e1
                  have H := shp_st H T
                  j_aldn (pc := 168) D rfl rfl rfl fun D =>
                  j_ildn (pc := 169) D rfl rfl rfl fun D =>
                  j_aldn (pc := 170) D rfl rfl rfl fun D =>
                  have D : fk_D 342 [(171, none, .invokevirtual 153, 3, 2, 115, 2), (174, none, .lmul, 1, 0, 0, 0), (175, none, .lsub, 1, 0, 0, 0), (176, none, .invokestatic 146, 3, 1, 343, 1), (179, none, .ireturn, 1, 0, 0, 0)] := fq_of2 cd_342 ow_342 cl_342 rfl (pc := 171) (by decide +kernel)
                  j_iv (pc := 171) (m := 345) (dd := 115) (a := [(0, x1), (4, x2)]) (rest := [(1, v21), (1, wJ (v15 * v18))]) D rfl rfl rfl rfl rfl (by decide) (s0_303 H) (by decide +kernel) (fun v24 h23 e1 D =>
                    have T := fj_run_ok _ _ _ _ _ _ H.1 e1
                    have H := shp_st H T
                    j_lmul (pc := 174) D rfl fun D =>
                    j_lsub (pc := 175) D rfl fun D =>
                    j_is (pc := 176) (m := 343) (a := [(1, wJ ((wJ (v15 * v18)) - (wJ (v21 * v24))))]) (rest := []) D rfl rfl rfl rfl (fun v27 h26 e1 D =>
                      have T := fj_run_ok _ _ _ _ _ _ H.1 e1
                      have H := shp_st H T
                      j_iret D rt_342) (fun q28 h26 e1 =>
                      j_tx (hx_342 _))) (fun q25 h23 e1 =>
                    j_tx (hx_342 _))) (fun q22 h20 e1 =>
                  j_tx (hx_342 _))) (fun q19 h17 e1 =>
                j_tx (hx_342 _))) (fun q16 h14 e1 =>
              j_tx (hx_342 _)))))) (fun m4 q3 h1 e1 =>
      j_tx (hx_342 _))
/-! 343 StatuteHouse.sign(J)I -/
theorem cd_343 : fi_code 343 = prog_1_method_17_code := rfl
theorem hx_343 : ∀ pc, fi_hat 343 pc = none := fun pc => by unfold fi_hat; rw [show fi_hh 343 = [] from rfl]; rfl
theorem rt_343 : fi_ret 343 = some .int := rfl
theorem nl_343 : fi_nl 343 = 2 := rfl
theorem ow_343 : fi_ow 343 = 0 := rfl
theorem cl_343 : fj_cutT.getD 343 [] = [] := rfl
theorem m_343 (d : Nat) (x0 : Int) {h : fi_H} (H : Shp h) : fj_run (d + 1) 343 h [(1, x0)] =
  if lc_ x0 0 < 0 then
    some (.inl (some (0, (-1))), h)
  else
    if 0 < lc_ x0 0 then
      some (.inl (some (0, 1)), h)
    else
      some (.inl (some (0, 0)), h) := by
  rw [fj_run_eq d (by decide) h [(1, x0)] (Nat.le_of_ble_eq_true (by rw [nl_343]; rfl))]
  show gG (fj_run d) 343 0 [(0, (1, x0))] [] h = _
  exact
    have D : fk_D 343 [(0, none, .lload_n 0, 1, 0, 0, 0), (1, none, .lconst 0, 1, 0, 0, 0), (2, none, .lcmp, 1, 0, 0, 0), (3, none, .ifCond .ge 7, 3, 10, 0, 0), (6, none, .iconst (-1), 1, 0, (-1), 0), (7, none, .goto 14, 3, 21, 0, 0)] := fq_of2 cd_343 ow_343 cl_343 rfl (pc := 0) (by decide +kernel)
    j_lldn (pc := 0) D rfl rfl rfl fun D =>
    j_c0 (pc := 1) (v := (1, 0)) D rfl rfl (by decide +kernel) fun D =>
    j_lcmp (pc := 2) D rfl fun D =>
    j_ifge (pc := 3) D rfl (fun q D =>
      j_ic (pc := 6) D rfl fun D =>
      j_goto (pc := 7) D rfl <|
      have D : fk_D 343 [(21, none, .ireturn, 1, 0, 0, 0)] := fq_of2 cd_343 ow_343 cl_343 rfl (pc := 21) (by decide +kernel)
      j_iret D rt_343) (fun q =>
      have D : fk_D 343 [(10, none, .lload_n 0, 1, 0, 0, 0), (11, none, .lconst 0, 1, 0, 0, 0), (12, none, .lcmp, 1, 0, 0, 0), (13, none, .ifCond .le 7, 3, 20, 0, 0), (16, none, .iconst 1, 1, 0, 1, 0), (17, none, .goto 4, 3, 21, 0, 0)] := fq_of2 cd_343 ow_343 cl_343 rfl (pc := 10) (by decide +kernel)
      j_lldn (pc := 10) D rfl rfl rfl fun D =>
      j_c0 (pc := 11) (v := (1, 0)) D rfl rfl (by decide +kernel) fun D =>
      j_lcmp (pc := 12) D rfl fun D =>
      j_ifle (pc := 13) D rfl (fun q D =>
        j_ic (pc := 16) D rfl fun D =>
        j_goto (pc := 17) D rfl <|
        have D : fk_D 343 [(21, none, .ireturn, 1, 0, 0, 0)] := fq_of2 cd_343 ow_343 cl_343 rfl (pc := 21) (by decide +kernel)
        j_iret D rt_343) (fun q =>
        have D : fk_D 343 [(20, none, .iconst 0, 1, 0, 0, 0), (21, none, .ireturn, 1, 0, 0, 0)] := fq_of2 cd_343 ow_343 cl_343 rfl (pc := 20) (by decide +kernel)
        j_ic (pc := 20) D rfl fun D =>
        j_iret D rt_343))
