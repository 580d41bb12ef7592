/-! forms of methods 372..418, printed by gen/forms.py -/
set_option maxRecDepth 100000
/-! 372 StatuteHouse$Mode$2.rounded(JJ)J -/
theorem cd_372 : fi_code 372 = prog_43_method_2_code := rfl
theorem hx_372 : ∀ pc, fi_hat 372 pc = none := fun pc => by unfold fi_hat; rw [show fi_hh 372 = [] from rfl]; rfl
theorem rt_372 : fi_ret 372 = some .long := rfl
theorem nl_372 : fi_nl 372 = 5 := rfl
theorem ow_372 : fi_ow 372 = 61 := rfl
theorem cl_372 : fj_cutT.getD 372 [] = [] := rfl
theorem m_372 (d : Nat) (x0 x1 x3 : Int) {h : fi_H} {k0 : Int} (H : Shp h) (hk : h 0 x0.toNat 0 = k0) (hk0 : k0 ≠ 0) : fj_run (d + 1) 372 h [(4, x0), (1, x1), (1, x3)] =
  ca_ (fj_run d 373 h [(1, wJ (-x1)), (1, x3)]) 1
    (fun v2 h1 =>
    some (.inl (some (1, wJ (-(wJ (v2 * x3))))), h1))
    (fun q3 h1 => tx_ q3 h1) := by
  rw [fj_run_eq d (by decide) h [(4, x0), (1, x1), (1, x3)] (Nat.le_of_ble_eq_true (by rw [nl_372]; rfl))]
  show gG (fj_run d) 372 0 [(0, (4, x0)), (1, (1, x1)), (3, (1, x3))] [] h = _
  exact
    have D : fk_D 372 [(0, none, .lload_n 1, 1, 0, 0, 0), (1, none, .lneg, 1, 0, 0, 0), (2, none, .lload_n 3, 1, 0, 0, 0), (3, none, .invokestatic 7, 3, 2, 373, 2), (6, none, .lload_n 3, 1, 0, 0, 0), (7, none, .lmul, 1, 0, 0, 0), (8, none, .lneg, 1, 0, 0, 0), (9, none, .lreturn, 1, 0, 0, 0)] := fq_of2 cd_372 ow_372 cl_372 rfl (pc := 0) (by decide +kernel)
    j_lldn (pc := 0) D rfl rfl rfl fun D =>
    j_lneg (pc := 1) D rfl fun D =>
    j_lldn (pc := 2) D rfl rfl rfl fun D =>
    j_is (pc := 3) (m := 373) (a := [(1, wJ (-x1)), (1, x3)]) (rest := []) D rfl rfl rfl rfl (fun v2 h1 e1 D =>
      have T := fj_run_ok _ _ _ _ _ _ H.1 e1
      have hk := cls_st H.1 T.2 hk hk0
      have H := shp_st H T
      j_lldn (pc := 6) D rfl rfl rfl fun D =>
      j_lmul (pc := 7) D rfl fun D =>
      j_lneg (pc := 8) D rfl fun D =>
      j_lret D rt_372) (fun q3 h1 e1 =>
      j_tx (hx_372 _))
/-! 373 java/lang/Math.floorDiv(JJ)J -/
theorem cd_373 : fi_code 373 = prog_82_method_49_code := rfl
theorem hx_373 : ∀ pc, fi_hat 373 pc = none := fun pc => by unfold fi_hat; rw [show fi_hh 373 = [] from rfl]; rfl
theorem rt_373 : fi_ret 373 = some .long := rfl
theorem nl_373 : fi_nl 373 = 6 := rfl
theorem ow_373 : fi_ow 373 = 75 := rfl
theorem cl_373 : fj_cutT.getD 373 [] = [] := rfl
theorem m_373 (d : Nat) (x0 x2 : Int) {h : fi_H} (H : Shp h) : fj_run (d + 1) 373 h [(1, x0), (1, x2)] =
  if x2 = 0 then none else
  if lc_ (lx_ x0 x2) 0 < 0 then
    if lc_ (wJ ((lq_ x0 x2) * x2)) x0 = 0 then
      some (.inl (some (1, lq_ x0 x2)), h)
    else
      some (.inl (some (1, wJ ((lq_ x0 x2) - 1))), h)
  else
    some (.inl (some (1, lq_ x0 x2)), h) := by
  rw [fj_run_eq d (by decide) h [(1, x0), (1, x2)] (Nat.le_of_ble_eq_true (by rw [nl_373]; rfl))]
  show gG (fj_run d) 373 0 [(0, (1, x0)), (2, (1, x2))] [] h = _
  exact
    have D : fk_D 373 [(0, none, .lload_n 0, 1, 0, 0, 0), (1, none, .lload_n 2, 1, 0, 0, 0), (2, none, .ldiv, 1, 0, 0, 0), (3, none, .lstore 4, 2, 0, 0, 0), (5, none, .lload_n 0, 1, 0, 0, 0), (6, none, .lload_n 2, 1, 0, 0, 0), (7, none, .lxor, 1, 0, 0, 0), (8, none, .lconst 0, 1, 0, 0, 0), (9, none, .lcmp, 1, 0, 0, 0), (10, none, .ifCond .ge 17, 3, 27, 0, 0), (13, none, .lload 4, 2, 0, 0, 0), (15, none, .lload_n 2, 1, 0, 0, 0), (16, none, .lmul, 1, 0, 0, 0), (17, none, .lload_n 0, 1, 0, 0, 0), (18, none, .lcmp, 1, 0, 0, 0), (19, none, .ifCond .eq 8, 3, 27, 0, 0), (22, none, .lload 4, 2, 0, 0, 0), (24, none, .lconst 1, 1, 0, 0, 0), (25, none, .lsub, 1, 0, 0, 0), (26, none, .lreturn, 1, 0, 0, 0)] := fq_of2 cd_373 ow_373 cl_373 rfl (pc := 0) (by decide +kernel)
    j_lldn (pc := 0) D rfl rfl rfl fun D =>
    j_lldn (pc := 1) D rfl rfl rfl fun D =>
    j_ldiv (pc := 2) D rfl fun q D =>
    j_lst (pc := 3) (L' := [(4, (1, lq_ x0 x2)), (0, (1, x0)), (2, (1, x2))]) D rfl nl_373 rfl rfl fun D =>
    j_lldn (pc := 5) D rfl rfl rfl fun D =>
    j_lldn (pc := 6) D rfl rfl rfl fun D =>
    j_lxor (pc := 7) D rfl fun D =>
    j_c0 (pc := 8) (v := (1, 0)) D rfl rfl (by decide +kernel) fun D =>
    j_lcmp (pc := 9) D rfl fun D =>
    j_ifge (pc := 10) D rfl (fun q D =>
      j_lld (pc := 13) D rfl rfl rfl fun D =>
      j_lldn (pc := 15) D rfl rfl rfl fun D =>
      j_lmul (pc := 16) D rfl fun D =>
      j_lldn (pc := 17) D rfl rfl rfl fun D =>
      j_lcmp (pc := 18) D rfl fun D =>
      j_ifeq (pc := 19) D rfl (fun q =>
        have D : fk_D 373 [(27, none, .lload 4, 2, 0, 0, 0), (29, none, .lreturn, 1, 0, 0, 0)] := fq_of2 cd_373 ow_373 cl_373 rfl (pc := 27) (by decide +kernel)
        j_lld (pc := 27) D rfl rfl rfl fun D =>
        j_lret D rt_373) (fun q D =>
        j_lld (pc := 22) D rfl rfl rfl fun D =>
        j_c0 (pc := 24) (v := (1, 1)) D rfl rfl (by decide +kernel) fun D =>
        j_lsub (pc := 25) D rfl fun D =>
        j_lret D rt_373)) (fun q =>
      have D : fk_D 373 [(27, none, .lload 4, 2, 0, 0, 0), (29, none, .lreturn, 1, 0, 0, 0)] := fq_of2 cd_373 ow_373 cl_373 rfl (pc := 27) (by decide +kernel)
      j_lld (pc := 27) D rfl rfl rfl fun D =>
      j_lret D rt_373)
/-! 374 StatuteHouse$Mode$3.rounded(JJ)J -/
theorem cd_374 : fi_code 374 = prog_44_method_2_code := rfl
theorem hx_374 : ∀ pc, fi_hat 374 pc = none := fun pc => by unfold fi_hat; rw [show fi_hh 374 = [] from rfl]; rfl
theorem rt_374 : fi_ret 374 = some .long := rfl
theorem nl_374 : fi_nl 374 = 5 := rfl
theorem ow_374 : fi_ow 374 = 62 := rfl
theorem cl_374 : fj_cutT.getD 374 [] = [] := rfl
theorem m_374 (d : Nat) (x0 x1 x3 : Int) {h : fi_H} {k0 : Int} (H : Shp h) (hk : h 0 x0.toNat 0 = k0) (hk0 : k0 ≠ 0) : fj_run (d + 1) 374 h [(4, x0), (1, x1), (1, x3)] =
  ca_ (fj_run d 373 h [(1, x1), (1, x3)]) 1
    (fun v2 h1 =>
    some (.inl (some (1, wJ (v2 * x3))), h1))
    (fun q3 h1 => tx_ q3 h1) := by
  rw [fj_run_eq d (by decide) h [(4, x0), (1, x1), (1, x3)] (Nat.le_of_ble_eq_true (by rw [nl_374]; rfl))]
  show gG (fj_run d) 374 0 [(0, (4, x0)), (1, (1, x1)), (3, (1, x3))] [] h = _
  exact
    have D : fk_D 374 [(0, none, .lload_n 1, 1, 0, 0, 0), (1, none, .lload_n 3, 1, 0, 0, 0), (2, none, .invokestatic 7, 3, 2, 373, 2), (5, none, .lload_n 3, 1, 0, 0, 0), (6, none, .lmul, 1, 0, 0, 0), (7, none, .lreturn, 1, 0, 0, 0)] := fq_of2 cd_374 ow_374 cl_374 rfl (pc := 0) (by decide +kernel)
    j_lldn (pc := 0) D rfl rfl rfl fun D =>
    j_lldn (pc := 1) D rfl rfl rfl fun D =>
    j_is (pc := 2) (m := 373) (a := [(1, x1), (1, x3)]) (rest := []) D rfl rfl rfl rfl (fun v2 h1 e1 D =>
      have T := fj_run_ok _ _ _ _ _ _ H.1 e1
      have hk := cls_st H.1 T.2 hk hk0
      have H := shp_st H T
      j_lldn (pc := 5) D rfl rfl rfl fun D =>
      j_lmul (pc := 6) D rfl fun D =>
      j_lret D rt_374) (fun q3 h1 e1 =>
      j_tx (hx_374 _))
/-! 375 StatuteHouse$Mode$4.rounded(JJ)J -/
theorem cd_375 : fi_code 375 = prog_45_method_2_code := rfl
theorem hx_375 : ∀ pc, fi_hat 375 pc = none := fun pc => by unfold fi_hat; rw [show fi_hh 375 = [] from rfl]; rfl
theorem rt_375 : fi_ret 375 = some .long := rfl
theorem nl_375 : fi_nl 375 = 5 := rfl
theorem ow_375 : fi_ow 375 = 63 := rfl
theorem cl_375 : fj_cutT.getD 375 [] = [] := rfl
theorem m_375 (d : Nat) (x0 x1 x3 : Int) {h : fi_H} {k0 : Int} (H : Shp h) (hk : h 0 x0.toNat 0 = k0) (hk0 : k0 ≠ 0) : fj_run (d + 1) 375 h [(4, x0), (1, x1), (1, x3)] =
  ca_ (fj_run d 358 h [(1, x1), (1, x3)]) 1
    (fun v2 h1 =>
    some (.inl (some (1, wJ (v2 * x3))), h1))
    (fun q3 h1 => tx_ q3 h1) := by
  rw [fj_run_eq d (by decide) h [(4, x0), (1, x1), (1, x3)] (Nat.le_of_ble_eq_true (by rw [nl_375]; rfl))]
  show gG (fj_run d) 375 0 [(0, (4, x0)), (1, (1, x1)), (3, (1, x3))] [] h = _
  exact
    have D : fk_D 375 [(0, none, .lload_n 1, 1, 0, 0, 0), (1, none, .lload_n 3, 1, 0, 0, 0), (2, none, .invokestatic 7, 3, 2, 358, 2), (5, none, .lload_n 3, 1, 0, 0, 0), (6, none, .lmul, 1, 0, 0, 0), (7, none, .lreturn, 1, 0, 0, 0)] := fq_of2 cd_375 ow_375 cl_375 rfl (pc := 0) (by decide +kernel)
    j_lldn (pc := 0) D rfl rfl rfl fun D =>
    j_lldn (pc := 1) D rfl rfl rfl fun D =>
    j_is (pc := 2) (m := 358) (a := [(1, x1), (1, x3)]) (rest := []) D rfl rfl rfl rfl (fun v2 h1 e1 D =>
      have T := fj_run_ok _ _ _ _ _ _ H.1 e1
      have hk := cls_st H.1 T.2 hk hk0
      have H := shp_st H T
      j_lldn (pc := 5) D rfl rfl rfl fun D =>
      j_lmul (pc := 6) D rfl fun D =>
      j_lret D rt_375) (fun q3 h1 e1 =>
      j_tx (hx_375 _))
/-! 376 StatuteHouse$Mode$5.rounded(JJ)J -/
theorem cd_376 : fi_code 376 = prog_46_method_2_code := rfl
theorem hx_376 : ∀ pc, fi_hat 376 pc = none := fun pc => by unfold fi_hat; rw [show fi_hh 376 = [] from rfl]; rfl
theorem rt_376 : fi_ret 376 = some .long := rfl
theorem nl_376 : fi_nl 376 = 11 := rfl
theorem ow_376 : fi_ow 376 = 64 := rfl
theorem cl_376 : fj_cutT.getD 376 [] = [(51, [3, 5])] := rfl
theorem cut_376_51 : fj_cut 376 51 = some [3, 5] := by decide +kernel
noncomputable def c_376_51 (d : Nat) (x3 x5 : Int) (h : fi_H) : fk_R := gG (fj_run d) 376 51 [(3, (1, x3)), (5, (1, x5))] [] h
theorem e_376_51 (d : Nat) (x3 x5 : Int) {h : fi_H} (H : Shp h) : c_376_51 d x3 x5 h =
  some (.inl (some (1, wJ ((wJ (x5 + 1)) * x3))), h) := by
  unfold c_376_51
  exact
    have D : fk_D 376 [(51, some [3, 5], .lload 5, 2, 0, 0, 0), (53, none, .lconst 1, 1, 0, 0, 0), (54, none, .ladd, 1, 0, 0, 0), (55, none, .lload_n 3, 1, 0, 0, 0), (56, none, .lmul, 1, 0, 0, 0), (57, none, .lreturn, 1, 0, 0, 0)] := fq_of2 cd_376 ow_376 cl_376 rfl (pc := 51) (by decide +kernel)
    j_lld (pc := 51) D rfl rfl rfl fun D =>
    j_c0 (pc := 53) (v := (1, 1)) D rfl rfl (by decide +kernel) fun D =>
    j_ladd (pc := 54) D rfl fun D =>
    j_lldn (pc := 55) D rfl rfl rfl fun D =>
    j_lmul (pc := 56) D rfl fun D =>
    j_lret D rt_376
theorem m_376 (d : Nat) (x0 x1 x3 : Int) {h : fi_H} {k0 : Int} (H : Shp h) (hk : h 0 x0.toNat 0 = k0) (hk0 : k0 ≠ 0) : fj_run (d + 1) 376 h [(4, x0), (1, x1), (1, x3)] =
  ca_ (fj_run d 373 h [(1, x1), (1, x3)]) 1
    (fun v2 h1 =>
    if lc_ (wJ (x1 - (wJ (v2 * x3)))) (wJ (x3 - (wJ (x1 - (wJ (v2 * x3)))))) < 0 then
      some (.inl (some (1, wJ (v2 * x3))), h1)
    else
      if lc_ (wJ (x1 - (wJ (v2 * x3)))) (wJ (x3 - (wJ (x1 - (wJ (v2 * x3)))))) = 0 then
        if lc_ (la_ v2 1) 0 = 0 then
          some (.inl (some (1, wJ (v2 * x3))), h1)
        else
          c_376_51 d x3 v2 h1
      else
        c_376_51 d x3 v2 h1)
    (fun q3 h1 => tx_ q3 h1) := by
  rw [fj_run_eq d (by decide) h [(4, x0), (1, x1), (1, x3)] (Nat.le_of_ble_eq_true (by rw [nl_376]; rfl))]
  show gG (fj_run d) 376 0 [(0, (4, x0)), (1, (1, x1)), (3, (1, x3))] [] h = _
  exact
    have D : fk_D 376 [(0, none, .lload_n 1, 1, 0, 0, 0), (1, none, .lload_n 3, 1, 0, 0, 0), (2, none, .invokestatic 7, 3, 2, 373, 2), (5, none, .lstore 5, 2, 0, 0, 0), (7, none, .lload_n 1, 1, 0, 0, 0), (8, none, .lload 5, 2, 0, 0, 0), (10, none, .lload_n 3, 1, 0, 0, 0), (11, none, .lmul, 1, 0, 0, 0), (12, none, .lsub, 1, 0, 0, 0), (13, none, .lstore 7, 2, 0, 0, 0), (15, none, .lload_n 3, 1, 0, 0, 0), (16, none, .lload 7, 2, 0, 0, 0), (18, none, .lsub, 1, 0, 0, 0), (19, none, .lstore 9, 2, 0, 0, 0), (21, none, .lload 7, 2, 0, 0, 0), (23, none, .lload 9, 2, 0, 0, 0), (25, none, .lcmp, 1, 0, 0, 0), (26, none, .ifCond .lt 20, 3, 46, 0, 0), (29, none, .lload 7, 2, 0, 0, 0), (31, none, .lload 9, 2, 0, 0, 0)] := fq_of2 cd_376 ow_376 cl_376 rfl (pc := 0) (by decide +kernel)
    j_lldn (pc := 0) D rfl rfl rfl fun D =>
    j_lldn (pc := 1) D rfl rfl rfl fun D =>
    j_is (pc := 2) (m := 373) (a := [(1, x1), (1, x3)]) (rest := []) D rfl rfl rfl rfl (fun v2 h1 e1 D =>
      have T := fj_run_ok _ _ _ _ _ _ H.1 e1
      have hk := cls_st H.1 T.2 hk hk0
      have H := shp_st H T
      j_lst (pc := 5) (L' := [(5, (1, v2)), (0, (4, x0)), (1, (1, x1)), (3, (1, x3))]) D rfl nl_376 rfl rfl fun D =>
      j_lldn (pc := 7) D rfl rfl rfl fun D =>
      j_lld (pc := 8) D rfl rfl rfl fun D =>
      j_lldn (pc := 10) D rfl rfl rfl fun D =>
      j_lmul (pc := 11) D rfl fun D =>
      j_lsub (pc := 12) D rfl fun D =>
      j_lst (pc := 13) (L' := [(7, (1, wJ (x1 - (wJ (v2 * x3))))), (5, (1, v2)), (0, (4, x0)), (1, (1, x1)), (3, (1, x3))]) D rfl nl_376 rfl rfl fun D =>
      j_lldn (pc := 15) D rfl rfl rfl fun D =>
      j_lld (pc := 16) D rfl rfl rfl fun D =>
      j_lsub (pc := 18) D rfl fun D =>
      j_lst (pc := 19) (L' := [(9, (1, wJ (x3 - (wJ (x1 - (wJ (v2 * x3))))))), (7, (1, wJ (x1 - (wJ (v2 * x3))))), (5, (1, v2)), (0, (4, x0)), (1, (1, x1)), (3, (1, x3))]) D rfl nl_376 rfl rfl fun D =>
      j_lld (pc := 21) D rfl rfl rfl fun D =>
      j_lld (pc := 23) D rfl rfl rfl fun D =>
      j_lcmp (pc := 25) D rfl fun D =>
      j_iflt (pc := 26) D rfl (fun q =>
        have D : fk_D 376 [(46, none, .lload 5, 2, 0, 0, 0), (48, none, .goto 7, 3, 55, 0, 0)] := fq_of2 cd_376 ow_376 cl_376 rfl (pc := 46) (by decide +kernel)
        j_lld (pc := 46) D rfl rfl rfl fun D =>
        j_goto (pc := 48) D rfl <|
        have D : fk_D 376 [(55, none, .lload_n 3, 1, 0, 0, 0), (56, none, .lmul, 1, 0, 0, 0), (57, none, .lreturn, 1, 0, 0, 0)] := fq_of2 cd_376 ow_376 cl_376 rfl (pc := 55) (by decide +kernel)
        j_lldn (pc := 55) D rfl rfl rfl fun D =>
        j_lmul (pc := 56) D rfl fun D =>
        j_lret D rt_376) (fun q D =>
        j_lld (pc := 29) D rfl rfl rfl fun D =>
        j_lld (pc := 31) D rfl rfl rfl fun D =>
        have D : fk_D 376 [(33, none, .lcmp, 1, 0, 0, 0), (34, none, .ifCond .ne 17, 3, 51, 0, 0), (37, none, .lload 5, 2, 0, 0, 0), (39, none, .lconst 1, 1, 0, 0, 0), (40, none, .land, 1, 0, 0, 0), (41, none, .lconst 0, 1, 0, 0, 0), (42, none, .lcmp, 1, 0, 0, 0), (43, none, .ifCond .ne 8, 3, 51, 0, 0), (46, none, .lload 5, 2, 0, 0, 0), (48, none, .goto 7, 3, 55, 0, 0)] := fq_of2 cd_376 ow_376 cl_376 rfl (pc := 33) (by decide +kernel)
        j_lcmp (pc := 33) D rfl fun D =>
        j_ifne (pc := 34) D rfl (fun q D =>
          j_lld (pc := 37) D rfl rfl rfl fun D =>
          j_c0 (pc := 39) (v := (1, 1)) D rfl rfl (by decide +kernel) fun D =>
          j_land (pc := 40) D rfl fun D =>
          j_c0 (pc := 41) (v := (1, 0)) D rfl rfl (by decide +kernel) fun D =>
          j_lcmp (pc := 42) D rfl fun D =>
          j_ifne (pc := 43) D rfl (fun q D =>
            j_lld (pc := 46) D rfl rfl rfl fun D =>
            j_goto (pc := 48) D rfl <|
            have D : fk_D 376 [(55, none, .lload_n 3, 1, 0, 0, 0), (56, none, .lmul, 1, 0, 0, 0), (57, none, .lreturn, 1, 0, 0, 0)] := fq_of2 cd_376 ow_376 cl_376 rfl (pc := 55) (by decide +kernel)
            j_lldn (pc := 55) D rfl rfl rfl fun D =>
            j_lmul (pc := 56) D rfl fun D =>
            j_lret D rt_376) (fun q =>
            fk_jump cut_376_51 rfl rfl)) (fun q =>
          fk_jump cut_376_51 rfl rfl))) (fun q3 h1 e1 =>
      j_tx (hx_376 _))
/-! 377 StatuteHouse$Function$11.work(LStatuteHouse;ILStatuteHouse$Kind;)V -/
theorem cd_377 : fi_code 377 = prog_15_method_3_code := rfl
theorem hx_377 : ∀ pc, fi_hat 377 pc = none := fun pc => by unfold fi_hat; rw [show fi_hh 377 = [] from rfl]; rfl
theorem rt_377 : fi_ret 377 = none := rfl
theorem nl_377 : fi_nl 377 = 4 := rfl
theorem ow_377 : fi_ow 377 = 37 := rfl
theorem cl_377 : fj_cutT.getD 377 [] = [] := rfl
theorem m_377 (d : Nat) (x0 x1 x2 x3 : Int) {h : fi_H} {k0 : Int} (H : Shp h) (hk : h 0 x0.toNat 0 = k0) (hk0 : k0 ≠ 0) : fj_run (d + 1) 377 h [(4, x0), (4, x1), (0, x2), (4, x3)] =
  if h 0 x1.toNat 0 = 100 then
  if h 0 (h 213 x1.toNat 0).toNat 0 = 119 then
  if h 0 (h 115 (h 213 x1.toNat 0).toNat 0).toNat 0 = 10 ∧ 0 ≤ x2 ∧ x2 < h 1 (h 115 (h 213 x1.toNat 0).toNat 0).toNat 0 then
  if h 0 (h 115 (h 213 x1.toNat 0).toNat 0).toNat 0 = 10 ∧ 0 ≤ wI (x2 + 1) ∧ wI (x2 + 1) < h 1 (h 115 (h 213 x1.toNat 0).toNat 0).toNat 0 then
  if h 0 (h 115 (h 213 x1.toNat 0).toNat 0).toNat 0 = 10 ∧ 0 ≤ wI (x2 + 2) ∧ wI (x2 + 2) < h 1 (h 115 (h 213 x1.toNat 0).toNat 0).toNat 0 then
  ca_ (fj_run d 156 h [(1, wI (h 10 (h 115 (h 213 x1.toNat 0).toNat 0).toNat x2.toNat)), (1, wI (h 10 (h 115 (h 213 x1.toNat 0).toNat 0).toNat (wI (x2 + 1)).toNat)), (1, wI (h 10 (h 115 (h 213 x1.toNat 0).toNat 0).toNat (wI (x2 + 2)).toNat))]) 0
    (fun v4 h3 =>
    cv_ (fj_run d 352 h3 [(4, x1), (0, x2), (0, v4)])
      (fun h6 =>
      some (.inl none, h6))
      (fun q8 h6 => tx_ q8 h6))
    (fun q5 h3 => tx_ q5 h3)
  else none
  else none
  else none
  else none
  else none := by
  rw [fj_run_eq d (by decide) h [(4, x0), (4, x1), (0, x2), (4, x3)] (Nat.le_of_ble_eq_true (by rw [nl_377]; rfl))]
  show gG (fj_run d) 377 0 [(0, (4, x0)), (1, (4, x1)), (2, (0, x2)), (3, (4, x3))] [] h = _
  exact
    have D : fk_D 377 [(0, none, .aload_n 1, 1, 0, 0, 0), (1, none, .iload_n 2, 1, 0, 0, 0), (2, none, .aload_n 1, 1, 0, 0, 0), (3, none, .getfield 16, 3, 213, (-100), 12), (6, none, .getfield 22, 3, 115, (-119), 12), (9, none, .iload_n 2, 1, 0, 0, 0), (10, none, .iaload, 1, 0, 0, 0), (11, none, .i2l, 1, 0, 0, 0), (12, none, .aload_n 1, 1, 0, 0, 0), (13, none, .getfield 16, 3, 213, 100, 12), (16, none, .getfield 22, 3, 115, 119, 12), (19, none, .iload_n 2, 1, 0, 0, 0), (20, none, .iconst 1, 1, 0, 1, 0), (21, none, .iadd, 1, 0, 0, 0), (22, none, .iaload, 1, 0, 0, 0), (23, none, .i2l, 1, 0, 0, 0), (24, none, .aload_n 1, 1, 0, 0, 0), (25, none, .getfield 16, 3, 213, 100, 12), (28, none, .getfield 22, 3, 115, 119, 12), (31, none, .iload_n 2, 1, 0, 0, 0)] := fq_of2 cd_377 ow_377 cl_377 rfl (pc := 0) (by decide +kernel)
    j_aldn (pc := 0) D rfl rfl rfl fun D =>
    j_ildn (pc := 1) D rfl rfl rfl fun D =>
    j_aldn (pc := 2) D rfl rfl rfl fun D =>
    j_gfo (pc := 3) H.2.1 D rfl rfl rfl rfl fun kc1 D =>
    j_gfo (pc := 6) H.2.1 D rfl rfl rfl rfl fun kc2 D =>
    j_ildn (pc := 9) D rfl rfl rfl fun D =>
    j_alp (pc := 10) (e := 10) H.2.1 D rfl rfl ⟨rfl, rfl, rfl⟩ rfl fun q q2 D =>
    j_i2l (pc := 11) D rfl fun D =>
    j_aldn (pc := 12) D rfl rfl rfl fun D =>
    j_gf (pc := 13) (a := x1.toNat) D rfl rfl (nz_cls H.2.1 kc1 (by decide)) rfl kc1 rfl fun D =>
    j_gf (pc := 16) (a := (h 213 x1.toNat 0).toNat) D rfl rfl (nz_cls H.2.1 kc2 (by decide)) rfl kc2 rfl fun D =>
    j_ildn (pc := 19) D rfl rfl rfl fun D =>
    j_ic (pc := 20) D rfl fun D =>
    j_iadd (pc := 21) D rfl fun D =>
    j_alp (pc := 22) (e := 10) H.2.1 D rfl rfl ⟨rfl, rfl, rfl⟩ rfl fun q q2 D =>
    j_i2l (pc := 23) D rfl fun D =>
    j_aldn (pc := 24) D rfl rfl rfl fun D =>
    j_gf (pc := 25) (a := x1.toNat) D rfl rfl (nz_cls H.2.1 kc1 (by decide)) rfl kc1 rfl fun D =>
    j_gf (pc := 28) (a := (h 213 x1.toNat 0).toNat) D rfl rfl (nz_cls H.2.1 kc2 (by decide)) rfl kc2 rfl fun D =>
    j_ildn (pc := 31) D rfl rfl rfl fun D =>
    have D : fk_D 377 [(32, none, .iconst 2, 1, 0, 2, 0), (33, none, .iadd, 1, 0, 0, 0), (34, none, .iaload, 1, 0, 0, 0), (35, none, .i2l, 1, 0, 0, 0), (36, none, .invokestatic 28, 3, 3, 156, 1), (39, none, .invokevirtual 34, 3, 2, 120, 0), (42, none, .return_, 1, 0, 0, 0)] := fq_of2 cd_377 ow_377 cl_377 rfl (pc := 32) (by decide +kernel)
    j_ic (pc := 32) D rfl fun D =>
    j_iadd (pc := 33) D rfl fun D =>
    j_alp (pc := 34) (e := 10) H.2.1 D rfl rfl ⟨rfl, rfl, rfl⟩ rfl fun q q2 D =>
    j_i2l (pc := 35) D rfl fun D =>
    j_is (pc := 36) (m := 156) (a := [(1, wI (h 10 (h 115 (h 213 x1.toNat 0).toNat 0).toNat x2.toNat)), (1, wI (h 10 (h 115 (h 213 x1.toNat 0).toNat 0).toNat (wI (x2 + 1)).toNat)), (1, wI (h 10 (h 115 (h 213 x1.toNat 0).toNat 0).toNat (wI (x2 + 2)).toNat))]) (rest := [(0, x2), (4, x1)]) D rfl rfl rfl rfl (fun v4 h3 e1 D =>
      have T := fj_run_ok _ _ _ _ _ _ H.1 e1
      have hk := cls_st H.1 T.2 hk hk0
      have kc1 := cls_st H.1 T.2 kc1 (by decide)
      have H := shp_st H T
      j_ivv (pc := 39) (m := 352) (dd := 120) (a := [(0, x2), (0, v4)]) (rest := []) D rfl rfl rfl rfl rfl (nz_cls H.2.1 kc1 (by decide)) kc1 (by decide +kernel) (fun h6 e1 D =>
        have T := fj_run_ok _ _ _ _ _ _ H.1 e1
        have hk := cls_st H.1 T.2 hk hk0
        have kc1 := cls_st H.1 T.2 kc1 (by decide)
        have H := shp_st H T
        j_vret D rt_377) (fun q8 h6 e1 =>
        j_tx (hx_377 _))) (fun q5 h3 e1 =>
      j_tx (hx_377 _))
/-! 378 StatuteHouse$Function$12.work(LStatuteHouse;ILStatuteHouse$Kind;)V -/
theorem cd_378 : fi_code 378 = prog_16_method_3_code := rfl
theorem hx_378 : ∀ pc, fi_hat 378 pc = none := fun pc => by unfold fi_hat; rw [show fi_hh 378 = [] from rfl]; rfl
theorem rt_378 : fi_ret 378 = none := rfl
theorem nl_378 : fi_nl 378 = 4 := rfl
theorem ow_378 : fi_ow 378 = 38 := rfl
theorem cl_378 : fj_cutT.getD 378 [] = [] := rfl
theorem m_378 (d : Nat) (x0 x1 x2 x3 : Int) {h : fi_H} {k0 : Int} (H : Shp h) (hk : h 0 x0.toNat 0 = k0) (hk0 : k0 ≠ 0) : fj_run (d + 1) 378 h [(4, x0), (4, x1), (0, x2), (4, x3)] =
  if h 0 x1.toNat 0 = 100 then
  if h 0 (h 213 x1.toNat 0).toNat 0 = 119 then
  if h 0 (h 120 (h 213 x1.toNat 0).toNat 0).toNat 0 = 5 ∧ 0 ≤ x2 ∧ x2 < h 1 (h 120 (h 213 x1.toNat 0).toNat 0).toNat 0 then
  dv_ (fi_vt 193 (h 0 (h 209 x1.toNat 0).toNat 0)) fun m6 => ca_ (fj_run d m6 h [(4, h 209 x1.toNat 0), (0, h 5 (h 120 (h 213 x1.toNat 0).toNat 0).toNat x2.toNat)]) 0
    (fun v4 h3 =>
    cv_ (fj_run d 352 h3 [(4, x1), (0, x2), (0, v4)])
      (fun h7 =>
      some (.inl none, h7))
      (fun q9 h7 => tx_ q9 h7))
    (fun q5 h3 => tx_ q5 h3)
  else none
  else none
  else none := by
  rw [fj_run_eq d (by decide) h [(4, x0), (4, x1), (0, x2), (4, x3)] (Nat.le_of_ble_eq_true (by rw [nl_378]; rfl))]
  show gG (fj_run d) 378 0 [(0, (4, x0)), (1, (4, x1)), (2, (0, x2)), (3, (4, x3))] [] h = _
  exact
    have D : fk_D 378 [(0, none, .aload_n 1, 1, 0, 0, 0), (1, none, .iload_n 2, 1, 0, 0, 0), (2, none, .aload_n 1, 1, 0, 0, 0), (3, none, .getfield 13, 3, 209, (-100), 12), (6, none, .aload_n 1, 1, 0, 0, 0), (7, none, .getfield 19, 3, 213, 100, 12), (10, none, .getfield 23, 3, 120, (-119), 12), (13, none, .iload_n 2, 1, 0, 0, 0), (14, none, .caload, 1, 0, 0, 0), (15, none, .invokevirtual 29, 3, 1, 193, 1), (18, none, .invokevirtual 35, 3, 2, 120, 0), (21, none, .return_, 1, 0, 0, 0)] := fq_of2 cd_378 ow_378 cl_378 rfl (pc := 0) (by decide +kernel)
    j_aldn (pc := 0) D rfl rfl rfl fun D =>
    j_ildn (pc := 1) D rfl rfl rfl fun D =>
    j_aldn (pc := 2) D rfl rfl rfl fun D =>
    j_gfo (pc := 3) H.2.1 D rfl rfl rfl rfl fun kc1 D =>
    j_aldn (pc := 6) D rfl rfl rfl fun D =>
    j_gf (pc := 7) (a := x1.toNat) D rfl rfl (nz_cls H.2.1 kc1 (by decide)) rfl kc1 rfl fun D =>
    j_gfo (pc := 10) H.2.1 D rfl rfl rfl rfl fun kc2 D =>
    j_ildn (pc := 13) D rfl rfl rfl fun D =>
    j_alp (pc := 14) (e := 5) H.2.1 D rfl rfl ⟨rfl, rfl, rfl⟩ rfl fun q q2 D =>
    j_ivu (pc := 15) (dd := 193) (a := [(0, h 5 (h 120 (h 213 x1.toNat 0).toNat 0).toNat x2.toNat)]) (rest := [(0, x2), (4, x1)]) H.2.1 D rfl rfl rfl rfl rfl (fun m6 v4 h3 e1 D =>
      have T := fj_run_ok _ _ _ _ _ _ H.1 e1
      have hk := cls_st H.1 T.2 hk hk0
      have kc1 := cls_st H.1 T.2 kc1 (by decide)
      have H := shp_st H T
      j_ivv (pc := 18) (m := 352) (dd := 120) (a := [(0, x2), (0, v4)]) (rest := []) D rfl rfl rfl rfl rfl (nz_cls H.2.1 kc1 (by decide)) kc1 (by decide +kernel) (fun h7 e1 D =>
        have T := fj_run_ok _ _ _ _ _ _ H.1 e1
        have hk := cls_st H.1 T.2 hk hk0
        have kc1 := cls_st H.1 T.2 kc1 (by decide)
        have H := shp_st H T
        j_vret D rt_378) (fun q9 h7 e1 =>
        j_tx (hx_378 _))) (fun m6 q5 h3 e1 =>
      j_tx (hx_378 _))
/-! 379 StatuteHouse$Function$13.work(LStatuteHouse;ILStatuteHouse$Kind;)V -/
theorem cd_379 : fi_code 379 = prog_17_method_3_code := rfl
theorem hx_379 : ∀ pc, fi_hat 379 pc = none := fun pc => by unfold fi_hat; rw [show fi_hh 379 = [] from rfl]; rfl
theorem rt_379 : fi_ret 379 = none := rfl
theorem nl_379 : fi_nl 379 = 5 := rfl
theorem ow_379 : fi_ow 379 = 39 := rfl
theorem cl_379 : fj_cutT.getD 379 [] = [] := rfl
theorem m_379 (d : Nat) (x0 x1 x2 x3 : Int) {h : fi_H} {k0 : Int} (H : Shp h) (hk : h 0 x0.toNat 0 = k0) (hk0 : k0 ≠ 0) : fj_run (d + 1) 379 h [(4, x0), (4, x1), (0, x2), (4, x3)] =
  if h 0 x1.toNat 0 = 100 then
  if h 0 (h 213 x1.toNat 0).toNat 0 = 119 then
  if h 0 (h 120 (h 213 x1.toNat 0).toNat 0).toNat 0 = 5 ∧ 0 ≤ x2 ∧ x2 < h 1 (h 120 (h 213 x1.toNat 0).toNat 0).toNat 0 then
  dv_ (fi_vt 193 (h 0 (h 209 x1.toNat 0).toNat 0)) fun m6 => ca_ (fj_run d m6 h [(4, h 209 x1.toNat 0), (0, h 5 (h 120 (h 213 x1.toNat 0).toNat 0).toNat x2.toNat)]) 0
    (fun v4 h3 =>
    if h3 0 (h3 209 x1.toNat 0).toNat 0 = 101 then
    ca_ (fj_run d 157 h3 [(0, h3 111 (h3 209 x1.toNat 0).toNat 0), (0, h3 112 (h3 209 x1.toNat 0).toNat 0)]) 0
      (fun v9 h8 =>
      cv_ (fj_run d 352 h8 [(4, x1), (0, x2), (0, wI ((wI (v4 + v9)) - 1))])
        (fun h11 =>
        some (.inl none, h11))
        (fun q13 h11 => tx_ q13 h11))
      (fun q10 h8 => tx_ q10 h8)
    else none)
    (fun q5 h3 => tx_ q5 h3)
  else none
  else none
  else none := by
  rw [fj_run_eq d (by decide) h [(4, x0), (4, x1), (0, x2), (4, x3)] (Nat.le_of_ble_eq_true (by rw [nl_379]; rfl))]
  show gG (fj_run d) 379 0 [(0, (4, x0)), (1, (4, x1)), (2, (0, x2)), (3, (4, x3))] [] h = _
  exact
    have D : fk_D 379 [(0, none, .aload_n 1, 1, 0, 0, 0), (1, none, .getfield 13, 3, 209, (-100), 12), (4, none, .aload_n 1, 1, 0, 0, 0), (5, none, .getfield 19, 3, 213, 100, 12), (8, none, .getfield 23, 3, 120, (-119), 12), (11, none, .iload_n 2, 1, 0, 0, 0), (12, none, .caload, 1, 0, 0, 0), (13, none, .invokevirtual 29, 3, 1, 193, 1), (16, none, .istore 4, 2, 0, 0, 0), (18, none, .aload_n 1, 1, 0, 0, 0), (19, none, .iload_n 2, 1, 0, 0, 0), (20, none, .iload 4, 2, 0, 0, 0), (22, none, .aload_n 1, 1, 0, 0, 0), (23, none, .getfield 13, 3, 209, 100, 12), (26, none, .getfield 35, 3, 111, (-101), 10), (29, none, .aload_n 1, 1, 0, 0, 0), (30, none, .getfield 13, 3, 209, 100, 12), (33, none, .getfield 39, 3, 112, 101, 10), (36, none, .invokestatic 42, 3, 2, 157, 1), (39, none, .iadd, 1, 0, 0, 0)] := fq_of2 cd_379 ow_379 cl_379 rfl (pc := 0) (by decide +kernel)
    j_aldn (pc := 0) D rfl rfl rfl fun D =>
    j_gfo (pc := 1) H.2.1 D rfl rfl rfl rfl fun kc1 D =>
    j_aldn (pc := 4) D rfl rfl rfl fun D =>
    j_gf (pc := 5) (a := x1.toNat) D rfl rfl (nz_cls H.2.1 kc1 (by decide)) rfl kc1 rfl fun D =>
    j_gfo (pc := 8) H.2.1 D rfl rfl rfl rfl fun kc2 D =>
    j_ildn (pc := 11) D rfl rfl rfl fun D =>
    j_alp (pc := 12) (e := 5) H.2.1 D rfl rfl ⟨rfl, rfl, rfl⟩ rfl fun q q2 D =>
    j_ivu (pc := 13) (dd := 193) (a := [(0, h 5 (h 120 (h 213 x1.toNat 0).toNat 0).toNat x2.toNat)]) (rest := []) H.2.1 D rfl rfl rfl rfl rfl (fun m6 v4 h3 e1 D =>
      have T := fj_run_ok _ _ _ _ _ _ H.1 e1
      have hk := cls_st H.1 T.2 hk hk0
      have kc1 := cls_st H.1 T.2 kc1 (by decide)
      have H := shp_st H T
      j_ist (pc := 16) (L' := [(4, (0, v4)), (0, (4, x0)), (1, (4, x1)), (2, (0, x2)), (3, (4, x3))]) D rfl nl_379 rfl rfl fun D =>
      j_aldn (pc := 18) D rfl rfl rfl fun D =>
      j_ildn (pc := 19) D rfl rfl rfl fun D =>
      j_ild (pc := 20) D rfl rfl rfl fun D =>
      j_aldn (pc := 22) D rfl rfl rfl fun D =>
      j_gf (pc := 23) (a := x1.toNat) D rfl rfl (nz_cls H.2.1 kc1 (by decide)) rfl kc1 rfl fun D =>
      j_gfo (pc := 26) H.2.1 D rfl rfl rfl rfl fun kc7 D =>
      j_aldn (pc := 29) D rfl rfl rfl fun D =>
      j_gf (pc := 30) (a := x1.toNat) D rfl rfl (nz_cls H.2.1 kc1 (by decide)) rfl kc1 rfl fun D =>
      j_gf (pc := 33) (a := (h3 209 x1.toNat 0).toNat) D rfl rfl (nz_cls H.2.1 kc7 (by decide)) rfl kc7 rfl fun D =>
      j_is (pc := 36) (m := 157) (a := [(0, h3 111 (h3 209 x1.toNat 0).toNat 0), (0, h3 112 (h3 209 x1.toNat 0).toNat 0)]) (rest := [(0, v4), (0, x2), (4, x1)]) D rfl rfl rfl rfl (fun v9 h8 e1 D =>
        have T := fj_run_ok _ _ _ _ _ _ H.1 e1
        have hk := cls_st H.1 T.2 hk hk0
        have kc1 := cls_st H.1 T.2 kc1 (by decide)
        have H := shp_st H T
        j_iadd (pc := 39) D rfl fun D =>
        have D : fk_D 379 [(40, none, .iconst 1, 1, 0, 1, 0), (41, none, .isub, 1, 0, 0, 0), (42, none, .invokevirtual 46, 3, 2, 120, 0), (45, none, .return_, 1, 0, 0, 0)] := fq_of2 cd_379 ow_379 cl_379 rfl (pc := 40) (by decide +kernel)
        j_ic (pc := 40) D rfl fun D =>
        j_isub (pc := 41) D rfl fun D =>
        j_ivv (pc := 42) (m := 352) (dd := 120) (a := [(0, x2), (0, wI ((wI (v4 + v9)) - 1))]) (rest := []) D rfl rfl rfl rfl rfl (nz_cls H.2.1 kc1 (by decide)) kc1 (by decide +kernel) (fun h11 e1 D =>
          have T := fj_run_ok _ _ _ _ _ _ H.1 e1
          have hk := cls_st H.1 T.2 hk hk0
          have kc1 := cls_st H.1 T.2 kc1 (by decide)
          have H := shp_st H T
          j_vret D rt_379) (fun q13 h11 e1 =>
          j_tx (hx_379 _))) (fun q10 h8 e1 =>
        j_tx (hx_379 _))) (fun m6 q5 h3 e1 =>
      j_tx (hx_379 _))
/-! 380 StatuteHouse$Function$14.work(LStatuteHouse;ILStatuteHouse$Kind;)V -/
theorem cd_380 : fi_code 380 = prog_18_method_3_code := rfl
theorem hx_380 : ∀ pc, fi_hat 380 pc = none := fun pc => by unfold fi_hat; rw [show fi_hh 380 = [] from rfl]; rfl
theorem rt_380 : fi_ret 380 = none := rfl
theorem nl_380 : fi_nl 380 = 4 := rfl
theorem ow_380 : fi_ow 380 = 40 := rfl
theorem cl_380 : fj_cutT.getD 380 [] = [] := rfl
theorem m_380 (d : Nat) (x0 x1 x2 x3 : Int) {h : fi_H} {k0 : Int} (H : Shp h) (hk : h 0 x0.toNat 0 = k0) (hk0 : k0 ≠ 0) : fj_run (d + 1) 380 h [(4, x0), (4, x1), (0, x2), (4, x3)] =
  if h 0 x1.toNat 0 = 100 then
  if h 0 (h 213 x1.toNat 0).toNat 0 = 119 then
  if h 0 (h 120 (h 213 x1.toNat 0).toNat 0).toNat 0 = 5 ∧ 0 ≤ x2 ∧ x2 < h 1 (h 120 (h 213 x1.toNat 0).toNat 0).toNat 0 then
  dv_ (fi_vt 108 (h 0 (h 209 x1.toNat 0).toNat 0)) fun m6 => cv_ (fj_run d m6 h [(4, h 209 x1.toNat 0), (0, h 5 (h 120 (h 213 x1.toNat 0).toNat 0).toNat x2.toNat)])
    (fun h3 =>
    if h3 0 (h3 213 x1.toNat 0).toNat 0 = 119 then
    if h3 0 (h3 209 x1.toNat 0).toNat 0 = 101 then
    if 302 < h3 115 (h3 213 x1.toNat 0).toNat 0 ∧ h3 0 (h3 115 (h3 213 x1.toNat 0).toNat 0).toNat 0 = 10 then
    if 0 ≤ x2 ∧ x2 < h3 1 (h3 115 (h3 213 x1.toNat 0).toNat 0).toNat 0 then
    lt_ (fi_upd h3 10 (h3 115 (h3 213 x1.toNat 0).toNat 0).toNat x2.toNat (h3 111 (h3 209 x1.toNat 0).toNat 0)) fun h9 =>
    some (.inl none, h9)
    else none
    else none
    else none
    else none)
    (fun q5 h3 => tx_ q5 h3)
  else none
  else none
  else none := by
  rw [fj_run_eq d (by decide) h [(4, x0), (4, x1), (0, x2), (4, x3)] (Nat.le_of_ble_eq_true (by rw [nl_380]; rfl))]
  show gG (fj_run d) 380 0 [(0, (4, x0)), (1, (4, x1)), (2, (0, x2)), (3, (4, x3))] [] h = _
  exact
    have D : fk_D 380 [(0, none, .aload_n 1, 1, 0, 0, 0), (1, none, .getfield 16, 3, 209, (-100), 12), (4, none, .aload_n 1, 1, 0, 0, 0), (5, none, .getfield 22, 3, 213, 100, 12), (8, none, .getfield 26, 3, 120, (-119), 12), (11, none, .iload_n 2, 1, 0, 0, 0), (12, none, .caload, 1, 0, 0, 0), (13, none, .invokevirtual 32, 3, 1, 108, 0), (16, none, .aload_n 1, 1, 0, 0, 0), (17, none, .getfield 22, 3, 213, 100, 12), (20, none, .getfield 38, 3, 115, (-119), 12), (23, none, .iload_n 2, 1, 0, 0, 0), (24, none, .aload_n 1, 1, 0, 0, 0), (25, none, .getfield 16, 3, 209, 100, 12), (28, none, .getfield 42, 3, 111, (-101), 10), (31, none, .iastore, 1, 0, 0, 0), (32, none, .return_, 1, 0, 0, 0)] := fq_of2 cd_380 ow_380 cl_380 rfl (pc := 0) (by decide +kernel)
    j_aldn (pc := 0) D rfl rfl rfl fun D =>
    j_gfo (pc := 1) H.2.1 D rfl rfl rfl rfl fun kc1 D =>
    j_aldn (pc := 4) D rfl rfl rfl fun D =>
    j_gf (pc := 5) (a := x1.toNat) D rfl rfl (nz_cls H.2.1 kc1 (by decide)) rfl kc1 rfl fun D =>
    j_gfo (pc := 8) H.2.1 D rfl rfl rfl rfl fun kc2 D =>
    j_ildn (pc := 11) D rfl rfl rfl fun D =>
    j_alp (pc := 12) (e := 5) H.2.1 D rfl rfl ⟨rfl, rfl, rfl⟩ rfl fun q q2 D =>
    j_ivuv (pc := 13) (dd := 108) (a := [(0, h 5 (h 120 (h 213 x1.toNat 0).toNat 0).toNat x2.toNat)]) (rest := []) H.2.1 D rfl rfl rfl rfl rfl (fun m6 h3 e1 D =>
      have T := fj_run_ok _ _ _ _ _ _ H.1 e1
      have hk := cls_st H.1 T.2 hk hk0
      have kc1 := cls_st H.1 T.2 kc1 (by decide)
      have H := shp_st H T
      j_aldn (pc := 16) D rfl rfl rfl fun D =>
      j_gf (pc := 17) (a := x1.toNat) D rfl rfl (nz_cls H.2.1 kc1 (by decide)) rfl kc1 rfl fun D =>
      j_gfo (pc := 20) H.2.1 D rfl rfl rfl rfl fun kc7 D =>
      j_ildn (pc := 23) D rfl rfl rfl fun D =>
      j_aldn (pc := 24) D rfl rfl rfl fun D =>
      j_gf (pc := 25) (a := x1.toNat) D rfl rfl (nz_cls H.2.1 kc1 (by decide)) rfl kc1 rfl fun D =>
      j_gfo (pc := 28) H.2.1 D rfl rfl rfl rfl fun kc8 D =>
      j_asu (pc := 31) (e := 10) D rfl rfl ⟨rfl, rfl, rfl⟩ rfl gn gn (gy rfl) fun h9 eh9 S q q2 D =>
      have T := fj_hs_ok H.1 S
      have hk := cls_st H.1 T.2 hk hk0
      have kc1 := cls_st H.1 T.2 kc1 (by decide)
      have H := shp_st H T
      j_vret D rt_380) (fun m6 q5 h3 e1 =>
      j_tx (hx_380 _))
/-! 381 StatuteHouse$Function$15.work(LStatuteHouse;ILStatuteHouse$Kind;)V -/
theorem cd_381 : fi_code 381 = prog_19_method_3_code := rfl
theorem hx_381 : ∀ pc, fi_hat 381 pc = none := fun pc => by unfold fi_hat; rw [show fi_hh 381 = [] from rfl]; rfl
theorem rt_381 : fi_ret 381 = none := rfl
theorem nl_381 : fi_nl 381 = 4 := rfl
theorem ow_381 : fi_ow 381 = 41 := rfl
theorem cl_381 : fj_cutT.getD 381 [] = [] := rfl
theorem m_381 (d : Nat) (x0 x1 x2 x3 : Int) {h : fi_H} {k0 : Int} (H : Shp h) (hk : h 0 x0.toNat 0 = k0) (hk0 : k0 ≠ 0) : fj_run (d + 1) 381 h [(4, x0), (4, x1), (0, x2), (4, x3)] =
  if h 0 x1.toNat 0 = 100 then
  if h 0 (h 213 x1.toNat 0).toNat 0 = 119 then
  if h 0 (h 120 (h 213 x1.toNat 0).toNat 0).toNat 0 = 5 ∧ 0 ≤ x2 ∧ x2 < h 1 (h 120 (h 213 x1.toNat 0).toNat 0).toNat 0 then
  dv_ (fi_vt 108 (h 0 (h 209 x1.toNat 0).toNat 0)) fun m6 => cv_ (fj_run d m6 h [(4, h 209 x1.toNat 0), (0, h 5 (h 120 (h 213 x1.toNat 0).toNat 0).toNat x2.toNat)])
    (fun h3 =>
    if h3 0 (h3 213 x1.toNat 0).toNat 0 = 119 then
    if h3 0 (h3 209 x1.toNat 0).toNat 0 = 101 then
    if 302 < h3 115 (h3 213 x1.toNat 0).toNat 0 ∧ h3 0 (h3 115 (h3 213 x1.toNat 0).toNat 0).toNat 0 = 10 then
    if 0 ≤ x2 ∧ x2 < h3 1 (h3 115 (h3 213 x1.toNat 0).toNat 0).toNat 0 then
    lt_ (fi_upd h3 10 (h3 115 (h3 213 x1.toNat 0).toNat 0).toNat x2.toNat (h3 112 (h3 209 x1.toNat 0).toNat 0)) fun h9 =>
    some (.inl none, h9)
    else none
    else none
    else none
    else none)
    (fun q5 h3 => tx_ q5 h3)
  else none
  else none
  else none := by
  rw [fj_run_eq d (by decide) h [(4, x0), (4, x1), (0, x2), (4, x3)] (Nat.le_of_ble_eq_true (by rw [nl_381]; rfl))]
  show gG (fj_run d) 381 0 [(0, (4, x0)), (1, (4, x1)), (2, (0, x2)), (3, (4, x3))] [] h = _
  exact
    have D : fk_D 381 [(0, none, .aload_n 1, 1, 0, 0, 0), (1, none, .getfield 16, 3, 209, (-100), 12), (4, none, .aload_n 1, 1, 0, 0, 0), (5, none, .getfield 22, 3, 213, 100, 12), (8, none, .getfield 26, 3, 120, (-119), 12), (11, none, .iload_n 2, 1, 0, 0, 0), (12, none, .caload, 1, 0, 0, 0), (13, none, .invokevirtual 32, 3, 1, 108, 0), (16, none, .aload_n 1, 1, 0, 0, 0), (17, none, .getfield 22, 3, 213, 100, 12), (20, none, .getfield 38, 3, 115, (-119), 12), (23, none, .iload_n 2, 1, 0, 0, 0), (24, none, .aload_n 1, 1, 0, 0, 0), (25, none, .getfield 16, 3, 209, 100, 12), (28, none, .getfield 42, 3, 112, (-101), 10), (31, none, .iastore, 1, 0, 0, 0), (32, none, .return_, 1, 0, 0, 0)] := fq_of2 cd_381 ow_381 cl_381 rfl (pc := 0) (by decide +kernel)
    j_aldn (pc := 0) D rfl rfl rfl fun D =>
    j_gfo (pc := 1) H.2.1 D rfl rfl rfl rfl fun kc1 D =>
    j_aldn (pc := 4) D rfl rfl rfl fun D =>
    j_gf (pc := 5) (a := x1.toNat) D rfl rfl (nz_cls H.2.1 kc1 (by decide)) rfl kc1 rfl fun D =>
    j_gfo (pc := 8) H.2.1 D rfl rfl rfl rfl fun kc2 D =>
    j_ildn (pc := 11) D rfl rfl rfl fun D =>
    j_alp (pc := 12) (e := 5) H.2.1 D rfl rfl ⟨rfl, rfl, rfl⟩ rfl fun q q2 D =>
    j_ivuv (pc := 13) (dd := 108) (a := [(0, h 5 (h 120 (h 213 x1.toNat 0).toNat 0).toNat x2.toNat)]) (rest := []) H.2.1 D rfl rfl rfl rfl rfl (fun m6 h3 e1 D =>
      have T := fj_run_ok _ _ _ _ _ _ H.1 e1
      have hk := cls_st H.1 T.2 hk hk0
      have kc1 := cls_st H.1 T.2 kc1 (by decide)
      have H := shp_st H T
      j_aldn (pc := 16) D rfl rfl rfl fun D =>
      j_gf (pc := 17) (a := x1.toNat) D rfl rfl (nz_cls H.2.1 kc1 (by decide)) rfl kc1 rfl fun D =>
      j_gfo (pc := 20) H.2.1 D rfl rfl rfl rfl fun kc7 D =>
      j_ildn (pc := 23) D rfl rfl rfl fun D =>
      j_aldn (pc := 24) D rfl rfl rfl fun D =>
      j_gf (pc := 25) (a := x1.toNat) D rfl rfl (nz_cls H.2.1 kc1 (by decide)) rfl kc1 rfl fun D =>
      j_gfo (pc := 28) H.2.1 D rfl rfl rfl rfl fun kc8 D =>
      j_asu (pc := 31) (e := 10) D rfl rfl ⟨rfl, rfl, rfl⟩ rfl gn gn (gy rfl) fun h9 eh9 S q q2 D =>
      have T := fj_hs_ok H.1 S
      have hk := cls_st H.1 T.2 hk hk0
      have kc1 := cls_st H.1 T.2 kc1 (by decide)
      have H := shp_st H T
      j_vret D rt_381) (fun m6 q5 h3 e1 =>
      j_tx (hx_381 _))
/-! 382 StatuteHouse$Function$16.work(LStatuteHouse;ILStatuteHouse$Kind;)V -/
theorem cd_382 : fi_code 382 = prog_20_method_3_code := rfl
theorem hx_382 : ∀ pc, fi_hat 382 pc = none := fun pc => by unfold fi_hat; rw [show fi_hh 382 = [] from rfl]; rfl
theorem rt_382 : fi_ret 382 = none := rfl
theorem nl_382 : fi_nl 382 = 4 := rfl
theorem ow_382 : fi_ow 382 = 42 := rfl
theorem cl_382 : fj_cutT.getD 382 [] = [] := rfl
theorem m_382 (d : Nat) (x0 x1 x2 x3 : Int) {h : fi_H} {k0 : Int} (H : Shp h) (hk : h 0 x0.toNat 0 = k0) (hk0 : k0 ≠ 0) : fj_run (d + 1) 382 h [(4, x0), (4, x1), (0, x2), (4, x3)] =
  if h 0 x1.toNat 0 = 100 then
  if h 0 (h 213 x1.toNat 0).toNat 0 = 119 then
  if h 0 (h 120 (h 213 x1.toNat 0).toNat 0).toNat 0 = 5 ∧ 0 ≤ x2 ∧ x2 < h 1 (h 120 (h 213 x1.toNat 0).toNat 0).toNat 0 then
  dv_ (fi_vt 108 (h 0 (h 209 x1.toNat 0).toNat 0)) fun m6 => cv_ (fj_run d m6 h [(4, h 209 x1.toNat 0), (0, h 5 (h 120 (h 213 x1.toNat 0).toNat 0).toNat x2.toNat)])
    (fun h3 =>
    if h3 0 (h3 213 x1.toNat 0).toNat 0 = 119 then
    if h3 0 (h3 209 x1.toNat 0).toNat 0 = 101 then
    if 302 < h3 115 (h3 213 x1.toNat 0).toNat 0 ∧ h3 0 (h3 115 (h3 213 x1.toNat 0).toNat 0).toNat 0 = 10 then
    if 0 ≤ x2 ∧ x2 < h3 1 (h3 115 (h3 213 x1.toNat 0).toNat 0).toNat 0 then
    lt_ (fi_upd h3 10 (h3 115 (h3 213 x1.toNat 0).toNat 0).toNat x2.toNat (h3 113 (h3 209 x1.toNat 0).toNat 0)) fun h9 =>
    some (.inl none, h9)
    else none
    else none
    else none
    else none)
    (fun q5 h3 => tx_ q5 h3)
  else none
  else none
  else none := by
  rw [fj_run_eq d (by decide) h [(4, x0), (4, x1), (0, x2), (4, x3)] (Nat.le_of_ble_eq_true (by rw [nl_382]; rfl))]
  show gG (fj_run d) 382 0 [(0, (4, x0)), (1, (4, x1)), (2, (0, x2)), (3, (4, x3))] [] h = _
  exact
    have D : fk_D 382 [(0, none, .aload_n 1, 1, 0, 0, 0), (1, none, .getfield 16, 3, 209, (-100), 12), (4, none, .aload_n 1, 1, 0, 0, 0), (5, none, .getfield 22, 3, 213, 100, 12), (8, none, .getfield 26, 3, 120, (-119), 12), (11, none, .iload_n 2, 1, 0, 0, 0), (12, none, .caload, 1, 0, 0, 0), (13, none, .invokevirtual 32, 3, 1, 108, 0), (16, none, .aload_n 1, 1, 0, 0, 0), (17, none, .getfield 22, 3, 213, 100, 12), (20, none, .getfield 38, 3, 115, (-119), 12), (23, none, .iload_n 2, 1, 0, 0, 0), (24, none, .aload_n 1, 1, 0, 0, 0), (25, none, .getfield 16, 3, 209, 100, 12), (28, none, .getfield 42, 3, 113, (-101), 10), (31, none, .iastore, 1, 0, 0, 0), (32, none, .return_, 1, 0, 0, 0)] := fq_of2 cd_382 ow_382 cl_382 rfl (pc := 0) (by decide +kernel)
    j_aldn (pc := 0) D rfl rfl rfl fun D =>
    j_gfo (pc := 1) H.2.1 D rfl rfl rfl rfl fun kc1 D =>
    j_aldn (pc := 4) D rfl rfl rfl fun D =>
    j_gf (pc := 5) (a := x1.toNat) D rfl rfl (nz_cls H.2.1 kc1 (by decide)) rfl kc1 rfl fun D =>
    j_gfo (pc := 8) H.2.1 D rfl rfl rfl rfl fun kc2 D =>
    j_ildn (pc := 11) D rfl rfl rfl fun D =>
    j_alp (pc := 12) (e := 5) H.2.1 D rfl rfl ⟨rfl, rfl, rfl⟩ rfl fun q q2 D =>
    j_ivuv (pc := 13) (dd := 108) (a := [(0, h 5 (h 120 (h 213 x1.toNat 0).toNat 0).toNat x2.toNat)]) (rest := []) H.2.1 D rfl rfl rfl rfl rfl (fun m6 h3 e1 D =>
      have T := fj_run_ok _ _ _ _ _ _ H.1 e1
      have hk := cls_st H.1 T.2 hk hk0
      have kc1 := cls_st H.1 T.2 kc1 (by decide)
      have H := shp_st H T
      j_aldn (pc := 16) D rfl rfl rfl fun D =>
      j_gf (pc := 17) (a := x1.toNat) D rfl rfl (nz_cls H.2.1 kc1 (by decide)) rfl kc1 rfl fun D =>
      j_gfo (pc := 20) H.2.1 D rfl rfl rfl rfl fun kc7 D =>
      j_ildn (pc := 23) D rfl rfl rfl fun D =>
      j_aldn (pc := 24) D rfl rfl rfl fun D =>
      j_gf (pc := 25) (a := x1.toNat) D rfl rfl (nz_cls H.2.1 kc1 (by decide)) rfl kc1 rfl fun D =>
      j_gfo (pc := 28) H.2.1 D rfl rfl rfl rfl fun kc8 D =>
      j_asu (pc := 31) (e := 10) D rfl rfl ⟨rfl, rfl, rfl⟩ rfl gn gn (gy rfl) fun h9 eh9 S q q2 D =>
      have T := fj_hs_ok H.1 S
      have hk := cls_st H.1 T.2 hk hk0
      have kc1 := cls_st H.1 T.2 kc1 (by decide)
      have H := shp_st H T
      j_vret D rt_382) (fun m6 q5 h3 e1 =>
      j_tx (hx_382 _))
/-! 383 StatuteHouse$Function$17.work(LStatuteHouse;ILStatuteHouse$Kind;)V -/
theorem cd_383 : fi_code 383 = prog_21_method_3_code := rfl
theorem hx_383 : ∀ pc, fi_hat 383 pc = none := fun pc => by unfold fi_hat; rw [show fi_hh 383 = [] from rfl]; rfl
theorem rt_383 : fi_ret 383 = none := rfl
theorem nl_383 : fi_nl 383 = 4 := rfl
theorem ow_383 : fi_ow 383 = 43 := rfl
theorem cl_383 : fj_cutT.getD 383 [] = [] := rfl
theorem m_383 (d : Nat) (x0 x1 x2 x3 : Int) {h : fi_H} {k0 : Int} (H : Shp h) (hk : h 0 x0.toNat 0 = k0) (hk0 : k0 ≠ 0) : fj_run (d + 1) 383 h [(4, x0), (4, x1), (0, x2), (4, x3)] =
  if h 0 x1.toNat 0 = 100 then
  if h 0 (h 213 x1.toNat 0).toNat 0 = 119 then
  if h 0 (h 120 (h 213 x1.toNat 0).toNat 0).toNat 0 = 5 ∧ 0 ≤ x2 ∧ x2 < h 1 (h 120 (h 213 x1.toNat 0).toNat 0).toNat 0 then
  if 302 < h 115 (h 213 x1.toNat 0).toNat 0 ∧ h 0 (h 115 (h 213 x1.toNat 0).toNat 0).toNat 0 = 10 then
  if 0 ≤ x2 ∧ x2 < h 1 (h 115 (h 213 x1.toNat 0).toNat 0).toNat 0 then
  lt_ (fi_upd h 10 (h 115 (h 213 x1.toNat 0).toNat 0).toNat x2.toNat (wI ((ir_ (h 5 (h 120 (h 213 x1.toNat 0).toNat 0).toNat x2.toNat) 7) + 1))) fun h3 =>
  some (.inl none, h3)
  else none
  else none
  else none
  else none
  else none := by
  rw [fj_run_eq d (by decide) h [(4, x0), (4, x1), (0, x2), (4, x3)] (Nat.le_of_ble_eq_true (by rw [nl_383]; rfl))]
  show gG (fj_run d) 383 0 [(0, (4, x0)), (1, (4, x1)), (2, (0, x2)), (3, (4, x3))] [] h = _
  exact
    have D : fk_D 383 [(0, none, .aload_n 1, 1, 0, 0, 0), (1, none, .getfield 16, 3, 213, (-100), 12), (4, none, .getfield 22, 3, 115, (-119), 12), (7, none, .iload_n 2, 1, 0, 0, 0), (8, none, .aload_n 1, 1, 0, 0, 0), (9, none, .getfield 16, 3, 213, 100, 12), (12, none, .getfield 28, 3, 120, 119, 12), (15, none, .iload_n 2, 1, 0, 0, 0), (16, none, .caload, 1, 0, 0, 0), (17, none, .bipush 7, 2, 0, 7, 0), (19, none, .irem, 1, 0, 0, 0), (20, none, .iconst 1, 1, 0, 1, 0), (21, none, .iadd, 1, 0, 0, 0), (22, none, .iastore, 1, 0, 0, 0), (23, none, .return_, 1, 0, 0, 0)] := fq_of2 cd_383 ow_383 cl_383 rfl (pc := 0) (by decide +kernel)
    j_aldn (pc := 0) D rfl rfl rfl fun D =>
    j_gfo (pc := 1) H.2.1 D rfl rfl rfl rfl fun kc1 D =>
    j_gfo (pc := 4) H.2.1 D rfl rfl rfl rfl fun kc2 D =>
    j_ildn (pc := 7) D rfl rfl rfl fun D =>
    j_aldn (pc := 8) D rfl rfl rfl fun D =>
    j_gf (pc := 9) (a := x1.toNat) D rfl rfl (nz_cls H.2.1 kc1 (by decide)) rfl kc1 rfl fun D =>
    j_gf (pc := 12) (a := (h 213 x1.toNat 0).toNat) D rfl rfl (nz_cls H.2.1 kc2 (by decide)) rfl kc2 rfl fun D =>
    j_ildn (pc := 15) D rfl rfl rfl fun D =>
    j_alp (pc := 16) (e := 5) H.2.1 D rfl rfl ⟨rfl, rfl, rfl⟩ rfl fun q q2 D =>
    j_bp (pc := 17) D rfl fun D =>
    j_iremk (pc := 19) D rfl (by decide) fun D =>
    j_ic (pc := 20) D rfl fun D =>
    j_iadd (pc := 21) D rfl fun D =>
    j_asu (pc := 22) (e := 10) D rfl rfl ⟨rfl, rfl, rfl⟩ rfl gn gn (gy rfl) fun h3 eh3 S q q2 D =>
    have T := fj_hs_ok H.1 S
    have hk := cls_st H.1 T.2 hk hk0
    have kc1 := cls_st H.1 T.2 kc1 (by decide)
    have H := shp_st H T
    j_vret D rt_383
/-! 384 StatuteHouse$Function$18.work(LStatuteHouse;ILStatuteHouse$Kind;)V -/
theorem cd_384 : fi_code 384 = prog_22_method_3_code := rfl
theorem hx_384 : ∀ pc, fi_hat 384 pc = none := fun pc => by unfold fi_hat; rw [show fi_hh 384 = [] from rfl]; rfl
theorem rt_384 : fi_ret 384 = none := rfl
theorem nl_384 : fi_nl 384 = 4 := rfl
theorem ow_384 : fi_ow 384 = 44 := rfl
theorem cl_384 : fj_cutT.getD 384 [] = [] := rfl
theorem m_384 (d : Nat) (x0 x1 x2 x3 : Int) {h : fi_H} {k0 : Int} (H : Shp h) (hk : h 0 x0.toNat 0 = k0) (hk0 : k0 ≠ 0) : fj_run (d + 1) 384 h [(4, x0), (4, x1), (0, x2), (4, x3)] =
  if h 0 x1.toNat 0 = 100 then
  if h 0 (h 213 x1.toNat 0).toNat 0 = 119 then
  if h 0 (h 120 (h 213 x1.toNat 0).toNat 0).toNat 0 = 5 ∧ 0 ≤ x2 ∧ x2 < h 1 (h 120 (h 213 x1.toNat 0).toNat 0).toNat 0 then
  ca_ (fj_run d 385 h [(4, x1), (0, h 5 (h 120 (h 213 x1.toNat 0).toNat 0).toNat x2.toNat)]) 0
    (fun v4 h3 =>
    if 302 < h 114 (h 213 x1.toNat 0).toNat 0 ∧ fi_et 1 (h3 0 (h 114 (h 213 x1.toNat 0).toNat 0).toNat 0) ≠ 0 then
    if 0 ≤ x2 ∧ x2 < h3 1 (h 114 (h 213 x1.toNat 0).toNat 0).toNat 0 then
    if fi_rg (fi_et 1 (h3 0 (h 114 (h 213 x1.toNat 0).toNat 0).toNat 0)) v4 = true then
    lt_ (fi_upd h3 (fi_et 1 (h3 0 (h 114 (h 213 x1.toNat 0).toNat 0).toNat 0)) (h 114 (h 213 x1.toNat 0).toNat 0).toNat x2.toNat v4) fun h6 =>
    some (.inl none, h6)
    else none
    else none
    else none)
    (fun q5 h3 => tx_ q5 h3)
  else none
  else none
  else none := by
  rw [fj_run_eq d (by decide) h [(4, x0), (4, x1), (0, x2), (4, x3)] (Nat.le_of_ble_eq_true (by rw [nl_384]; rfl))]
  show gG (fj_run d) 384 0 [(0, (4, x0)), (1, (4, x1)), (2, (0, x2)), (3, (4, x3))] [] h = _
  exact
    have D : fk_D 384 [(0, none, .aload_n 1, 1, 0, 0, 0), (1, none, .getfield 16, 3, 213, (-100), 12), (4, none, .getfield 22, 3, 114, (-119), 12), (7, none, .iload_n 2, 1, 0, 0, 0), (8, none, .aload_n 1, 1, 0, 0, 0), (9, none, .aload_n 1, 1, 0, 0, 0), (10, none, .getfield 16, 3, 213, 100, 12), (13, none, .getfield 28, 3, 120, 119, 12), (16, none, .iload_n 2, 1, 0, 0, 0), (17, none, .caload, 1, 0, 0, 0), (18, none, .invokevirtual 32, 3, 1, 110, 1), (21, none, .bastore, 1, 0, 0, 0), (22, none, .return_, 1, 0, 0, 0)] := fq_of2 cd_384 ow_384 cl_384 rfl (pc := 0) (by decide +kernel)
    j_aldn (pc := 0) D rfl rfl rfl fun D =>
    j_gfo (pc := 1) H.2.1 D rfl rfl rfl rfl fun kc1 D =>
    j_gfo (pc := 4) H.2.1 D rfl rfl rfl rfl fun kc2 D =>
    j_ildn (pc := 7) D rfl rfl rfl fun D =>
    j_aldn (pc := 8) D rfl rfl rfl fun D =>
    j_aldn (pc := 9) D rfl rfl rfl fun D =>
    j_gf (pc := 10) (a := x1.toNat) D rfl rfl (nz_cls H.2.1 kc1 (by decide)) rfl kc1 rfl fun D =>
    j_gf (pc := 13) (a := (h 213 x1.toNat 0).toNat) D rfl rfl (nz_cls H.2.1 kc2 (by decide)) rfl kc2 rfl fun D =>
    j_ildn (pc := 16) D rfl rfl rfl fun D =>
    j_alp (pc := 17) (e := 5) H.2.1 D rfl rfl ⟨rfl, rfl, rfl⟩ rfl fun q q2 D =>
    j_iv (pc := 18) (m := 385) (dd := 110) (a := [(0, h 5 (h 120 (h 213 x1.toNat 0).toNat 0).toNat x2.toNat)]) (rest := [(0, x2), (4, h 114 (h 213 x1.toNat 0).toNat 0)]) D rfl rfl rfl rfl rfl (nz_cls H.2.1 kc1 (by decide)) kc1 (by decide +kernel) (fun v4 h3 e1 D =>
      have T := fj_run_ok _ _ _ _ _ _ H.1 e1
      have hk := cls_st H.1 T.2 hk hk0
      have kc1 := cls_st H.1 T.2 kc1 (by decide)
      have kc2 := cls_st H.1 T.2 kc2 (by decide)
      have H := shp_st H T
      j_asub (pc := 21) D rfl rfl gn gn gn fun h6 eh6 S q q2 D =>
      have T := fj_hs_ok H.1 S
      have hk := cls_st H.1 T.2 hk hk0
      have kc1 := cls_st H.1 T.2 kc1 (by decide)
      have H := shp_st H T
      j_vret D rt_384) (fun q5 h3 e1 =>
      j_tx (hx_384 _))
/-! 385 StatuteHouse.isWorking(I)Z -/
theorem cd_385 : fi_code 385 = prog_1_method_3_code := rfl
theorem hx_385 : ∀ pc, fi_hat 385 pc = none := fun pc => by unfold fi_hat; rw [show fi_hh 385 = [] from rfl]; rfl
theorem rt_385 : fi_ret 385 = some .boolean := rfl
theorem nl_385 : fi_nl 385 = 3 := rfl
theorem ow_385 : fi_ow 385 = 0 := rfl
theorem cl_385 : fj_cutT.getD 385 [] = [(20, [0, 1, 2])] := rfl
theorem cut_385_20 : fj_cut 385 20 = some [0, 1, 2] := by decide +kernel
noncomputable def c_385_20 (d : Nat) (x1 x2 : Int) (h : fi_H) : fk_R := gG (fj_run d) 385 20 [(0, (4, 303)), (1, (0, x1)), (2, (0, x2))] [] h
theorem e_385_20 (d : Nat) (x1 x2 : Int) {h : fi_H} (H : Shp h) : c_385_20 d x1 x2 h =
  if x2 < h 212 303 0 then
    if (20 ≤ h 0 (h 210 303 0).toNat 0 ∧ h 0 (h 210 303 0).toNat 0 < 30) ∧ 0 ≤ x2 ∧ x2 < h 1 (h 210 303 0).toNat 0 then
    dv_ (fi_vt 109 (h 0 (h 12 (h 210 303 0).toNat x2.toNat).toNat 0)) fun m4 => ca_ (fj_run d m4 h [(4, h 12 (h 210 303 0).toNat x2.toNat), (0, x1), (4, 306)]) 0
      (fun v2 h1 =>
      if v2 = 0 then
        c_385_20 d x1 (wI (x2 + 1)) h1
      else
        some (.inl (some (0, 0)), h1))
      (fun q3 h1 => tx_ q3 h1)
    else none
  else
    some (.inl (some (0, 1)), h) := by
  unfold c_385_20
  exact
    have D : fk_D 385 [(20, some [0, 1, 2], .iload_n 2, 1, 0, 0, 0), (21, none, .aload_n 0, 1, 0, 0, 0), (22, none, .getfield 26, 3, 212, 100, 10), (25, none, .if_icmp .ge 30, 3, 55, 0, 0), (28, none, .aload_n 0, 1, 0, 0, 0), (29, none, .getfield 29, 3, 210, 100, 12), (32, none, .iload_n 2, 1, 0, 0, 0), (33, none, .aaload, 1, 0, 0, 0), (34, none, .iload_n 1, 1, 0, 0, 0), (35, none, .aload_n 0, 1, 0, 0, 0), (36, none, .getfield 16, 3, 209, 100, 12), (39, none, .invokeinterface 33 3, 5, 2, 109, 1), (44, none, .ifCond .eq 5, 3, 49, 0, 0), (47, none, .iconst 0, 1, 0, 0, 0), (48, none, .ireturn, 1, 0, 0, 0)] := fq_of2 cd_385 ow_385 cl_385 rfl (pc := 20) (by decide +kernel)
    j_ildn (pc := 20) D rfl rfl rfl fun D =>
    j_aldn (pc := 21) D rfl rfl rfl fun D =>
    j_gf (pc := 22) (a := 303) D rfl rfl (by decide) rfl (s0_303 H) rfl fun D =>
    j_ige (pc := 25) D rfl (fun q D =>
      j_aldn (pc := 28) D rfl rfl rfl fun D =>
      j_gf (pc := 29) (a := 303) D rfl rfl (by decide) rfl (s0_303 H) rfl fun D =>
      j_ildn (pc := 32) D rfl rfl rfl fun D =>
      j_alr (pc := 33) H.2.1 D rfl rfl fun q q2 D =>
      j_ildn (pc := 34) D rfl rfl rfl fun D =>
      j_aldn (pc := 35) D rfl rfl rfl fun D =>
      j_gfc (pc := 36) (a := 303) D rfl rfl (by decide) rfl (s0_303 H) rfl (sf_209_303 H) fun D =>
      j_ivu (pc := 39) (dd := 109) (a := [(0, x1), (4, 306)]) (rest := []) H.2.1 D rfl rfl rfl rfl rfl (fun m4 v2 h1 e1 D =>
        have T := fj_run_ok _ _ _ _ _ _ H.1 e1
        have H := shp_st H T
        j_ifeq (pc := 44) D rfl (fun q =>
          have D : fk_D 385 [(49, none, .iinc 2 1, 3, 0, 1, 0), (52, none, .goto (-32), 3, 20, 0, 0)] := fq_of2 cd_385 ow_385 cl_385 rfl (pc := 49) (by decide +kernel)
          j_inc (pc := 49) (L' := [(2, (0, wI (x2 + 1))), (0, (4, 303)), (1, (0, x1))]) D rfl rfl rfl (by decide +kernel) rfl fun D =>
          j_goto (pc := 52) D rfl <|
          fk_jump cut_385_20 rfl rfl) (fun q D =>
          j_ic (pc := 47) D rfl fun D =>
          j_zret D rt_385 (gy (by decide)))) (fun m4 q3 h1 e1 =>
        j_tx (hx_385 _))) (fun q =>
      have D : fk_D 385 [(55, none, .iconst 1, 1, 0, 1, 0), (56, none, .ireturn, 1, 0, 0, 0)] := fq_of2 cd_385 ow_385 cl_385 rfl (pc := 55) (by decide +kernel)
      j_ic (pc := 55) D rfl fun D =>
      j_zret D rt_385 (gy (by decide)))
theorem m_385 (d : Nat) (x1 : Int) {h : fi_H} (H : Shp h) : fj_run (d + 1) 385 h [(4, 303), (0, x1)] =
  if 4 < ir_ x1 7 then
    some (.inl (some (0, 0)), h)
  else
    cv_ (fj_run d 40 h [(4, 306), (0, x1)])
      (fun h1 =>
      c_385_20 d x1 0 h1)
      (fun q3 h1 => tx_ q3 h1) := by
  rw [fj_run_eq d (by decide) h [(4, 303), (0, x1)] (Nat.le_of_ble_eq_true (by rw [nl_385]; rfl))]
  show gG (fj_run d) 385 0 [(0, (4, 303)), (1, (0, x1))] [] h = _
  exact
    have D : fk_D 385 [(0, none, .iload_n 1, 1, 0, 0, 0), (1, none, .bipush 7, 2, 0, 7, 0), (3, none, .irem, 1, 0, 0, 0), (4, none, .iconst 4, 1, 0, 4, 0), (5, none, .if_icmp .le 5, 3, 10, 0, 0), (8, none, .iconst 0, 1, 0, 0, 0), (9, none, .ireturn, 1, 0, 0, 0)] := fq_of2 cd_385 ow_385 cl_385 rfl (pc := 0) (by decide +kernel)
    j_ildn (pc := 0) D rfl rfl rfl fun D =>
    j_bp (pc := 1) D rfl fun D =>
    j_iremk (pc := 3) D rfl (by decide) fun D =>
    j_ic (pc := 4) D rfl fun D =>
    j_ile (pc := 5) D rfl (fun q D =>
      j_ic (pc := 8) D rfl fun D =>
      j_zret D rt_385 (gy (by decide))) (fun q =>
      have D : fk_D 385 [(10, none, .aload_n 0, 1, 0, 0, 0), (11, none, .getfield 16, 3, 209, 100, 12), (14, none, .iload_n 1, 1, 0, 0, 0), (15, none, .invokevirtual 20, 3, 1, 108, 0), (18, none, .iconst 0, 1, 0, 0, 0), (19, none, .istore_n 2, 1, 0, 0, 0)] := fq_of2 cd_385 ow_385 cl_385 rfl (pc := 10) (by decide +kernel)
      j_aldn (pc := 10) D rfl rfl rfl fun D =>
      j_gfc (pc := 11) (a := 303) D rfl rfl (by decide) rfl (s0_303 H) rfl (sf_209_303 H) fun D =>
      j_ildn (pc := 14) D rfl rfl rfl fun D =>
      j_ivv (pc := 15) (m := 40) (dd := 108) (a := [(0, x1)]) (rest := []) D rfl rfl rfl rfl rfl (by decide) (s0_306 H) (by decide +kernel) (fun h1 e1 D =>
        have T := fj_run_ok _ _ _ _ _ _ H.1 e1
        have H := shp_st H T
        j_ic (pc := 18) D rfl fun D =>
        j_istn (pc := 19) (L' := [(2, (0, 0)), (0, (4, 303)), (1, (0, x1))]) D rfl nl_385 rfl rfl fun D =>
        fk_jump cut_385_20 rfl rfl) (fun q3 h1 e1 =>
        j_tx (hx_385 _)))
/-! 386 StatuteHouse$EasterDay.is(ILStatuteHouse$Calendar;)Z -/
theorem cd_386 : fi_code 386 = prog_7_method_2_code := rfl
theorem hx_386 : ∀ pc, fi_hat 386 pc = none := fun pc => by unfold fi_hat; rw [show fi_hh 386 = [] from rfl]; rfl
theorem rt_386 : fi_ret 386 = some .boolean := rfl
theorem nl_386 : fi_nl 386 = 3 := rfl
theorem ow_386 : fi_ow 386 = 5 := rfl
theorem cl_386 : fj_cutT.getD 386 [] = [] := rfl
theorem m_386 (d : Nat) (x0 x1 x2 : Int) {h : fi_H} (H : Shp h) (hk : h 0 x0.toNat 0 = 105) : fj_run (d + 1) 386 h [(4, x0), (0, x1), (4, x2)] =
  if h 0 x2.toNat 0 = 101 then
  ca_ (fj_run d 387 h [(0, h 111 x2.toNat 0)]) 0
    (fun v3 h2 =>
    if wI (v3 + (h2 333 x0.toNat 0)) = x1 then
      some (.inl (some (0, 1)), h2)
    else
      some (.inl (some (0, 0)), h2))
    (fun q4 h2 => tx_ q4 h2)
  else none := by
  rw [fj_run_eq d (by decide) h [(4, x0), (0, x1), (4, x2)] (Nat.le_of_ble_eq_true (by rw [nl_386]; rfl))]
  show gG (fj_run d) 386 0 [(0, (4, x0)), (1, (0, x1)), (2, (4, x2))] [] h = _
  exact
    have D : fk_D 386 [(0, none, .aload_n 2, 1, 0, 0, 0), (1, none, .getfield 13, 3, 111, (-101), 10), (4, none, .invokestatic 18, 3, 1, 387, 1), (7, none, .aload_n 0, 1, 0, 0, 0), (8, none, .getfield 7, 3, 333, 105, 10), (11, none, .iadd, 1, 0, 0, 0), (12, none, .iload_n 1, 1, 0, 0, 0), (13, none, .if_icmp .ne 7, 3, 20, 0, 0), (16, none, .iconst 1, 1, 0, 1, 0), (17, none, .goto 4, 3, 21, 0, 0)] := fq_of2 cd_386 ow_386 cl_386 rfl (pc := 0) (by decide +kernel)
    j_aldn (pc := 0) D rfl rfl rfl fun D =>
    j_gfo (pc := 1) H.2.1 D rfl rfl rfl rfl fun kc1 D =>
    j_is (pc := 4) (m := 387) (a := [(0, h 111 x2.toNat 0)]) (rest := []) D rfl rfl rfl rfl (fun v3 h2 e1 D =>
      have T := fj_run_ok _ _ _ _ _ _ H.1 e1
      have hk := cls_st H.1 T.2 hk (by decide)
      have kc1 := cls_st H.1 T.2 kc1 (by decide)
      have H := shp_st H T
      j_aldn (pc := 7) D rfl rfl rfl fun D =>
      j_gf (pc := 8) (a := x0.toNat) D rfl rfl (nz_cls H.2.1 hk (by decide)) rfl hk rfl fun D =>
      j_iadd (pc := 11) D rfl fun D =>
      j_ildn (pc := 12) D rfl rfl rfl fun D =>
      j_ine (pc := 13) D rfl (fun q D =>
        j_ic (pc := 16) D rfl fun D =>
        j_goto (pc := 17) D rfl <|
        have D : fk_D 386 [(21, none, .ireturn, 1, 0, 0, 0)] := fq_of2 cd_386 ow_386 cl_386 rfl (pc := 21) (by decide +kernel)
        j_zret D rt_386 (gy (by decide))) (fun q =>
        have D : fk_D 386 [(20, none, .iconst 0, 1, 0, 0, 0), (21, none, .ireturn, 1, 0, 0, 0)] := fq_of2 cd_386 ow_386 cl_386 rfl (pc := 20) (by decide +kernel)
        j_ic (pc := 20) D rfl fun D =>
        j_zret D rt_386 (gy (by decide)))) (fun q4 h2 e1 =>
      j_tx (hx_386 _))
/-! 387 StatuteHouse$Calendar.easter(I)I -/
theorem cd_387 : fi_code 387 = prog_3_method_11_code := rfl
theorem hx_387 : ∀ pc, fi_hat 387 pc = none := fun pc => by unfold fi_hat; rw [show fi_hh 387 = [] from rfl]; rfl
theorem rt_387 : fi_ret 387 = some .int := rfl
theorem nl_387 : fi_nl 387 = 7 := rfl
theorem ow_387 : fi_ow 387 = 1 := rfl
theorem cl_387 : fj_cutT.getD 387 [] = [(47, [0, 1, 2, 3, 4]), (104, [0, 6])] := rfl
theorem cut_387_47 : fj_cut 387 47 = some [0, 1, 2, 3, 4] := by decide +kernel
noncomputable def c_387_47 (d : Nat) (x0 x1 x2 x3 x4 : Int) (h : fi_H) : fk_R := gG (fj_run d) 387 47 [(0, (0, x0)), (1, (0, x1)), (2, (0, x2)), (3, (0, x3)), (4, (0, x4))] [] h
theorem cut_387_104 : fj_cut 387 104 = some [0, 6] := by decide +kernel
noncomputable def c_387_104 (d : Nat) (x0 x6 : Int) (h : fi_H) : fk_R := gG (fj_run d) 387 104 [(0, (0, x0)), (6, (0, x6))] [] h
theorem e_387_47 (d : Nat) (x0 x1 x2 x3 x4 : Int) {h : fi_H} (H : Shp h) : c_387_47 d x0 x1 x2 x3 x4 h =
  lt_ (ir_ (wI ((wI ((wI ((wI (32 + (wI (2 * (ir_ x2 4))))) + (wI (2 * (iq_ x3 4))))) - x4)) - (ir_ x3 4))) 7) fun y1 =>
  lt_ (wI ((wI ((wI (x4 + y1)) - (wI (7 * (iq_ (wI ((wI (x1 + (wI (11 * x4)))) + (wI (22 * y1)))) 451))))) + 114)) fun y2 =>
  c_387_104 d x0 y2 h := by
  unfold c_387_47
  exact
    have D : fk_D 387 [(47, some [0, 1, 2, 3, 4], .bipush 32, 2, 0, 32, 0), (49, none, .iconst 2, 1, 0, 2, 0), (50, none, .iload_n 2, 1, 0, 0, 0), (51, none, .iconst 4, 1, 0, 4, 0), (52, none, .irem, 1, 0, 0, 0), (53, none, .imul, 1, 0, 0, 0), (54, none, .iadd, 1, 0, 0, 0), (55, none, .iconst 2, 1, 0, 2, 0), (56, none, .iload_n 3, 1, 0, 0, 0), (57, none, .iconst 4, 1, 0, 4, 0), (58, none, .idiv, 1, 0, 0, 0), (59, none, .imul, 1, 0, 0, 0), (60, none, .iadd, 1, 0, 0, 0), (61, none, .iload 4, 2, 0, 0, 0), (63, none, .isub, 1, 0, 0, 0), (64, none, .iload_n 3, 1, 0, 0, 0), (65, none, .iconst 4, 1, 0, 4, 0), (66, none, .irem, 1, 0, 0, 0), (67, none, .isub, 1, 0, 0, 0), (68, none, .bipush 7, 2, 0, 7, 0)] := fq_of2 cd_387 ow_387 cl_387 rfl (pc := 47) (by decide +kernel)
    j_bp (pc := 47) D rfl fun D =>
    j_ic (pc := 49) D rfl fun D =>
    j_ildn (pc := 50) D rfl rfl rfl fun D =>
    j_ic (pc := 51) D rfl fun D =>
    j_iremk (pc := 52) D rfl (by decide) fun D =>
    j_imul (pc := 53) D rfl fun D =>
    j_iadd (pc := 54) D rfl fun D =>
    j_ic (pc := 55) D rfl fun D =>
    j_ildn (pc := 56) D rfl rfl rfl fun D =>
    j_ic (pc := 57) D rfl fun D =>
    j_idivk (pc := 58) D rfl (by decide) fun D =>
    j_imul (pc := 59) D rfl fun D =>
    j_iadd (pc := 60) D rfl fun D =>
    j_ild (pc := 61) D rfl rfl rfl fun D =>
    j_isub (pc := 63) D rfl fun D =>
    j_ildn (pc := 64) D rfl rfl rfl fun D =>
    j_ic (pc := 65) D rfl fun D =>
    j_iremk (pc := 66) D rfl (by decide) fun D =>
    j_isub (pc := 67) D rfl fun D =>
    j_bp (pc := 68) D rfl fun D =>
    have D : fk_D 387 [(70, none, .irem, 1, 0, 0, 0), (71, none, .istore 5, 2, 0, 0, 0), (73, none, .iload 4, 2, 0, 0, 0), (75, none, .iload 5, 2, 0, 0, 0), (77, none, .iadd, 1, 0, 0, 0), (78, none, .bipush 7, 2, 0, 7, 0), (80, none, .iload_n 1, 1, 0, 0, 0), (81, none, .bipush 11, 2, 0, 11, 0), (83, none, .iload 4, 2, 0, 0, 0), (85, none, .imul, 1, 0, 0, 0), (86, none, .iadd, 1, 0, 0, 0), (87, none, .bipush 22, 2, 0, 22, 0), (89, none, .iload 5, 2, 0, 0, 0), (91, none, .imul, 1, 0, 0, 0), (92, none, .iadd, 1, 0, 0, 0), (93, none, .sipush 451, 3, 0, 451, 0), (96, none, .idiv, 1, 0, 0, 0), (97, none, .imul, 1, 0, 0, 0), (98, none, .isub, 1, 0, 0, 0), (99, none, .bipush 114, 2, 0, 114, 0)] := fq_of2 cd_387 ow_387 cl_387 rfl (pc := 70) (by decide +kernel)
    j_iremk (pc := 70) D rfl (by decide) fun D =>
    j_stl (pc := 71) (L' := fun y1 => [(5, (0, y1)), (0, (0, x0)), (1, (0, x1)), (2, (0, x2)), (3, (0, x3)), (4, (0, x4))]) D rfl ⟨rfl, rfl, rfl, rfl⟩ nl_387 rfl (fun _ => rfl) fun y1 ey1 D =>
    j_ild (pc := 73) D rfl rfl rfl fun D =>
    j_ild (pc := 75) D rfl rfl rfl fun D =>
    j_iadd (pc := 77) D rfl fun D =>
    j_bp (pc := 78) D rfl fun D =>
    j_ildn (pc := 80) D rfl rfl rfl fun D =>
    j_bp (pc := 81) D rfl fun D =>
    j_ild (pc := 83) D rfl rfl rfl fun D =>
    j_imul (pc := 85) D rfl fun D =>
    j_iadd (pc := 86) D rfl fun D =>
    j_bp (pc := 87) D rfl fun D =>
    j_ild (pc := 89) D rfl rfl rfl fun D =>
    j_imul (pc := 91) D rfl fun D =>
    j_iadd (pc := 92) D rfl fun D =>
    j_sp (pc := 93) D rfl fun D =>
    j_idivk (pc := 96) D rfl (by decide) fun D =>
    j_imul (pc := 97) D rfl fun D =>
    j_isub (pc := 98) D rfl fun D =>
    j_bp (pc := 99) D rfl fun D =>
    have D : fk_D 387 [(101, none, .iadd, 1, 0, 0, 0), (102, none, .istore 6, 2, 0, 0, 0)] := fq_of2 cd_387 ow_387 cl_387 rfl (pc := 101) (by decide +kernel)
    j_iadd (pc := 101) D rfl fun D =>
    j_stl (pc := 102) (L' := fun y2 => [(6, (0, y2)), (5, (0, y1)), (0, (0, x0)), (1, (0, x1)), (2, (0, x2)), (3, (0, x3)), (4, (0, x4))]) D rfl ⟨rfl, rfl, rfl, rfl⟩ nl_387 rfl (fun _ => rfl) fun y2 ey2 D =>
    fk_jump cut_387_104 rfl rfl
theorem e_387_104 (d : Nat) (x0 x6 : Int) {h : fi_H} (H : Shp h) : c_387_104 d x0 x6 h =
  ca_ (fj_run d 159 h [(0, x0), (0, iq_ x6 31), (0, wI ((ir_ x6 31) + 1))]) 0
    (fun v2 h1 =>
    some (.inl (some (0, v2)), h1))
    (fun q3 h1 => tx_ q3 h1) := by
  unfold c_387_104
  exact
    have D : fk_D 387 [(104, some [0, 6], .iload_n 0, 1, 0, 0, 0), (105, none, .iload 6, 2, 0, 0, 0), (107, none, .bipush 31, 2, 0, 31, 0), (109, none, .idiv, 1, 0, 0, 0), (110, none, .iload 6, 2, 0, 0, 0), (112, none, .bipush 31, 2, 0, 31, 0), (114, none, .irem, 1, 0, 0, 0), (115, none, .iconst 1, 1, 0, 1, 0), (116, none, .iadd, 1, 0, 0, 0), (117, none, .invokestatic 39, 3, 3, 159, 1), (120, none, .ireturn, 1, 0, 0, 0)] := fq_of2 cd_387 ow_387 cl_387 rfl (pc := 104) (by decide +kernel)
    j_ildn (pc := 104) D rfl rfl rfl fun D =>
    j_ild (pc := 105) D rfl rfl rfl fun D =>
    j_bp (pc := 107) D rfl fun D =>
    j_idivk (pc := 109) D rfl (by decide) fun D =>
    j_ild (pc := 110) D rfl rfl rfl fun D =>
    j_bp (pc := 112) D rfl fun D =>
    j_iremk (pc := 114) D rfl (by decide) fun D =>
    j_ic (pc := 115) D rfl fun D =>
    j_iadd (pc := 116) D rfl fun D =>
    j_is (pc := 117) (m := 159) (a := [(0, x0), (0, iq_ x6 31), (0, wI ((ir_ x6 31) + 1))]) (rest := []) D rfl rfl rfl rfl (fun v2 h1 e1 D =>
      have T := fj_run_ok _ _ _ _ _ _ H.1 e1
      have H := shp_st H T
      j_iret D rt_387) (fun q3 h1 e1 =>
      j_tx (hx_387 _))
theorem m_387 (d : Nat) (x0 : Int) {h : fi_H} (H : Shp h) : fj_run (d + 1) 387 h [(0, x0)] =
  lt_ (ir_ (wI ((wI ((wI ((wI ((wI (19 * (ir_ x0 19))) + (iq_ x0 100))) - (iq_ (iq_ x0 100) 4))) - (iq_ (wI ((wI ((iq_ x0 100) - (iq_ (wI ((iq_ x0 100) + 8)) 25))) + 1)) 3))) + 15)) 30) fun y1 =>
  c_387_47 d x0 (ir_ x0 19) (iq_ x0 100) (ir_ x0 100) y1 h := by
  rw [fj_run_eq d (by decide) h [(0, x0)] (Nat.le_of_ble_eq_true (by rw [nl_387]; rfl))]
  show gG (fj_run d) 387 0 [(0, (0, x0))] [] h = _
  exact
    have D : fk_D 387 [(0, none, .iload_n 0, 1, 0, 0, 0), (1, none, .bipush 19, 2, 0, 19, 0), (3, none, .irem, 1, 0, 0, 0), (4, none, .istore_n 1, 1, 0, 0, 0), (5, none, .iload_n 0, 1, 0, 0, 0), (6, none, .bipush 100, 2, 0, 100, 0), (8, none, .idiv, 1, 0, 0, 0), (9, none, .istore_n 2, 1, 0, 0, 0), (10, none, .iload_n 0, 1, 0, 0, 0), (11, none, .bipush 100, 2, 0, 100, 0), (13, none, .irem, 1, 0, 0, 0), (14, none, .istore_n 3, 1, 0, 0, 0), (15, none, .bipush 19, 2, 0, 19, 0), (17, none, .iload_n 1, 1, 0, 0, 0), (18, none, .imul, 1, 0, 0, 0), (19, none, .iload_n 2, 1, 0, 0, 0), (20, none, .iadd, 1, 0, 0, 0), (21, none, .iload_n 2, 1, 0, 0, 0), (22, none, .iconst 4, 1, 0, 4, 0), (23, none, .idiv, 1, 0, 0, 0)] := fq_of2 cd_387 ow_387 cl_387 rfl (pc := 0) (by decide +kernel)
    j_ildn (pc := 0) D rfl rfl rfl fun D =>
    j_bp (pc := 1) D rfl fun D =>
    j_iremk (pc := 3) D rfl (by decide) fun D =>
    j_istn (pc := 4) (L' := [(1, (0, ir_ x0 19)), (0, (0, x0))]) D rfl nl_387 rfl rfl fun D =>
    j_ildn (pc := 5) D rfl rfl rfl fun D =>
    j_bp (pc := 6) D rfl fun D =>
    j_idivk (pc := 8) D rfl (by decide) fun D =>
    j_istn (pc := 9) (L' := [(2, (0, iq_ x0 100)), (1, (0, ir_ x0 19)), (0, (0, x0))]) D rfl nl_387 rfl rfl fun D =>
    j_ildn (pc := 10) D rfl rfl rfl fun D =>
    j_bp (pc := 11) D rfl fun D =>
    j_iremk (pc := 13) D rfl (by decide) fun D =>
    j_istn (pc := 14) (L' := [(3, (0, ir_ x0 100)), (2, (0, iq_ x0 100)), (1, (0, ir_ x0 19)), (0, (0, x0))]) D rfl nl_387 rfl rfl fun D =>
    j_bp (pc := 15) D rfl fun D =>
    j_ildn (pc := 17) D rfl rfl rfl fun D =>
    j_imul (pc := 18) D rfl fun D =>
    j_ildn (pc := 19) D rfl rfl rfl fun D =>
    j_iadd (pc := 20) D rfl fun D =>
    j_ildn (pc := 21) D rfl rfl rfl fun D =>
    j_ic (pc := 22) D rfl fun D =>
    j_idivk (pc := 23) D rfl (by decide) fun D =>
    have D : fk_D 387 [(24, none, .isub, 1, 0, 0, 0), (25, none, .iload_n 2, 1, 0, 0, 0), (26, none, .iload_n 2, 1, 0, 0, 0), (27, none, .bipush 8, 2, 0, 8, 0), (29, none, .iadd, 1, 0, 0, 0), (30, none, .bipush 25, 2, 0, 25, 0), (32, none, .idiv, 1, 0, 0, 0), (33, none, .isub, 1, 0, 0, 0), (34, none, .iconst 1, 1, 0, 1, 0), (35, none, .iadd, 1, 0, 0, 0), (36, none, .iconst 3, 1, 0, 3, 0), (37, none, .idiv, 1, 0, 0, 0), (38, none, .isub, 1, 0, 0, 0), (39, none, .bipush 15, 2, 0, 15, 0), (41, none, .iadd, 1, 0, 0, 0), (42, none, .bipush 30, 2, 0, 30, 0), (44, none, .irem, 1, 0, 0, 0), (45, none, .istore 4, 2, 0, 0, 0)] := fq_of2 cd_387 ow_387 cl_387 rfl (pc := 24) (by decide +kernel)
    j_isub (pc := 24) D rfl fun D =>
    j_ildn (pc := 25) D rfl rfl rfl fun D =>
    j_ildn (pc := 26) D rfl rfl rfl fun D =>
    j_bp (pc := 27) D rfl fun D =>
    j_iadd (pc := 29) D rfl fun D =>
    j_bp (pc := 30) D rfl fun D =>
    j_idivk (pc := 32) D rfl (by decide) fun D =>
    j_isub (pc := 33) D rfl fun D =>
    j_ic (pc := 34) D rfl fun D =>
    j_iadd (pc := 35) D rfl fun D =>
    j_ic (pc := 36) D rfl fun D =>
    j_idivk (pc := 37) D rfl (by decide) fun D =>
    j_isub (pc := 38) D rfl fun D =>
    j_bp (pc := 39) D rfl fun D =>
    j_iadd (pc := 41) D rfl fun D =>
    j_bp (pc := 42) D rfl fun D =>
    j_iremk (pc := 44) D rfl (by decide) fun D =>
    j_stl (pc := 45) (L' := fun y1 => [(4, (0, y1)), (3, (0, ir_ x0 100)), (2, (0, iq_ x0 100)), (1, (0, ir_ x0 19)), (0, (0, x0))]) D rfl ⟨rfl, rfl, rfl, rfl⟩ nl_387 rfl (fun _ => rfl) fun y1 ey1 D =>
    fk_jump cut_387_47 rfl rfl
/-! 388 StatuteHouse$FixedDay.is(ILStatuteHouse$Calendar;)Z -/
theorem cd_388 : fi_code 388 = prog_10_method_2_code := rfl
theorem hx_388 : ∀ pc, fi_hat 388 pc = none := fun pc => by unfold fi_hat; rw [show fi_hh 388 = [] from rfl]; rfl
theorem rt_388 : fi_ret 388 = some .boolean := rfl
theorem nl_388 : fi_nl 388 = 3 := rfl
theorem ow_388 : fi_ow 388 = 8 := rfl
theorem cl_388 : fj_cutT.getD 388 [] = [] := rfl
theorem m_388 (d : Nat) (x0 x1 x2 : Int) {h : fi_H} (H : Shp h) (hk : h 0 x0.toNat 0 = 108) : fj_run (d + 1) 388 h [(4, x0), (0, x1), (4, x2)] =
  if h 0 x2.toNat 0 = 101 then
  if h 113 x2.toNat 0 = h 331 x0.toNat 0 then
    if h 112 x2.toNat 0 = h 332 x0.toNat 0 then
      some (.inl (some (0, 1)), h)
    else
      some (.inl (some (0, 0)), h)
  else
    some (.inl (some (0, 0)), h)
  else none := by
  rw [fj_run_eq d (by decide) h [(4, x0), (0, x1), (4, x2)] (Nat.le_of_ble_eq_true (by rw [nl_388]; rfl))]
  show gG (fj_run d) 388 0 [(0, (4, x0)), (1, (0, x1)), (2, (4, x2))] [] h = _
  exact
    have D : fk_D 388 [(0, none, .aload_n 2, 1, 0, 0, 0), (1, none, .getfield 16, 3, 113, (-101), 10), (4, none, .aload_n 0, 1, 0, 0, 0), (5, none, .getfield 7, 3, 331, 108, 10), (8, none, .if_icmp .ne 18, 3, 26, 0, 0), (11, none, .aload_n 2, 1, 0, 0, 0), (12, none, .getfield 19, 3, 112, 101, 10), (15, none, .aload_n 0, 1, 0, 0, 0), (16, none, .getfield 13, 3, 332, 108, 10), (19, none, .if_icmp .ne 7, 3, 26, 0, 0), (22, none, .iconst 1, 1, 0, 1, 0), (23, none, .goto 4, 3, 27, 0, 0)] := fq_of2 cd_388 ow_388 cl_388 rfl (pc := 0) (by decide +kernel)
    j_aldn (pc := 0) D rfl rfl rfl fun D =>
    j_gfo (pc := 1) H.2.1 D rfl rfl rfl rfl fun kc1 D =>
    j_aldn (pc := 4) D rfl rfl rfl fun D =>
    j_gf (pc := 5) (a := x0.toNat) D rfl rfl (nz_cls H.2.1 hk (by decide)) rfl hk rfl fun D =>
    j_ine (pc := 8) D rfl (fun q D =>
      j_aldn (pc := 11) D rfl rfl rfl fun D =>
      j_gf (pc := 12) (a := x2.toNat) D rfl rfl (nz_cls H.2.1 kc1 (by decide)) rfl kc1 rfl fun D =>
      j_aldn (pc := 15) D rfl rfl rfl fun D =>
      j_gf (pc := 16) (a := x0.toNat) D rfl rfl (nz_cls H.2.1 hk (by decide)) rfl hk rfl fun D =>
      j_ine (pc := 19) D rfl (fun q D =>
        j_ic (pc := 22) D rfl fun D =>
        j_goto (pc := 23) D rfl <|
        have D : fk_D 388 [(27, none, .ireturn, 1, 0, 0, 0)] := fq_of2 cd_388 ow_388 cl_388 rfl (pc := 27) (by decide +kernel)
        j_zret D rt_388 (gy (by decide))) (fun q =>
        have D : fk_D 388 [(26, none, .iconst 0, 1, 0, 0, 0), (27, none, .ireturn, 1, 0, 0, 0)] := fq_of2 cd_388 ow_388 cl_388 rfl (pc := 26) (by decide +kernel)
        j_ic (pc := 26) D rfl fun D =>
        j_zret D rt_388 (gy (by decide)))) (fun q =>
      have D : fk_D 388 [(26, none, .iconst 0, 1, 0, 0, 0), (27, none, .ireturn, 1, 0, 0, 0)] := fq_of2 cd_388 ow_388 cl_388 rfl (pc := 26) (by decide +kernel)
      j_ic (pc := 26) D rfl fun D =>
      j_zret D rt_388 (gy (by decide)))
/-! 389 StatuteHouse$WeekDay.is(ILStatuteHouse$Calendar;)Z -/
theorem cd_389 : fi_code 389 = prog_66_method_2_code := rfl
theorem hx_389 : ∀ pc, fi_hat 389 pc = none := fun pc => by unfold fi_hat; rw [show fi_hh 389 = [] from rfl]; rfl
theorem rt_389 : fi_ret 389 = some .boolean := rfl
theorem nl_389 : fi_nl 389 = 3 := rfl
theorem ow_389 : fi_ow 389 = 27 := rfl
theorem cl_389 : fj_cutT.getD 389 [] = [] := rfl
theorem m_389 (d : Nat) (x0 x1 x2 : Int) {h : fi_H} (H : Shp h) (hk : h 0 x0.toNat 0 = 127) : fj_run (d + 1) 389 h [(4, x0), (0, x1), (4, x2)] =
  if h 0 x2.toNat 0 = 101 then
  if h 112 x2.toNat 0 = h 336 x0.toNat 0 then
    if ir_ x1 7 = h 335 x0.toNat 0 then
      if h 334 x0.toNat 0 = 0 then
        if 7 < h 113 x2.toNat 0 then
          some (.inl (some (0, 0)), h)
        else
          some (.inl (some (0, 1)), h)
      else
        ca_ (fj_run d 157 h [(0, h 111 x2.toNat 0), (0, h 336 x0.toNat 0)]) 0
          (fun v3 h2 =>
          if v3 < wI ((h 113 x2.toNat 0) + 7) then
            some (.inl (some (0, 1)), h2)
          else
            some (.inl (some (0, 0)), h2))
          (fun q4 h2 => tx_ q4 h2)
    else
      some (.inl (some (0, 0)), h)
  else
    some (.inl (some (0, 0)), h)
  else none := by
  rw [fj_run_eq d (by decide) h [(4, x0), (0, x1), (4, x2)] (Nat.le_of_ble_eq_true (by rw [nl_389]; rfl))]
  show gG (fj_run d) 389 0 [(0, (4, x0)), (1, (0, x1)), (2, (4, x2))] [] h = _
  exact
    have D : fk_D 389 [(0, none, .aload_n 2, 1, 0, 0, 0), (1, none, .getfield 20, 3, 112, (-101), 10), (4, none, .aload_n 0, 1, 0, 0, 0), (5, none, .getfield 17, 3, 336, 127, 10), (8, none, .if_icmp .ne 14, 3, 22, 0, 0), (11, none, .iload_n 1, 1, 0, 0, 0), (12, none, .bipush 7, 2, 0, 7, 0), (14, none, .irem, 1, 0, 0, 0), (15, none, .aload_n 0, 1, 0, 0, 0), (16, none, .getfield 13, 3, 335, 127, 10), (19, none, .if_icmp .eq 5, 3, 24, 0, 0), (22, none, .iconst 0, 1, 0, 0, 0), (23, none, .ireturn, 1, 0, 0, 0)] := fq_of2 cd_389 ow_389 cl_389 rfl (pc := 0) (by decide +kernel)
    j_aldn (pc := 0) D rfl rfl rfl fun D =>
    j_gfo (pc := 1) H.2.1 D rfl rfl rfl rfl fun kc1 D =>
    j_aldn (pc := 4) D rfl rfl rfl fun D =>
    j_gf (pc := 5) (a := x0.toNat) D rfl rfl (nz_cls H.2.1 hk (by decide)) rfl hk rfl fun D =>
    j_ine (pc := 8) D rfl (fun q D =>
      j_ildn (pc := 11) D rfl rfl rfl fun D =>
      j_bp (pc := 12) D rfl fun D =>
      j_iremk (pc := 14) D rfl (by decide) fun D =>
      j_aldn (pc := 15) D rfl rfl rfl fun D =>
      j_gf (pc := 16) (a := x0.toNat) D rfl rfl (nz_cls H.2.1 hk (by decide)) rfl hk rfl fun D =>
      j_ieq (pc := 19) D rfl (fun q =>
        have D : fk_D 389 [(24, none, .aload_n 0, 1, 0, 0, 0), (25, none, .getfield 7, 3, 334, 127, 4), (28, none, .ifCond .eq 32, 3, 60, 0, 0), (31, none, .aload_n 2, 1, 0, 0, 0), (32, none, .getfield 23, 3, 113, 101, 10), (35, none, .bipush 7, 2, 0, 7, 0), (37, none, .iadd, 1, 0, 0, 0), (38, none, .aload_n 2, 1, 0, 0, 0), (39, none, .getfield 26, 3, 111, 101, 10), (42, none, .aload_n 0, 1, 0, 0, 0), (43, none, .getfield 17, 3, 336, 127, 10), (46, none, .invokestatic 29, 3, 2, 157, 1), (49, none, .if_icmp .le 7, 3, 56, 0, 0), (52, none, .iconst 1, 1, 0, 1, 0), (53, none, .goto 21, 3, 74, 0, 0)] := fq_of2 cd_389 ow_389 cl_389 rfl (pc := 24) (by decide +kernel)
        j_aldn (pc := 24) D rfl rfl rfl fun D =>
        j_gf (pc := 25) (a := x0.toNat) D rfl rfl (nz_cls H.2.1 hk (by decide)) rfl hk rfl fun D =>
        j_ifeq (pc := 28) D rfl (fun q =>
          have D : fk_D 389 [(60, none, .aload_n 2, 1, 0, 0, 0), (61, none, .getfield 23, 3, 113, 101, 10), (64, none, .bipush 7, 2, 0, 7, 0), (66, none, .if_icmp .gt 7, 3, 73, 0, 0), (69, none, .iconst 1, 1, 0, 1, 0), (70, none, .goto 4, 3, 74, 0, 0)] := fq_of2 cd_389 ow_389 cl_389 rfl (pc := 60) (by decide +kernel)
          j_aldn (pc := 60) D rfl rfl rfl fun D =>
          j_gf (pc := 61) (a := x2.toNat) D rfl rfl (nz_cls H.2.1 kc1 (by decide)) rfl kc1 rfl fun D =>
          j_bp (pc := 64) D rfl fun D =>
          j_igt (pc := 66) D rfl (fun q =>
            have D : fk_D 389 [(73, none, .iconst 0, 1, 0, 0, 0), (74, none, .ireturn, 1, 0, 0, 0)] := fq_of2 cd_389 ow_389 cl_389 rfl (pc := 73) (by decide +kernel)
            j_ic (pc := 73) D rfl fun D =>
            j_zret D rt_389 (gy (by decide))) (fun q D =>
            j_ic (pc := 69) D rfl fun D =>
            j_goto (pc := 70) D rfl <|
            have D : fk_D 389 [(74, none, .ireturn, 1, 0, 0, 0)] := fq_of2 cd_389 ow_389 cl_389 rfl (pc := 74) (by decide +kernel)
            j_zret D rt_389 (gy (by decide)))) (fun q D =>
          j_aldn (pc := 31) D rfl rfl rfl fun D =>
          j_gf (pc := 32) (a := x2.toNat) D rfl rfl (nz_cls H.2.1 kc1 (by decide)) rfl kc1 rfl fun D =>
          j_bp (pc := 35) D rfl fun D =>
          j_iadd (pc := 37) D rfl fun D =>
          j_aldn (pc := 38) D rfl rfl rfl fun D =>
          j_gf (pc := 39) (a := x2.toNat) D rfl rfl (nz_cls H.2.1 kc1 (by decide)) rfl kc1 rfl fun D =>
          j_aldn (pc := 42) D rfl rfl rfl fun D =>
          j_gf (pc := 43) (a := x0.toNat) D rfl rfl (nz_cls H.2.1 hk (by decide)) rfl hk rfl fun D =>
          j_is (pc := 46) (m := 157) (a := [(0, h 111 x2.toNat 0), (0, h 336 x0.toNat 0)]) (rest := [(0, wI ((h 113 x2.toNat 0) + 7))]) D rfl rfl rfl rfl (fun v3 h2 e1 D =>
            have T := fj_run_ok _ _ _ _ _ _ H.1 e1
            have hk := cls_st H.1 T.2 hk (by decide)
            have kc1 := cls_st H.1 T.2 kc1 (by decide)
            have H := shp_st H T
            j_ile (pc := 49) D rfl (fun q D =>
              j_ic (pc := 52) D rfl fun D =>
              j_goto (pc := 53) D rfl <|
              have D : fk_D 389 [(74, none, .ireturn, 1, 0, 0, 0)] := fq_of2 cd_389 ow_389 cl_389 rfl (pc := 74) (by decide +kernel)
              j_zret D rt_389 (gy (by decide))) (fun q =>
              have D : fk_D 389 [(56, none, .iconst 0, 1, 0, 0, 0), (57, none, .goto 17, 3, 74, 0, 0)] := fq_of2 cd_389 ow_389 cl_389 rfl (pc := 56) (by decide +kernel)
              j_ic (pc := 56) D rfl fun D =>
              j_goto (pc := 57) D rfl <|
              have D : fk_D 389 [(74, none, .ireturn, 1, 0, 0, 0)] := fq_of2 cd_389 ow_389 cl_389 rfl (pc := 74) (by decide +kernel)
              j_zret D rt_389 (gy (by decide)))) (fun q4 h2 e1 =>
            j_tx (hx_389 _)))) (fun q D =>
        j_ic (pc := 22) D rfl fun D =>
        j_zret D rt_389 (gy (by decide)))) (fun q =>
      have D : fk_D 389 [(22, none, .iconst 0, 1, 0, 0, 0), (23, none, .ireturn, 1, 0, 0, 0)] := fq_of2 cd_389 ow_389 cl_389 rfl (pc := 22) (by decide +kernel)
      j_ic (pc := 22) D rfl fun D =>
      j_zret D rt_389 (gy (by decide)))
/-! 390 StatuteHouse$Function$19.work(LStatuteHouse;ILStatuteHouse$Kind;)V -/
theorem cd_390 : fi_code 390 = prog_23_method_3_code := rfl
theorem hx_390 : ∀ pc, fi_hat 390 pc = none := fun pc => by unfold fi_hat; rw [show fi_hh 390 = [] from rfl]; rfl
theorem rt_390 : fi_ret 390 = none := rfl
theorem nl_390 : fi_nl 390 = 4 := rfl
theorem ow_390 : fi_ow 390 = 45 := rfl
theorem cl_390 : fj_cutT.getD 390 [] = [] := rfl
theorem m_390 (d : Nat) (x0 x1 x2 x3 : Int) {h : fi_H} {k0 : Int} (H : Shp h) (hk : h 0 x0.toNat 0 = k0) (hk0 : k0 ≠ 0) : fj_run (d + 1) 390 h [(4, x0), (4, x1), (0, x2), (4, x3)] =
  if h 0 x1.toNat 0 = 100 then
  if h 0 (h 213 x1.toNat 0).toNat 0 = 119 then
  if h 0 (h 120 (h 213 x1.toNat 0).toNat 0).toNat 0 = 5 ∧ 0 ≤ x2 ∧ x2 < h 1 (h 120 (h 213 x1.toNat 0).toNat 0).toNat 0 then
  ca_ (fj_run d 391 h [(4, x1), (0, h 5 (h 120 (h 213 x1.toNat 0).toNat 0).toNat x2.toNat)]) 0
    (fun v4 h3 =>
    cv_ (fj_run d 352 h3 [(4, x1), (0, x2), (0, v4)])
      (fun h6 =>
      some (.inl none, h6))
      (fun q8 h6 => tx_ q8 h6))
    (fun q5 h3 => tx_ q5 h3)
  else none
  else none
  else none := by
  rw [fj_run_eq d (by decide) h [(4, x0), (4, x1), (0, x2), (4, x3)] (Nat.le_of_ble_eq_true (by rw [nl_390]; rfl))]
  show gG (fj_run d) 390 0 [(0, (4, x0)), (1, (4, x1)), (2, (0, x2)), (3, (4, x3))] [] h = _
  exact
    have D : fk_D 390 [(0, none, .aload_n 1, 1, 0, 0, 0), (1, none, .iload_n 2, 1, 0, 0, 0), (2, none, .aload_n 1, 1, 0, 0, 0), (3, none, .aload_n 1, 1, 0, 0, 0), (4, none, .getfield 13, 3, 213, (-100), 12), (7, none, .getfield 19, 3, 120, (-119), 12), (10, none, .iload_n 2, 1, 0, 0, 0), (11, none, .caload, 1, 0, 0, 0), (12, none, .invokevirtual 25, 3, 1, 176, 1), (15, none, .invokevirtual 29, 3, 2, 120, 0), (18, none, .return_, 1, 0, 0, 0)] := fq_of2 cd_390 ow_390 cl_390 rfl (pc := 0) (by decide +kernel)
    j_aldn (pc := 0) D rfl rfl rfl fun D =>
    j_ildn (pc := 1) D rfl rfl rfl fun D =>
    j_aldn (pc := 2) D rfl rfl rfl fun D =>
    j_aldn (pc := 3) D rfl rfl rfl fun D =>
    j_gfo (pc := 4) H.2.1 D rfl rfl rfl rfl fun kc1 D =>
    j_gfo (pc := 7) H.2.1 D rfl rfl rfl rfl fun kc2 D =>
    j_ildn (pc := 10) D rfl rfl rfl fun D =>
    j_alp (pc := 11) (e := 5) H.2.1 D rfl rfl ⟨rfl, rfl, rfl⟩ rfl fun q q2 D =>
    j_iv (pc := 12) (m := 391) (dd := 176) (a := [(0, h 5 (h 120 (h 213 x1.toNat 0).toNat 0).toNat x2.toNat)]) (rest := [(0, x2), (4, x1)]) D rfl rfl rfl rfl rfl (nz_cls H.2.1 kc1 (by decide)) kc1 (by decide +kernel) (fun v4 h3 e1 D =>
      have T := fj_run_ok _ _ _ _ _ _ H.1 e1
      have hk := cls_st H.1 T.2 hk hk0
      have kc1 := cls_st H.1 T.2 kc1 (by decide)
      have H := shp_st H T
      j_ivv (pc := 15) (m := 352) (dd := 120) (a := [(0, x2), (0, v4)]) (rest := []) D rfl rfl rfl rfl rfl (nz_cls H.2.1 kc1 (by decide)) kc1 (by decide +kernel) (fun h6 e1 D =>
        have T := fj_run_ok _ _ _ _ _ _ H.1 e1
        have hk := cls_st H.1 T.2 hk hk0
        have kc1 := cls_st H.1 T.2 kc1 (by decide)
        have H := shp_st H T
        j_vret D rt_390) (fun q8 h6 e1 =>
        j_tx (hx_390 _))) (fun q5 h3 e1 =>
      j_tx (hx_390 _))
/-! 391 StatuteHouse.dueOf(I)I -/
theorem cd_391 : fi_code 391 = prog_1_method_4_code := rfl
theorem hx_391 : ∀ pc, fi_hat 391 pc = none := fun pc => by unfold fi_hat; rw [show fi_hh 391 = [] from rfl]; rfl
theorem rt_391 : fi_ret 391 = some .int := rfl
theorem nl_391 : fi_nl 391 = 3 := rfl
theorem ow_391 : fi_ow 391 = 0 := rfl
theorem cl_391 : fj_cutT.getD 391 [] = [(2, [0, 2])] := rfl
theorem cut_391_2 : fj_cut 391 2 = some [0, 2] := by decide +kernel
noncomputable def c_391_2 (d : Nat) (x2 : Int) (h : fi_H) : fk_R := gG (fj_run d) 391 2 [(0, (4, 303)), (2, (0, x2))] [] h
theorem e_391_2 (d : Nat) (x2 : Int) {h : fi_H} (H : Shp h) : c_391_2 d x2 h =
  if 65535 < x2 then
    some (.inl (some (0, (-1))), h)
  else
    ca_ (fj_run d 385 h [(4, 303), (0, x2)]) 0
      (fun v2 h1 =>
      if v2 = 0 then
        c_391_2 d (wI (x2 + 1)) h1
      else
        some (.inl (some (0, x2)), h1))
      (fun q3 h1 => tx_ q3 h1) := by
  unfold c_391_2
  exact
    have D : fk_D 391 [(2, some [0, 2], .iload_n 2, 1, 0, 0, 0), (3, none, .ldc 39, 2, 0, 65535, 0), (5, none, .if_icmp .gt 19, 3, 24, 0, 0), (8, none, .aload_n 0, 1, 0, 0, 0), (9, none, .iload_n 2, 1, 0, 0, 0), (10, none, .invokevirtual 40, 3, 1, 110, 1), (13, none, .ifCond .eq 5, 3, 18, 0, 0), (16, none, .iload_n 2, 1, 0, 0, 0), (17, none, .ireturn, 1, 0, 0, 0)] := fq_of2 cd_391 ow_391 cl_391 rfl (pc := 2) (by decide +kernel)
    j_ildn (pc := 2) D rfl rfl rfl fun D =>
    j_ldc (pc := 3) D rfl fun D =>
    j_igt (pc := 5) D rfl (fun q =>
      have D : fk_D 391 [(24, none, .iconst (-1), 1, 0, (-1), 0), (25, none, .ireturn, 1, 0, 0, 0)] := fq_of2 cd_391 ow_391 cl_391 rfl (pc := 24) (by decide +kernel)
      j_ic (pc := 24) D rfl fun D =>
      j_iret D rt_391) (fun q D =>
      j_aldn (pc := 8) D rfl rfl rfl fun D =>
      j_ildn (pc := 9) D rfl rfl rfl fun D =>
      j_iv (pc := 10) (m := 385) (dd := 110) (a := [(0, x2)]) (rest := []) D rfl rfl rfl rfl rfl (by decide) (s0_303 H) (by decide +kernel) (fun v2 h1 e1 D =>
        have T := fj_run_ok _ _ _ _ _ _ H.1 e1
        have H := shp_st H T
        j_ifeq (pc := 13) D rfl (fun q =>
          have D : fk_D 391 [(18, none, .iinc 2 1, 3, 0, 1, 0), (21, none, .goto (-19), 3, 2, 0, 0)] := fq_of2 cd_391 ow_391 cl_391 rfl (pc := 18) (by decide +kernel)
          j_inc (pc := 18) (L' := [(2, (0, wI (x2 + 1))), (0, (4, 303))]) D rfl rfl rfl (by decide +kernel) rfl fun D =>
          j_goto (pc := 21) D rfl <|
          fk_jump cut_391_2 rfl rfl) (fun q D =>
          j_ildn (pc := 16) D rfl rfl rfl fun D =>
          j_iret D rt_391)) (fun q3 h1 e1 =>
        j_tx (hx_391 _)))
theorem m_391 (d : Nat) (x1 : Int) {h : fi_H} (H : Shp h) : fj_run (d + 1) 391 h [(4, 303), (0, x1)] =
  c_391_2 d x1 h := by
  rw [fj_run_eq d (by decide) h [(4, 303), (0, x1)] (Nat.le_of_ble_eq_true (by rw [nl_391]; rfl))]
  show gG (fj_run d) 391 0 [(0, (4, 303)), (1, (0, x1))] [] h = _
  exact
    have D : fk_D 391 [(0, none, .iload_n 1, 1, 0, 0, 0), (1, none, .istore_n 2, 1, 0, 0, 0)] := fq_of2 cd_391 ow_391 cl_391 rfl (pc := 0) (by decide +kernel)
    j_ildn (pc := 0) D rfl rfl rfl fun D =>
    j_istn (pc := 1) (L' := [(2, (0, x1)), (0, (4, 303)), (1, (0, x1))]) D rfl nl_391 rfl rfl fun D =>
    fk_jump cut_391_2 rfl rfl
/-! 392 StatuteHouse$Function$2.work(LStatuteHouse;ILStatuteHouse$Kind;)V -/
theorem cd_392 : fi_code 392 = prog_24_method_3_code := rfl
theorem hx_392 : ∀ pc, fi_hat 392 pc = none := fun pc => by unfold fi_hat; rw [show fi_hh 392 = [] from rfl]; rfl
theorem rt_392 : fi_ret 392 = none := rfl
theorem nl_392 : fi_nl 392 = 4 := rfl
theorem ow_392 : fi_ow 392 = 46 := rfl
theorem cl_392 : fj_cutT.getD 392 [] = [] := rfl
theorem m_392 (d : Nat) (x0 x1 x2 x3 : Int) {h : fi_H} {k0 : Int} (H : Shp h) (hk : h 0 x0.toNat 0 = k0) (hk0 : k0 ≠ 0) : fj_run (d + 1) 392 h [(4, x0), (4, x1), (0, x2), (4, x3)] =
  if h 0 x1.toNat 0 = 100 then
  if h 0 (h 213 x1.toNat 0).toNat 0 = 119 then
  if h 0 (h 120 (h 213 x1.toNat 0).toNat 0).toNat 0 = 5 ∧ 0 ≤ x2 ∧ x2 < h 1 (h 120 (h 213 x1.toNat 0).toNat 0).toNat 0 then
  if h 0 (h 120 (h 213 x1.toNat 0).toNat 0).toNat 0 = 5 ∧ 0 ≤ wI (x2 + 1) ∧ wI (x2 + 1) < h 1 (h 120 (h 213 x1.toNat 0).toNat 0).toNat 0 then
  dv_ (fi_vt 196 (h 0 (h 209 x1.toNat 0).toNat 0)) fun m6 => ca_ (fj_run d m6 h [(4, h 209 x1.toNat 0), (0, h 5 (h 120 (h 213 x1.toNat 0).toNat 0).toNat x2.toNat), (0, h 5 (h 120 (h 213 x1.toNat 0).toNat 0).toNat (wI (x2 + 1)).toNat)]) 0
    (fun v4 h3 =>
    if 302 < h 115 (h 213 x1.toNat 0).toNat 0 ∧ h3 0 (h 115 (h 213 x1.toNat 0).toNat 0).toNat 0 = 10 then
    if 0 ≤ x2 ∧ x2 < h3 1 (h 115 (h 213 x1.toNat 0).toNat 0).toNat 0 then
    lt_ (fi_upd h3 10 (h 115 (h 213 x1.toNat 0).toNat 0).toNat x2.toNat (iq_ v4 12)) fun h7 =>
    some (.inl none, h7)
    else none
    else none)
    (fun q5 h3 => tx_ q5 h3)
  else none
  else none
  else none
  else none := by
  rw [fj_run_eq d (by decide) h [(4, x0), (4, x1), (0, x2), (4, x3)] (Nat.le_of_ble_eq_true (by rw [nl_392]; rfl))]
  show gG (fj_run d) 392 0 [(0, (4, x0)), (1, (4, x1)), (2, (0, x2)), (3, (4, x3))] [] h = _
  exact
    have D : fk_D 392 [(0, none, .aload_n 1, 1, 0, 0, 0), (1, none, .getfield 17, 3, 213, (-100), 12), (4, none, .getfield 23, 3, 115, (-119), 12), (7, none, .iload_n 2, 1, 0, 0, 0), (8, none, .aload_n 1, 1, 0, 0, 0), (9, none, .getfield 29, 3, 209, 100, 12), (12, none, .aload_n 1, 1, 0, 0, 0), (13, none, .getfield 17, 3, 213, 100, 12), (16, none, .getfield 33, 3, 120, 119, 12), (19, none, .iload_n 2, 1, 0, 0, 0), (20, none, .caload, 1, 0, 0, 0), (21, none, .aload_n 1, 1, 0, 0, 0), (22, none, .getfield 17, 3, 213, 100, 12), (25, none, .getfield 33, 3, 120, 119, 12), (28, none, .iload_n 2, 1, 0, 0, 0), (29, none, .iconst 1, 1, 0, 1, 0), (30, none, .iadd, 1, 0, 0, 0), (31, none, .caload, 1, 0, 0, 0), (32, none, .invokevirtual 37, 3, 2, 196, 1), (35, none, .bipush 12, 2, 0, 12, 0)] := fq_of2 cd_392 ow_392 cl_392 rfl (pc := 0) (by decide +kernel)
    j_aldn (pc := 0) D rfl rfl rfl fun D =>
    j_gfo (pc := 1) H.2.1 D rfl rfl rfl rfl fun kc1 D =>
    j_gfo (pc := 4) H.2.1 D rfl rfl rfl rfl fun kc2 D =>
    j_ildn (pc := 7) D rfl rfl rfl fun D =>
    j_aldn (pc := 8) D rfl rfl rfl fun D =>
    j_gf (pc := 9) (a := x1.toNat) D rfl rfl (nz_cls H.2.1 kc1 (by decide)) rfl kc1 rfl fun D =>
    j_aldn (pc := 12) D rfl rfl rfl fun D =>
    j_gf (pc := 13) (a := x1.toNat) D rfl rfl (nz_cls H.2.1 kc1 (by decide)) rfl kc1 rfl fun D =>
    j_gf (pc := 16) (a := (h 213 x1.toNat 0).toNat) D rfl rfl (nz_cls H.2.1 kc2 (by decide)) rfl kc2 rfl fun D =>
    j_ildn (pc := 19) D rfl rfl rfl fun D =>
    j_alp (pc := 20) (e := 5) H.2.1 D rfl rfl ⟨rfl, rfl, rfl⟩ rfl fun q q2 D =>
    j_aldn (pc := 21) D rfl rfl rfl fun D =>
    j_gf (pc := 22) (a := x1.toNat) D rfl rfl (nz_cls H.2.1 kc1 (by decide)) rfl kc1 rfl fun D =>
    j_gf (pc := 25) (a := (h 213 x1.toNat 0).toNat) D rfl rfl (nz_cls H.2.1 kc2 (by decide)) rfl kc2 rfl fun D =>
    j_ildn (pc := 28) D rfl rfl rfl fun D =>
    j_ic (pc := 29) D rfl fun D =>
    j_iadd (pc := 30) D rfl fun D =>
    j_alp (pc := 31) (e := 5) H.2.1 D rfl rfl ⟨rfl, rfl, rfl⟩ rfl fun q q2 D =>
    j_ivu (pc := 32) (dd := 196) (a := [(0, h 5 (h 120 (h 213 x1.toNat 0).toNat 0).toNat x2.toNat), (0, h 5 (h 120 (h 213 x1.toNat 0).toNat 0).toNat (wI (x2 + 1)).toNat)]) (rest := [(0, x2), (4, h 115 (h 213 x1.toNat 0).toNat 0)]) H.2.1 D rfl rfl rfl rfl rfl (fun m6 v4 h3 e1 D =>
      have T := fj_run_ok _ _ _ _ _ _ H.1 e1
      have hk := cls_st H.1 T.2 hk hk0
      have kc1 := cls_st H.1 T.2 kc1 (by decide)
      have kc2 := cls_st H.1 T.2 kc2 (by decide)
      have H := shp_st H T
      j_bp (pc := 35) D rfl fun D =>
      have D : fk_D 392 [(37, none, .idiv, 1, 0, 0, 0), (38, none, .iastore, 1, 0, 0, 0), (39, none, .return_, 1, 0, 0, 0)] := fq_of2 cd_392 ow_392 cl_392 rfl (pc := 37) (by decide +kernel)
      j_idivk (pc := 37) D rfl (by decide) fun D =>
      j_asu (pc := 38) (e := 10) D rfl rfl ⟨rfl, rfl, rfl⟩ rfl gn gn (gy rfl) fun h7 eh7 S q q2 D =>
      have T := fj_hs_ok H.1 S
      have hk := cls_st H.1 T.2 hk hk0
      have kc1 := cls_st H.1 T.2 kc1 (by decide)
      have H := shp_st H T
      j_vret D rt_392) (fun m6 q5 h3 e1 =>
      j_tx (hx_392 _))
/-! 393 StatuteHouse$Calendar.months(II)I -/
theorem cd_393 : fi_code 393 = prog_3_method_9_code := rfl
theorem hx_393 : ∀ pc, fi_hat 393 pc = none := fun pc => by unfold fi_hat; rw [show fi_hh 393 = [] from rfl]; rfl
theorem rt_393 : fi_ret 393 = some .int := rfl
theorem nl_393 : fi_nl 393 = 3 := rfl
theorem ow_393 : fi_ow 393 = 1 := rfl
theorem cl_393 : fj_cutT.getD 393 [] = [] := rfl
theorem m_393 (d : Nat) (x0 x1 x2 : Int) {h : fi_H} (H : Shp h) (hk : h 0 x0.toNat 0 = 101) : fj_run (d + 1) 393 h [(4, x0), (0, x1), (0, x2)] =
  if x2 < x1 then
    ca_ (fj_run d 394 h [(4, x0), (0, x2), (0, x1)]) 0
      (fun v2 h1 =>
      some (.inl (some (0, wI (-v2))), h1))
      (fun q3 h1 => tx_ q3 h1)
  else
    ca_ (fj_run d 394 h [(4, x0), (0, x1), (0, x2)]) 0
      (fun v5 h4 =>
      some (.inl (some (0, v5)), h4))
      (fun q6 h4 => tx_ q6 h4) := by
  rw [fj_run_eq d (by decide) h [(4, x0), (0, x1), (0, x2)] (Nat.le_of_ble_eq_true (by rw [nl_393]; rfl))]
  show gG (fj_run d) 393 0 [(0, (4, x0)), (1, (0, x1)), (2, (0, x2))] [] h = _
  exact
    have D : fk_D 393 [(0, none, .iload_n 1, 1, 0, 0, 0), (1, none, .iload_n 2, 1, 0, 0, 0), (2, none, .if_icmp .gt 12, 3, 14, 0, 0), (5, none, .aload_n 0, 1, 0, 0, 0), (6, none, .iload_n 1, 1, 0, 0, 0), (7, none, .iload_n 2, 1, 0, 0, 0), (8, none, .invokevirtual 59, 3, 2, 245, 1), (11, none, .goto 10, 3, 21, 0, 0)] := fq_of2 cd_393 ow_393 cl_393 rfl (pc := 0) (by decide +kernel)
    j_ildn (pc := 0) D rfl rfl rfl fun D =>
    j_ildn (pc := 1) D rfl rfl rfl fun D =>
    j_igt (pc := 2) D rfl (fun q =>
      have D : fk_D 393 [(14, none, .aload_n 0, 1, 0, 0, 0), (15, none, .iload_n 2, 1, 0, 0, 0), (16, none, .iload_n 1, 1, 0, 0, 0), (17, none, .invokevirtual 59, 3, 2, 245, 1), (20, none, .ineg, 1, 0, 0, 0), (21, none, .ireturn, 1, 0, 0, 0)] := fq_of2 cd_393 ow_393 cl_393 rfl (pc := 14) (by decide +kernel)
      j_aldn (pc := 14) D rfl rfl rfl fun D =>
      j_ildn (pc := 15) D rfl rfl rfl fun D =>
      j_ildn (pc := 16) D rfl rfl rfl fun D =>
      j_iv (pc := 17) (m := 394) (dd := 245) (a := [(0, x2), (0, x1)]) (rest := []) D rfl rfl rfl rfl rfl (nz_cls H.2.1 hk (by decide)) hk (by decide +kernel) (fun v2 h1 e1 D =>
        have T := fj_run_ok _ _ _ _ _ _ H.1 e1
        have hk := cls_st H.1 T.2 hk (by decide)
        have H := shp_st H T
        j_ineg (pc := 20) D rfl fun D =>
        j_iret D rt_393) (fun q3 h1 e1 =>
        j_tx (hx_393 _))) (fun q D =>
      j_aldn (pc := 5) D rfl rfl rfl fun D =>
      j_ildn (pc := 6) D rfl rfl rfl fun D =>
      j_ildn (pc := 7) D rfl rfl rfl fun D =>
      j_iv (pc := 8) (m := 394) (dd := 245) (a := [(0, x1), (0, x2)]) (rest := []) D rfl rfl rfl rfl rfl (nz_cls H.2.1 hk (by decide)) hk (by decide +kernel) (fun v5 h4 e1 D =>
        have T := fj_run_ok _ _ _ _ _ _ H.1 e1
        have hk := cls_st H.1 T.2 hk (by decide)
        have H := shp_st H T
        j_goto (pc := 11) D rfl <|
        have D : fk_D 393 [(21, none, .ireturn, 1, 0, 0, 0)] := fq_of2 cd_393 ow_393 cl_393 rfl (pc := 21) (by decide +kernel)
        j_iret D rt_393) (fun q6 h4 e1 =>
        j_tx (hx_393 _)))
/-! 394 StatuteHouse$Calendar.between(II)I -/
theorem cd_394 : fi_code 394 = prog_3_method_8_code := rfl
theorem hx_394 : ∀ pc, fi_hat 394 pc = none := fun pc => by unfold fi_hat; rw [show fi_hh 394 = [] from rfl]; rfl
theorem rt_394 : fi_ret 394 = some .int := rfl
theorem nl_394 : fi_nl 394 = 5 := rfl
theorem ow_394 : fi_ow 394 = 1 := rfl
theorem cl_394 : fj_cutT.getD 394 [] = [] := rfl
theorem m_394 (d : Nat) (x0 x1 x2 : Int) {h : fi_H} (H : Shp h) (hk : h 0 x0.toNat 0 = 101) : fj_run (d + 1) 394 h [(4, x0), (0, x1), (0, x2)] =
  cv_ (fj_run d 40 h [(4, x0), (0, x2)])
    (fun h1 =>
    lt_ (wI ((wI (12 * (h1 111 x0.toNat 0))) + (h1 112 x0.toNat 0))) fun y4 =>
    cv_ (fj_run d 40 h1 [(4, x0), (0, x1)])
      (fun h5 =>
      lt_ (wI (y4 - (wI ((wI (12 * (h5 111 x0.toNat 0))) + (h5 112 x0.toNat 0))))) fun y8 =>
      ca_ (fj_run d 350 h5 [(4, x0), (0, x1), (0, y8), (0, 0)]) 0
        (fun v10 h9 =>
        if v10 = (-1) then
          some (.inl (some (0, wI (y8 - 1))), h9)
        else
          if x2 < v10 then
            some (.inl (some (0, wI (y8 - 1))), h9)
          else
            some (.inl (some (0, y8)), h9))
        (fun q11 h9 => tx_ q11 h9))
      (fun q7 h5 => tx_ q7 h5))
    (fun q3 h1 => tx_ q3 h1) := by
  rw [fj_run_eq d (by decide) h [(4, x0), (0, x1), (0, x2)] (Nat.le_of_ble_eq_true (by rw [nl_394]; rfl))]
  show gG (fj_run d) 394 0 [(0, (4, x0)), (1, (0, x1)), (2, (0, x2))] [] h = _
  exact
    have D : fk_D 394 [(0, none, .aload_n 0, 1, 0, 0, 0), (1, none, .iload_n 2, 1, 0, 0, 0), (2, none, .invokevirtual 44, 3, 1, 108, 0), (5, none, .bipush 12, 2, 0, 12, 0), (7, none, .aload_n 0, 1, 0, 0, 0), (8, none, .getfield 22, 3, 111, 101, 10), (11, none, .imul, 1, 0, 0, 0), (12, none, .aload_n 0, 1, 0, 0, 0), (13, none, .getfield 19, 3, 112, 101, 10), (16, none, .iadd, 1, 0, 0, 0), (17, none, .istore_n 3, 1, 0, 0, 0), (18, none, .aload_n 0, 1, 0, 0, 0), (19, none, .iload_n 1, 1, 0, 0, 0), (20, none, .invokevirtual 44, 3, 1, 108, 0), (23, none, .iload_n 3, 1, 0, 0, 0), (24, none, .bipush 12, 2, 0, 12, 0), (26, none, .aload_n 0, 1, 0, 0, 0), (27, none, .getfield 22, 3, 111, 101, 10), (30, none, .imul, 1, 0, 0, 0), (31, none, .aload_n 0, 1, 0, 0, 0)] := fq_of2 cd_394 ow_394 cl_394 rfl (pc := 0) (by decide +kernel)
    j_aldn (pc := 0) D rfl rfl rfl fun D =>
    j_ildn (pc := 1) D rfl rfl rfl fun D =>
    j_ivv (pc := 2) (m := 40) (dd := 108) (a := [(0, x2)]) (rest := []) D rfl rfl rfl rfl rfl (nz_cls H.2.1 hk (by decide)) hk (by decide +kernel) (fun h1 e1 D =>
      have T := fj_run_ok _ _ _ _ _ _ H.1 e1
      have hk := cls_st H.1 T.2 hk (by decide)
      have H := shp_st H T
      j_bp (pc := 5) D rfl fun D =>
      j_aldn (pc := 7) D rfl rfl rfl fun D =>
      j_gf (pc := 8) (a := x0.toNat) D rfl rfl (nz_cls H.2.1 hk (by decide)) rfl hk rfl fun D =>
      j_imul (pc := 11) D rfl fun D =>
      j_aldn (pc := 12) D rfl rfl rfl fun D =>
      j_gf (pc := 13) (a := x0.toNat) D rfl rfl (nz_cls H.2.1 hk (by decide)) rfl hk rfl fun D =>
      j_iadd (pc := 16) D rfl fun D =>
      j_stl (pc := 17) (L' := fun y4 => [(3, (0, y4)), (0, (4, x0)), (1, (0, x1)), (2, (0, x2))]) D rfl ⟨rfl, rfl, rfl, rfl⟩ nl_394 rfl (fun _ => rfl) fun y4 ey4 D =>
      j_aldn (pc := 18) D rfl rfl rfl fun D =>
      j_ildn (pc := 19) D rfl rfl rfl fun D =>
      j_ivv (pc := 20) (m := 40) (dd := 108) (a := [(0, x1)]) (rest := []) D rfl rfl rfl rfl rfl (nz_cls H.2.1 hk (by decide)) hk (by decide +kernel) (fun h5 e1 D =>
        have T := fj_run_ok _ _ _ _ _ _ H.1 e1
        have hk := cls_st H.1 T.2 hk (by decide)
        have H := shp_st H T
        j_ildn (pc := 23) D rfl rfl rfl fun D =>
        j_bp (pc := 24) D rfl fun D =>
        j_aldn (pc := 26) D rfl rfl rfl fun D =>
        j_gf (pc := 27) (a := x0.toNat) D rfl rfl (nz_cls H.2.1 hk (by decide)) rfl hk rfl fun D =>
        j_imul (pc := 30) D rfl fun D =>
        j_aldn (pc := 31) D rfl rfl rfl fun D =>
        have D : fk_D 394 [(32, none, .getfield 19, 3, 112, 101, 10), (35, none, .iadd, 1, 0, 0, 0), (36, none, .isub, 1, 0, 0, 0), (37, none, .istore_n 3, 1, 0, 0, 0), (38, none, .aload_n 0, 1, 0, 0, 0), (39, none, .iload_n 1, 1, 0, 0, 0), (40, none, .iload_n 3, 1, 0, 0, 0), (41, none, .iconst 0, 1, 0, 0, 0), (42, none, .invokevirtual 56, 3, 3, 119, 1), (45, none, .istore 4, 2, 0, 0, 0), (47, none, .iload 4, 2, 0, 0, 0), (49, none, .iconst (-1), 1, 0, (-1), 0), (50, none, .if_icmp .eq 9, 3, 59, 0, 0), (53, none, .iload 4, 2, 0, 0, 0), (55, none, .iload_n 2, 1, 0, 0, 0), (56, none, .if_icmp .le 9, 3, 65, 0, 0), (59, none, .iload_n 3, 1, 0, 0, 0), (60, none, .iconst 1, 1, 0, 1, 0), (61, none, .isub, 1, 0, 0, 0), (62, none, .goto 4, 3, 66, 0, 0)] := fq_of2 cd_394 ow_394 cl_394 rfl (pc := 32) (by decide +kernel)
        j_gf (pc := 32) (a := x0.toNat) D rfl rfl (nz_cls H.2.1 hk (by decide)) rfl hk rfl fun D =>
        j_iadd (pc := 35) D rfl fun D =>
        j_isub (pc := 36) D rfl fun D =>
        j_stl (pc := 37) (L' := fun y8 => [(3, (0, y8)), (0, (4, x0)), (1, (0, x1)), (2, (0, x2))]) D rfl ⟨rfl, rfl, rfl, rfl⟩ nl_394 rfl (fun _ => rfl) fun y8 ey8 D =>
        j_aldn (pc := 38) D rfl rfl rfl fun D =>
        j_ildn (pc := 39) D rfl rfl rfl fun D =>
        j_ildn (pc := 40) D rfl rfl rfl fun D =>
        j_ic (pc := 41) D rfl fun D =>
        j_iv (pc := 42) (m := 350) (dd := 119) (a := [(0, x1), (0, y8), (0, 0)]) (rest := []) D rfl rfl rfl rfl rfl (nz_cls H.2.1 hk (by decide)) hk (by decide +kernel) (fun v10 h9 e1 D =>
          have T := fj_run_ok _ _ _ _ _ _ H.1 e1
          have hk := cls_st H.1 T.2 hk (by decide)
          have H := shp_st H T
          j_ist (pc := 45) (L' := [(4, (0, v10)), (3, (0, y8)), (0, (4, x0)), (1, (0, x1)), (2, (0, x2))]) D rfl nl_394 rfl rfl fun D =>
          j_ild (pc := 47) D rfl rfl rfl fun D =>
          j_ic (pc := 49) D rfl fun D =>
          j_ieq (pc := 50) D rfl (fun q =>
            have D : fk_D 394 [(59, none, .iload_n 3, 1, 0, 0, 0), (60, none, .iconst 1, 1, 0, 1, 0), (61, none, .isub, 1, 0, 0, 0), (62, none, .goto 4, 3, 66, 0, 0)] := fq_of2 cd_394 ow_394 cl_394 rfl (pc := 59) (by decide +kernel)
            j_ildn (pc := 59) D rfl rfl rfl fun D =>
            j_ic (pc := 60) D rfl fun D =>
            j_isub (pc := 61) D rfl fun D =>
            j_goto (pc := 62) D rfl <|
            have D : fk_D 394 [(66, none, .ireturn, 1, 0, 0, 0)] := fq_of2 cd_394 ow_394 cl_394 rfl (pc := 66) (by decide +kernel)
            j_iret D rt_394) (fun q D =>
            j_ild (pc := 53) D rfl rfl rfl fun D =>
            j_ildn (pc := 55) D rfl rfl rfl fun D =>
            j_ile (pc := 56) D rfl (fun q D =>
              j_ildn (pc := 59) D rfl rfl rfl fun D =>
              j_ic (pc := 60) D rfl fun D =>
              j_isub (pc := 61) D rfl fun D =>
              j_goto (pc := 62) D rfl <|
              have D : fk_D 394 [(66, none, .ireturn, 1, 0, 0, 0)] := fq_of2 cd_394 ow_394 cl_394 rfl (pc := 66) (by decide +kernel)
              j_iret D rt_394) (fun q =>
              have D : fk_D 394 [(65, none, .iload_n 3, 1, 0, 0, 0), (66, none, .ireturn, 1, 0, 0, 0)] := fq_of2 cd_394 ow_394 cl_394 rfl (pc := 65) (by decide +kernel)
              j_ildn (pc := 65) D rfl rfl rfl fun D =>
              j_iret D rt_394))) (fun q11 h9 e1 =>
          j_tx (hx_394 _))) (fun q7 h5 e1 =>
        j_tx (hx_394 _))) (fun q3 h1 e1 =>
      j_tx (hx_394 _))
/-! 395 StatuteHouse$Function$20.work(LStatuteHouse;ILStatuteHouse$Kind;)V -/
theorem cd_395 : fi_code 395 = prog_25_method_3_code := rfl
theorem hx_395 : ∀ pc, fi_hat 395 pc = none := fun pc => by unfold fi_hat; rw [show fi_hh 395 = [] from rfl]; rfl
theorem rt_395 : fi_ret 395 = none := rfl
theorem nl_395 : fi_nl 395 = 4 := rfl
theorem ow_395 : fi_ow 395 = 47 := rfl
theorem cl_395 : fj_cutT.getD 395 [] = [(102, [])] := rfl
theorem cut_395_102 : fj_cut 395 102 = some [] := by decide +kernel
noncomputable def c_395_102 (d : Nat) (h : fi_H) : fk_R := gG (fj_run d) 395 102 [] [] h
theorem e_395_102 (d : Nat) {h : fi_H} (H : Shp h) : c_395_102 d h =
  some (.inl none, h) := by
  unfold c_395_102
  exact
    have D : fk_D 395 [(102, some [], .goto 24, 3, 126, 0, 0)] := fq_of2 cd_395 ow_395 cl_395 rfl (pc := 102) (by decide +kernel)
    j_goto (pc := 102) D rfl <|
    have D : fk_D 395 [(126, none, .return_, 1, 0, 0, 0)] := fq_of2 cd_395 ow_395 cl_395 rfl (pc := 126) (by decide +kernel)
    j_vret D rt_395
theorem m_395 (d : Nat) (x0 x1 x2 x3 : Int) {h : fi_H} {k0 : Int} (H : Shp h) (hk : h 0 x0.toNat 0 = k0) (hk0 : k0 ≠ 0) : fj_run (d + 1) 395 h [(4, x0), (4, x1), (0, x2), (4, x3)] =
  dv_ (fi_vt 111 (h 0 x3.toNat 0)) fun m4 => ca_ (fj_run d m4 h [(4, x3)]) 0
    (fun v2 h1 =>
    if h1 0 60 0 = 10 ∧ 0 ≤ v2 ∧ v2 < h1 1 60 0 then
    if h1 10 60 v2.toNat = 1 then
      if h1 0 x1.toNat 0 = 100 then
      if h1 0 (h1 213 x1.toNat 0).toNat 0 = 119 then
      if h1 0 (h1 115 (h1 213 x1.toNat 0).toNat 0).toNat 0 = 10 ∧ 0 ≤ x2 ∧ x2 < h1 1 (h1 115 (h1 213 x1.toNat 0).toNat 0).toNat 0 then
      ca_ (fj_run d 357 h1 [(1, wI (h1 10 (h1 115 (h1 213 x1.toNat 0).toNat 0).toNat x2.toNat))]) 1
        (fun v8 h7 =>
        cv_ (fj_run d 353 h7 [(4, x1), (0, x2), (1, v8)])
          (fun h10 =>
          some (.inl none, h10))
          (fun q12 h10 => tx_ q12 h10))
        (fun q9 h7 => tx_ q9 h7)
      else none
      else none
      else none
    else if h1 10 60 v2.toNat = 2 then
      if h1 0 x1.toNat 0 = 100 then
      if h1 0 (h1 213 x1.toNat 0).toNat 0 = 119 then
      if h1 0 (h1 119 (h1 213 x1.toNat 0).toNat 0).toNat 0 = 11 ∧ 0 ≤ x2 ∧ x2 < h1 1 (h1 119 (h1 213 x1.toNat 0).toNat 0).toNat 0 then
      ca_ (fj_run d 357 h1 [(1, h1 11 (h1 119 (h1 213 x1.toNat 0).toNat 0).toNat x2.toNat)]) 1
        (fun v16 h15 =>
        if 302 < h1 119 (h1 213 x1.toNat 0).toNat 0 ∧ h15 0 (h1 119 (h1 213 x1.toNat 0).toNat 0).toNat 0 = 11 then
        if 0 ≤ x2 ∧ x2 < h15 1 (h1 119 (h1 213 x1.toNat 0).toNat 0).toNat 0 then
        lt_ (fi_upd h15 11 (h1 119 (h1 213 x1.toNat 0).toNat 0).toNat x2.toNat v16) fun h18 =>
        some (.inl none, h18)
        else none
        else none)
        (fun q17 h15 => tx_ q17 h15)
      else none
      else none
      else none
    else if h1 10 60 v2.toNat = 3 then
      if h1 0 x1.toNat 0 = 100 then
      if h1 0 (h1 213 x1.toNat 0).toNat 0 = 119 then
      if h1 0 (h1 116 (h1 213 x1.toNat 0).toNat 0).toNat 0 = 10 ∧ 0 ≤ x2 ∧ x2 < h1 1 (h1 116 (h1 213 x1.toNat 0).toNat 0).toNat 0 then
      ca_ (fj_run d 396 h1 [(0, h1 10 (h1 116 (h1 213 x1.toNat 0).toNat 0).toNat x2.toNat)]) 0
        (fun v22 h21 =>
        if 302 < h1 116 (h1 213 x1.toNat 0).toNat 0 ∧ h21 0 (h1 116 (h1 213 x1.toNat 0).toNat 0).toNat 0 = 10 then
        if 0 ≤ x2 ∧ x2 < h21 1 (h1 116 (h1 213 x1.toNat 0).toNat 0).toNat 0 then
        lt_ (fi_upd h21 10 (h1 116 (h1 213 x1.toNat 0).toNat 0).toNat x2.toNat v22) fun h24 =>
        c_395_102 d h24
        else none
        else none)
        (fun q23 h21 => tx_ q23 h21)
      else none
      else none
      else none
    else 
      if h1 0 x1.toNat 0 = 100 then
      if h1 0 (h1 213 x1.toNat 0).toNat 0 = 119 then
      if h1 0 (h1 122 (h1 213 x1.toNat 0).toNat 0).toNat 0 = 7 ∧ 0 ≤ x2 ∧ x2 < h1 1 (h1 122 (h1 213 x1.toNat 0).toNat 0).toNat 0 then
      ca_ (fj_run d 1006 h1 [(3, h1 7 (h1 122 (h1 213 x1.toNat 0).toNat 0).toNat x2.toNat)]) 3
        (fun v28 h27 =>
        if 302 < h1 122 (h1 213 x1.toNat 0).toNat 0 ∧ h27 0 (h1 122 (h1 213 x1.toNat 0).toNat 0).toNat 0 = 7 then
        if 0 ≤ x2 ∧ x2 < h27 1 (h1 122 (h1 213 x1.toNat 0).toNat 0).toNat 0 then
        lt_ (fi_upd h27 7 (h1 122 (h1 213 x1.toNat 0).toNat 0).toNat x2.toNat v28) fun h30 =>
        some (.inl none, h30)
        else none
        else none)
        (fun q29 h27 => tx_ q29 h27)
      else none
      else none
      else none
    else none)
    (fun q3 h1 => tx_ q3 h1) := by
  rw [fj_run_eq d (by decide) h [(4, x0), (4, x1), (0, x2), (4, x3)] (Nat.le_of_ble_eq_true (by rw [nl_395]; rfl))]
  show gG (fj_run d) 395 0 [(0, (4, x0)), (1, (4, x1)), (2, (0, x2)), (3, (4, x3))] [] h = _
  exact
    have D : fk_D 395 [(0, none, .getstatic 13, 3, 4, 60, 0), (3, none, .aload_n 3, 1, 0, 0, 0), (4, none, .invokevirtual 19, 3, 0, 111, 1), (7, none, .iaload, 1, 0, 0, 0), (8, none, .tableswitch 97 1 3 #[28, 49, 73], 28, 0, 0, 0)] := fq_of3 cd_395 ow_395 cl_395 rfl (pc := 0) (by decide +kernel)
    j_gs (pc := 0) D rfl fun D =>
    j_aldn (pc := 3) D rfl rfl rfl fun D =>
    j_ivu (pc := 4) (dd := 111) (a := []) (rest := [(4, 60)]) H.2.1 D rfl rfl rfl rfl rfl (fun m4 v2 h1 e1 D =>
      have T := fj_run_ok _ _ _ _ _ _ H.1 e1
      have hk := cls_st H.1 T.2 hk hk0
      have H := shp_st H T
      j_alp (pc := 7) (e := 10) H.2.1 D rfl rfl ⟨rfl, rfl, rfl⟩ rfl fun q q2 D =>
      have N : fk_ni (h1 10 60 v2.toNat) [] := trivial
      j_tc (pc := 8) 1 (t := 36) D N rfl (by decide +kernel) (fun q =>
        have D : fk_D 395 [(36, none, .aload_n 1, 1, 0, 0, 0), (37, none, .iload_n 2, 1, 0, 0, 0), (38, none, .aload_n 1, 1, 0, 0, 0), (39, none, .getfield 23, 3, 213, (-100), 12), (42, none, .getfield 29, 3, 115, (-119), 12), (45, none, .iload_n 2, 1, 0, 0, 0), (46, none, .iaload, 1, 0, 0, 0), (47, none, .i2l, 1, 0, 0, 0), (48, none, .invokestatic 34, 3, 1, 357, 2), (51, none, .invokevirtual 40, 3, 2, 121, 0), (54, none, .goto 72, 3, 126, 0, 0)] := fq_of2 cd_395 ow_395 cl_395 rfl (pc := 36) (by decide +kernel)
        j_aldn (pc := 36) D rfl rfl rfl fun D =>
        j_ildn (pc := 37) D rfl rfl rfl fun D =>
        j_aldn (pc := 38) D rfl rfl rfl fun D =>
        j_gfo (pc := 39) H.2.1 D rfl rfl rfl rfl fun kc5 D =>
        j_gfo (pc := 42) H.2.1 D rfl rfl rfl rfl fun kc6 D =>
        j_ildn (pc := 45) D rfl rfl rfl fun D =>
        j_alp (pc := 46) (e := 10) H.2.1 D rfl rfl ⟨rfl, rfl, rfl⟩ rfl fun q q2 D =>
        j_i2l (pc := 47) D rfl fun D =>
        j_is (pc := 48) (m := 357) (a := [(1, wI (h1 10 (h1 115 (h1 213 x1.toNat 0).toNat 0).toNat x2.toNat))]) (rest := [(0, x2), (4, x1)]) D rfl rfl rfl rfl (fun v8 h7 e1 D =>
          have T := fj_run_ok _ _ _ _ _ _ H.1 e1
          have hk := cls_st H.1 T.2 hk hk0
          have kc5 := cls_st H.1 T.2 kc5 (by decide)
          have H := shp_st H T
          j_ivv (pc := 51) (m := 353) (dd := 121) (a := [(0, x2), (1, v8)]) (rest := []) D rfl rfl rfl rfl rfl (nz_cls H.2.1 kc5 (by decide)) kc5 (by decide +kernel) (fun h10 e1 D =>
            have T := fj_run_ok _ _ _ _ _ _ H.1 e1
            have hk := cls_st H.1 T.2 hk hk0
            have kc5 := cls_st H.1 T.2 kc5 (by decide)
            have H := shp_st H T
            j_goto (pc := 54) D rfl <|
            have D : fk_D 395 [(126, none, .return_, 1, 0, 0, 0)] := fq_of2 cd_395 ow_395 cl_395 rfl (pc := 126) (by decide +kernel)
            j_vret D rt_395) (fun q12 h10 e1 =>
            j_tx (hx_395 _))) (fun q9 h7 e1 =>
          j_tx (hx_395 _))) (fun N =>
        j_tc 2 (t := 57) D N rfl (by decide +kernel) (fun q =>
          have D : fk_D 395 [(57, none, .aload_n 1, 1, 0, 0, 0), (58, none, .getfield 23, 3, 213, (-100), 12), (61, none, .getfield 44, 3, 119, (-119), 12), (64, none, .iload_n 2, 1, 0, 0, 0), (65, none, .aload_n 1, 1, 0, 0, 0), (66, none, .getfield 23, 3, 213, 100, 12), (69, none, .getfield 44, 3, 119, 119, 12), (72, none, .iload_n 2, 1, 0, 0, 0), (73, none, .laload, 1, 0, 0, 0), (74, none, .invokestatic 34, 3, 1, 357, 2), (77, none, .lastore, 1, 0, 0, 0), (78, none, .goto 48, 3, 126, 0, 0)] := fq_of2 cd_395 ow_395 cl_395 rfl (pc := 57) (by decide +kernel)
          j_aldn (pc := 57) D rfl rfl rfl fun D =>
          j_gfo (pc := 58) H.2.1 D rfl rfl rfl rfl fun kc13 D =>
          j_gfo (pc := 61) H.2.1 D rfl rfl rfl rfl fun kc14 D =>
          j_ildn (pc := 64) D rfl rfl rfl fun D =>
          j_aldn (pc := 65) D rfl rfl rfl fun D =>
          j_gf (pc := 66) (a := x1.toNat) D rfl rfl (nz_cls H.2.1 kc13 (by decide)) rfl kc13 rfl fun D =>
          j_gf (pc := 69) (a := (h1 213 x1.toNat 0).toNat) D rfl rfl (nz_cls H.2.1 kc14 (by decide)) rfl kc14 rfl fun D =>
          j_ildn (pc := 72) D rfl rfl rfl fun D =>
          j_alp (pc := 73) (e := 11) H.2.1 D rfl rfl ⟨rfl, rfl, rfl⟩ rfl fun q q2 D =>
          j_is (pc := 74) (m := 357) (a := [(1, h1 11 (h1 119 (h1 213 x1.toNat 0).toNat 0).toNat x2.toNat)]) (rest := [(0, x2), (4, h1 119 (h1 213 x1.toNat 0).toNat 0)]) D rfl rfl rfl rfl (fun v16 h15 e1 D =>
            have T := fj_run_ok _ _ _ _ _ _ H.1 e1
            have hk := cls_st H.1 T.2 hk hk0
            have kc13 := cls_st H.1 T.2 kc13 (by decide)
            have kc14 := cls_st H.1 T.2 kc14 (by decide)
            have H := shp_st H T
            j_asu (pc := 77) (e := 11) D rfl rfl ⟨rfl, rfl, rfl⟩ rfl gn gn (gy rfl) fun h18 eh18 S q q2 D =>
            have T := fj_hs_ok H.1 S
            have hk := cls_st H.1 T.2 hk hk0
            have kc13 := cls_st H.1 T.2 kc13 (by decide)
            have H := shp_st H T
            j_goto (pc := 78) D rfl <|
            have D : fk_D 395 [(126, none, .return_, 1, 0, 0, 0)] := fq_of2 cd_395 ow_395 cl_395 rfl (pc := 126) (by decide +kernel)
            j_vret D rt_395) (fun q17 h15 e1 =>
            j_tx (hx_395 _))) (fun N =>
          j_tc 3 (t := 81) D N rfl (by decide +kernel) (fun q =>
            have D : fk_D 395 [(81, none, .aload_n 1, 1, 0, 0, 0), (82, none, .getfield 23, 3, 213, (-100), 12), (85, none, .getfield 48, 3, 116, (-119), 12), (88, none, .iload_n 2, 1, 0, 0, 0), (89, none, .aload_n 1, 1, 0, 0, 0), (90, none, .getfield 23, 3, 213, 100, 12), (93, none, .getfield 48, 3, 116, 119, 12), (96, none, .iload_n 2, 1, 0, 0, 0), (97, none, .iaload, 1, 0, 0, 0), (98, none, .invokestatic 51, 3, 1, 396, 1), (101, none, .iastore, 1, 0, 0, 0)] := fq_of2 cd_395 ow_395 cl_395 rfl (pc := 81) (by decide +kernel)
            j_aldn (pc := 81) D rfl rfl rfl fun D =>
            j_gfo (pc := 82) H.2.1 D rfl rfl rfl rfl fun kc19 D =>
            j_gfo (pc := 85) H.2.1 D rfl rfl rfl rfl fun kc20 D =>
            j_ildn (pc := 88) D rfl rfl rfl fun D =>
            j_aldn (pc := 89) D rfl rfl rfl fun D =>
            j_gf (pc := 90) (a := x1.toNat) D rfl rfl (nz_cls H.2.1 kc19 (by decide)) rfl kc19 rfl fun D =>
            j_gf (pc := 93) (a := (h1 213 x1.toNat 0).toNat) D rfl rfl (nz_cls H.2.1 kc20 (by decide)) rfl kc20 rfl fun D =>
            j_ildn (pc := 96) D rfl rfl rfl fun D =>
            j_alp (pc := 97) (e := 10) H.2.1 D rfl rfl ⟨rfl, rfl, rfl⟩ rfl fun q q2 D =>
            j_is (pc := 98) (m := 396) (a := [(0, h1 10 (h1 116 (h1 213 x1.toNat 0).toNat 0).toNat x2.toNat)]) (rest := [(0, x2), (4, h1 116 (h1 213 x1.toNat 0).toNat 0)]) D rfl rfl rfl rfl (fun v22 h21 e1 D =>
              have T := fj_run_ok _ _ _ _ _ _ H.1 e1
              have hk := cls_st H.1 T.2 hk hk0
              have kc19 := cls_st H.1 T.2 kc19 (by decide)
              have kc20 := cls_st H.1 T.2 kc20 (by decide)
              have H := shp_st H T
              j_asu (pc := 101) (e := 10) D rfl rfl ⟨rfl, rfl, rfl⟩ rfl gn gn (gy rfl) fun h24 eh24 S q q2 D =>
              have T := fj_hs_ok H.1 S
              have hk := cls_st H.1 T.2 hk hk0
              have kc19 := cls_st H.1 T.2 kc19 (by decide)
              have H := shp_st H T
              fk_jump cut_395_102 rfl rfl) (fun q23 h21 e1 =>
              j_tx (hx_395 _))) (fun N =>
            j_td (t := 105) D N rfl (by decide +kernel) (by decide +kernel) <|
            have D : fk_D 395 [(105, none, .aload_n 1, 1, 0, 0, 0), (106, none, .getfield 23, 3, 213, (-100), 12), (109, none, .getfield 54, 3, 122, (-119), 12), (112, none, .iload_n 2, 1, 0, 0, 0), (113, none, .aload_n 1, 1, 0, 0, 0), (114, none, .getfield 23, 3, 213, 100, 12), (117, none, .getfield 54, 3, 122, 119, 12), (120, none, .iload_n 2, 1, 0, 0, 0), (121, none, .daload, 1, 0, 0, 0), (122, none, .invokestatic 58, 3, 1, 1006, 4), (125, none, .dastore, 1, 0, 0, 0), (126, none, .return_, 1, 0, 0, 0)] := fq_of2 cd_395 ow_395 cl_395 rfl (pc := 105) (by decide +kernel)
            j_aldn (pc := 105) D rfl rfl rfl fun D =>
            j_gfo (pc := 106) H.2.1 D rfl rfl rfl rfl fun kc25 D =>
            j_gfo (pc := 109) H.2.1 D rfl rfl rfl rfl fun kc26 D =>
            j_ildn (pc := 112) D rfl rfl rfl fun D =>
            j_aldn (pc := 113) D rfl rfl rfl fun D =>
            j_gf (pc := 114) (a := x1.toNat) D rfl rfl (nz_cls H.2.1 kc25 (by decide)) rfl kc25 rfl fun D =>
            j_gf (pc := 117) (a := (h1 213 x1.toNat 0).toNat) D rfl rfl (nz_cls H.2.1 kc26 (by decide)) rfl kc26 rfl fun D =>
            j_ildn (pc := 120) D rfl rfl rfl fun D =>
            j_alp (pc := 121) (e := 7) H.2.1 D rfl rfl ⟨rfl, rfl, rfl⟩ rfl fun q q2 D =>
            j_is (pc := 122) (m := 1006) (a := [(3, h1 7 (h1 122 (h1 213 x1.toNat 0).toNat 0).toNat x2.toNat)]) (rest := [(0, x2), (4, h1 122 (h1 213 x1.toNat 0).toNat 0)]) D rfl rfl rfl rfl (fun v28 h27 e1 D =>
              have T := fj_run_ok _ _ _ _ _ _ H.1 e1
              have hk := cls_st H.1 T.2 hk hk0
              have kc25 := cls_st H.1 T.2 kc25 (by decide)
              have kc26 := cls_st H.1 T.2 kc26 (by decide)
              have H := shp_st H T
              j_asu (pc := 125) (e := 7) D rfl rfl ⟨rfl, rfl, rfl⟩ rfl gn gn (gy rfl) fun h30 eh30 S q q2 D =>
              have T := fj_hs_ok H.1 S
              have hk := cls_st H.1 T.2 hk hk0
              have kc25 := cls_st H.1 T.2 kc25 (by decide)
              have H := shp_st H T
              j_vret D rt_395) (fun q29 h27 e1 =>
              j_tx (hx_395 _)))))) (fun m4 q3 h1 e1 =>
      j_tx (hx_395 _))
/-! 396 java/lang/Math.abs(I)I -/
theorem cd_396 : fi_code 396 = prog_82_method_59_code := rfl
theorem hx_396 : ∀ pc, fi_hat 396 pc = none := fun pc => by unfold fi_hat; rw [show fi_hh 396 = [] from rfl]; rfl
theorem rt_396 : fi_ret 396 = some .int := rfl
theorem nl_396 : fi_nl 396 = 1 := rfl
theorem ow_396 : fi_ow 396 = 75 := rfl
theorem cl_396 : fj_cutT.getD 396 [] = [] := rfl
theorem m_396 (d : Nat) (x0 : Int) {h : fi_H} (H : Shp h) : fj_run (d + 1) 396 h [(0, x0)] =
  if x0 < 0 then
    some (.inl (some (0, wI (-x0))), h)
  else
    some (.inl (some (0, x0)), h) := by
  rw [fj_run_eq d (by decide) h [(0, x0)] (Nat.le_of_ble_eq_true (by rw [nl_396]; rfl))]
  show gG (fj_run d) 396 0 [(0, (0, x0))] [] h = _
  exact
    have D : fk_D 396 [(0, none, .iload_n 0, 1, 0, 0, 0), (1, none, .ifCond .ge 8, 3, 9, 0, 0), (4, none, .iload_n 0, 1, 0, 0, 0), (5, none, .ineg, 1, 0, 0, 0), (6, none, .goto 4, 3, 10, 0, 0)] := fq_of2 cd_396 ow_396 cl_396 rfl (pc := 0) (by decide +kernel)
    j_ildn (pc := 0) D rfl rfl rfl fun D =>
    j_ifge (pc := 1) D rfl (fun q D =>
      j_ildn (pc := 4) D rfl rfl rfl fun D =>
      j_ineg (pc := 5) D rfl fun D =>
      j_goto (pc := 6) D rfl <|
      have D : fk_D 396 [(10, none, .ireturn, 1, 0, 0, 0)] := fq_of2 cd_396 ow_396 cl_396 rfl (pc := 10) (by decide +kernel)
      j_iret D rt_396) (fun q =>
      have D : fk_D 396 [(9, none, .iload_n 0, 1, 0, 0, 0), (10, none, .ireturn, 1, 0, 0, 0)] := fq_of2 cd_396 ow_396 cl_396 rfl (pc := 9) (by decide +kernel)
      j_ildn (pc := 9) D rfl rfl rfl fun D =>
      j_iret D rt_396)
/-! 397 StatuteHouse$Function$21.work(LStatuteHouse;ILStatuteHouse$Kind;)V -/
theorem cd_397 : fi_code 397 = prog_26_method_3_code := rfl
theorem hx_397 : ∀ pc, fi_hat 397 pc = none := fun pc => by unfold fi_hat; rw [show fi_hh 397 = [] from rfl]; rfl
theorem rt_397 : fi_ret 397 = none := rfl
theorem nl_397 : fi_nl 397 = 5 := rfl
theorem ow_397 : fi_ow 397 = 48 := rfl
theorem cl_397 : fj_cutT.getD 397 [] = [(69, [])] := rfl
theorem cut_397_69 : fj_cut 397 69 = some [] := by decide +kernel
noncomputable def c_397_69 (d : Nat) (s0 s1 s2 : Int) (h : fi_H) : fk_R := gG (fj_run d) 397 69 [] [(3, s2), (0, s1), (4, s0)] h
theorem e_397_69 (d : Nat) (s0 s1 s2 : Int) {h : fi_H} (H : Shp h) : c_397_69 d s0 s1 s2 h =
  if 302 < s0 ∧ h 0 s0.toNat 0 = 7 then
  if 0 ≤ s1 ∧ s1 < h 1 s0.toNat 0 then
  lt_ (fi_upd h 7 s0.toNat s1.toNat s2) fun h1 =>
  some (.inl none, h1)
  else none
  else none := by
  unfold c_397_69
  exact
    have D : fk_D 397 [(69, some [], .dastore, 1, 0, 0, 0), (70, none, .return_, 1, 0, 0, 0)] := fq_of2 cd_397 ow_397 cl_397 rfl (pc := 69) (by decide +kernel)
    j_asu (pc := 69) (e := 7) D rfl rfl ⟨rfl, rfl, rfl⟩ rfl gn gn (gy rfl) fun h1 eh1 S q q2 D =>
    have T := fj_hs_ok H.1 S
    have H := shp_st H T
    j_vret D rt_397
theorem m_397 (d : Nat) (x0 x1 x2 x3 : Int) {h : fi_H} {k0 : Int} (H : Shp h) (hk : h 0 x0.toNat 0 = k0) (hk0 : k0 ≠ 0) : fj_run (d + 1) 397 h [(4, x0), (4, x1), (0, x2), (4, x3)] =
  if h 0 x1.toNat 0 = 100 then
  if h 0 (h 213 x1.toNat 0).toNat 0 = 119 then
  if x3 = 3 then
    if h 0 (h 115 (h 213 x1.toNat 0).toNat 0).toNat 0 = 10 ∧ 0 ≤ x2 ∧ x2 < h 1 (h 115 (h 213 x1.toNat 0).toNat 0).toNat 0 then
    c_397_69 d (h 122 (h 213 x1.toNat 0).toNat 0) x2 (id_ (h 10 (h 115 (h 213 x1.toNat 0).toNat 0).toNat x2.toNat)) h
    else none
  else
    if x3 = 4 then
      if h 0 (h 119 (h 213 x1.toNat 0).toNat 0).toNat 0 = 11 ∧ 0 ≤ x2 ∧ x2 < h 1 (h 119 (h 213 x1.toNat 0).toNat 0).toNat 0 then
      dn_ (FP.ddiv (fi_D (ld_ (h 11 (h 119 (h 213 x1.toNat 0).toNat 0).toNat x2.toNat))) (fi_D 4636737291354636288)) fun v3 =>
      c_397_69 d (h 122 (h 213 x1.toNat 0).toNat 0) x2 v3 h
      else none
    else
      if h 0 (h 116 (h 213 x1.toNat 0).toNat 0).toNat 0 = 10 ∧ 0 ≤ x2 ∧ x2 < h 1 (h 116 (h 213 x1.toNat 0).toNat 0).toNat 0 then
      if h 0 (h 117 (h 213 x1.toNat 0).toNat 0).toNat 0 = 10 ∧ 0 ≤ x2 ∧ x2 < h 1 (h 117 (h 213 x1.toNat 0).toNat 0).toNat 0 then
      dn_ (FP.ddiv (fi_D (id_ (h 10 (h 116 (h 213 x1.toNat 0).toNat 0).toNat x2.toNat))) (fi_D (id_ (h 10 (h 117 (h 213 x1.toNat 0).toNat 0).toNat x2.toNat)))) fun v4 =>
      c_397_69 d (h 122 (h 213 x1.toNat 0).toNat 0) x2 v4 h
      else none
      else none
  else none
  else none := by
  rw [fj_run_eq d (by decide) h [(4, x0), (4, x1), (0, x2), (4, x3)] (Nat.le_of_ble_eq_true (by rw [nl_397]; rfl))]
  show gG (fj_run d) 397 0 [(0, (4, x0)), (1, (4, x1)), (2, (0, x2)), (3, (4, x3))] [] h = _
  exact
    have D : fk_D 397 [(0, none, .aload_n 1, 1, 0, 0, 0), (1, none, .getfield 22, 3, 213, (-100), 12), (4, none, .astore 4, 2, 0, 0, 0), (6, none, .aload 4, 2, 0, 0, 0), (8, none, .getfield 28, 3, 122, (-119), 12), (11, none, .iload_n 2, 1, 0, 0, 0), (12, none, .aload_n 3, 1, 0, 0, 0), (13, none, .getstatic 7, 3, 4, 3, 0), (16, none, .if_acmp .ne 14, 3, 30, 0, 0), (19, none, .aload 4, 2, 0, 0, 0), (21, none, .getfield 34, 3, 115, 119, 12), (24, none, .iload_n 2, 1, 0, 0, 0), (25, none, .iaload, 1, 0, 0, 0), (26, none, .i2d, 1, 0, 0, 0), (27, none, .goto 42, 3, 69, 0, 0)] := fq_of2 cd_397 ow_397 cl_397 rfl (pc := 0) (by decide +kernel)
    j_aldn (pc := 0) D rfl rfl rfl fun D =>
    j_gfo (pc := 1) H.2.1 D rfl rfl rfl rfl fun kc1 D =>
    j_ast (pc := 4) (L' := [(4, (4, h 213 x1.toNat 0)), (0, (4, x0)), (1, (4, x1)), (2, (0, x2)), (3, (4, x3))]) D rfl nl_397 rfl rfl fun D =>
    j_ald (pc := 6) D rfl rfl rfl fun D =>
    j_gfo (pc := 8) H.2.1 D rfl rfl rfl rfl fun kc2 D =>
    j_ildn (pc := 11) D rfl rfl rfl fun D =>
    j_aldn (pc := 12) D rfl rfl rfl fun D =>
    j_gs (pc := 13) D rfl fun D =>
    j_ane (pc := 16) D rfl (fun q D =>
      j_ald (pc := 19) D rfl rfl rfl fun D =>
      j_gf (pc := 21) (a := (h 213 x1.toNat 0).toNat) D rfl rfl (nz_cls H.2.1 kc2 (by decide)) rfl kc2 rfl fun D =>
      j_ildn (pc := 24) D rfl rfl rfl fun D =>
      j_alp (pc := 25) (e := 10) H.2.1 D rfl rfl ⟨rfl, rfl, rfl⟩ rfl fun q q2 D =>
      j_i2d (pc := 26) D rfl fun D =>
      j_goto (pc := 27) D rfl <|
      fk_jump cut_397_69 rfl rfl) (fun q =>
      have D : fk_D 397 [(30, none, .aload_n 3, 1, 0, 0, 0), (31, none, .getstatic 13, 3, 4, 4, 0), (34, none, .if_acmp .ne 18, 3, 52, 0, 0), (37, none, .aload 4, 2, 0, 0, 0), (39, none, .getfield 38, 3, 119, 119, 12), (42, none, .iload_n 2, 1, 0, 0, 0), (43, none, .laload, 1, 0, 0, 0), (44, none, .l2d, 1, 0, 0, 0), (45, none, .ldc2_w 42, 3, 3, 4636737291354636288, 0), (48, none, .ddiv, 1, 0, 0, 0), (49, none, .goto 20, 3, 69, 0, 0)] := fq_of2 cd_397 ow_397 cl_397 rfl (pc := 30) (by decide +kernel)
      j_aldn (pc := 30) D rfl rfl rfl fun D =>
      j_gs (pc := 31) D rfl fun D =>
      j_ane (pc := 34) D rfl (fun q D =>
        j_ald (pc := 37) D rfl rfl rfl fun D =>
        j_gf (pc := 39) (a := (h 213 x1.toNat 0).toNat) D rfl rfl (nz_cls H.2.1 kc2 (by decide)) rfl kc2 rfl fun D =>
        j_ildn (pc := 42) D rfl rfl rfl fun D =>
        j_alp (pc := 43) (e := 11) H.2.1 D rfl rfl ⟨rfl, rfl, rfl⟩ rfl fun q q2 D =>
        j_l2d (pc := 44) D rfl fun D =>
        j_ldc2 (pc := 45) D rfl fun D =>
        j_dop (pc := 48) (u := FP.ddiv (fi_D (ld_ (h 11 (h 119 (h 213 x1.toNat 0).toNat 0).toNat x2.toNat))) (fi_D 4636737291354636288)) D rfl rfl rfl fun D v3 =>
        j_goto (pc := 49) D rfl <|
        fk_jump cut_397_69 rfl rfl) (fun q =>
        have D : fk_D 397 [(52, none, .aload 4, 2, 0, 0, 0), (54, none, .getfield 44, 3, 116, 119, 12), (57, none, .iload_n 2, 1, 0, 0, 0), (58, none, .iaload, 1, 0, 0, 0), (59, none, .i2d, 1, 0, 0, 0), (60, none, .aload 4, 2, 0, 0, 0), (62, none, .getfield 47, 3, 117, 119, 12), (65, none, .iload_n 2, 1, 0, 0, 0), (66, none, .iaload, 1, 0, 0, 0), (67, none, .i2d, 1, 0, 0, 0), (68, none, .ddiv, 1, 0, 0, 0)] := fq_of2 cd_397 ow_397 cl_397 rfl (pc := 52) (by decide +kernel)
        j_ald (pc := 52) D rfl rfl rfl fun D =>
        j_gf (pc := 54) (a := (h 213 x1.toNat 0).toNat) D rfl rfl (nz_cls H.2.1 kc2 (by decide)) rfl kc2 rfl fun D =>
        j_ildn (pc := 57) D rfl rfl rfl fun D =>
        j_alp (pc := 58) (e := 10) H.2.1 D rfl rfl ⟨rfl, rfl, rfl⟩ rfl fun q q2 D =>
        j_i2d (pc := 59) D rfl fun D =>
        j_ald (pc := 60) D rfl rfl rfl fun D =>
        j_gf (pc := 62) (a := (h 213 x1.toNat 0).toNat) D rfl rfl (nz_cls H.2.1 kc2 (by decide)) rfl kc2 rfl fun D =>
        j_ildn (pc := 65) D rfl rfl rfl fun D =>
        j_alp (pc := 66) (e := 10) H.2.1 D rfl rfl ⟨rfl, rfl, rfl⟩ rfl fun q q2 D =>
        j_i2d (pc := 67) D rfl fun D =>
        j_dop (pc := 68) (u := FP.ddiv (fi_D (id_ (h 10 (h 116 (h 213 x1.toNat 0).toNat 0).toNat x2.toNat))) (fi_D (id_ (h 10 (h 117 (h 213 x1.toNat 0).toNat 0).toNat x2.toNat)))) D rfl rfl rfl fun D v4 =>
        fk_jump cut_397_69 rfl rfl))
/-! 398 StatuteHouse$Function$22.work(LStatuteHouse;ILStatuteHouse$Kind;)V -/
theorem cd_398 : fi_code 398 = prog_27_method_3_code := rfl
theorem hx_398 : ∀ pc, fi_hat 398 pc = none := fun pc => by unfold fi_hat; rw [show fi_hh 398 = [] from rfl]; rfl
theorem rt_398 : fi_ret 398 = none := rfl
theorem nl_398 : fi_nl 398 = 6 := rfl
theorem ow_398 : fi_ow 398 = 49 := rfl
theorem cl_398 : fj_cutT.getD 398 [] = [] := rfl
theorem m_398 (d : Nat) (x0 x1 x2 x3 : Int) {h : fi_H} {k0 : Int} (H : Shp h) (hk : h 0 x0.toNat 0 = k0) (hk0 : k0 ≠ 0) : fj_run (d + 1) 398 h [(4, x0), (4, x1), (0, x2), (4, x3)] =
  if h 0 x1.toNat 0 = 100 then
  if h 0 (h 213 x1.toNat 0).toNat 0 = 119 then
  if h 0 (h 122 (h 213 x1.toNat 0).toNat 0).toNat 0 = 7 ∧ 0 ≤ x2 ∧ x2 < h 1 (h 122 (h 213 x1.toNat 0).toNat 0).toNat 0 then
  lt_ (h 7 (h 122 (h 213 x1.toNat 0).toNat 0).toNat x2.toNat) fun y3 =>
  if dg_ y3 0 < 0 then
    ca_ (fj_run d 310 h [(4, x1), (0, 9)]) 4
      (fun v5 h4 =>
      if v5 ≠ 0 then
      tx_ v5.toNat h4
      else none)
      (fun q6 h4 => tx_ q6 h4)
  else
    ca_ (fj_run d 399 h [(3, y3)]) 3
      (fun v8 h7 =>
      if 302 < h 122 (h 213 x1.toNat 0).toNat 0 ∧ h7 0 (h 122 (h 213 x1.toNat 0).toNat 0).toNat 0 = 7 then
      if 0 ≤ x2 ∧ x2 < h7 1 (h 122 (h 213 x1.toNat 0).toNat 0).toNat 0 then
      lt_ (fi_upd h7 7 (h 122 (h 213 x1.toNat 0).toNat 0).toNat x2.toNat v8) fun h10 =>
      some (.inl none, h10)
      else none
      else none)
      (fun q9 h7 => tx_ q9 h7)
  else none
  else none
  else none := by
  rw [fj_run_eq d (by decide) h [(4, x0), (4, x1), (0, x2), (4, x3)] (Nat.le_of_ble_eq_true (by rw [nl_398]; rfl))]
  show gG (fj_run d) 398 0 [(0, (4, x0)), (1, (4, x1)), (2, (0, x2)), (3, (4, x3))] [] h = _
  exact
    have D : fk_D 398 [(0, none, .aload_n 1, 1, 0, 0, 0), (1, none, .getfield 15, 3, 213, (-100), 12), (4, none, .getfield 19, 3, 122, (-119), 12), (7, none, .iload_n 2, 1, 0, 0, 0), (8, none, .daload, 1, 0, 0, 0), (9, none, .dstore 4, 2, 0, 0, 0), (11, none, .dload 4, 2, 0, 0, 0), (13, none, .dconst 0, 1, 0, 0, 0), (14, none, .dcmp .g, 1, 0, 0, 0), (15, none, .ifCond .ge 10, 3, 25, 0, 0), (18, none, .aload_n 1, 1, 0, 0, 0), (19, none, .bipush 9, 2, 0, 9, 0), (21, none, .invokevirtual 25, 3, 1, 112, 5), (24, none, .athrow, 1, 0, 0, 0)] := fq_of2 cd_398 ow_398 cl_398 rfl (pc := 0) (by decide +kernel)
    j_aldn (pc := 0) D rfl rfl rfl fun D =>
    j_gfo (pc := 1) H.2.1 D rfl rfl rfl rfl fun kc1 D =>
    j_gfo (pc := 4) H.2.1 D rfl rfl rfl rfl fun kc2 D =>
    j_ildn (pc := 7) D rfl rfl rfl fun D =>
    j_alp (pc := 8) (e := 7) H.2.1 D rfl rfl ⟨rfl, rfl, rfl⟩ rfl fun q q2 D =>
    j_stl (pc := 9) (L' := fun y3 => [(4, (3, y3)), (0, (4, x0)), (1, (4, x1)), (2, (0, x2)), (3, (4, x3))]) D rfl ⟨rfl, rfl, rfl, rfl⟩ nl_398 rfl (fun _ => rfl) fun y3 ey3 D =>
    j_dld (pc := 11) D rfl rfl rfl fun D =>
    j_c0 (pc := 13) (v := (3, 0)) D rfl rfl (by decide +kernel) fun D =>
    j_dcmpg (pc := 14) D rfl fun D =>
    j_ifge (pc := 15) D rfl (fun q D =>
      j_aldn (pc := 18) D rfl rfl rfl fun D =>
      j_bp (pc := 19) D rfl fun D =>
      j_iv (pc := 21) (m := 310) (dd := 112) (a := [(0, 9)]) (rest := []) D rfl rfl rfl rfl rfl (nz_cls H.2.1 kc1 (by decide)) kc1 (by decide +kernel) (fun v5 h4 e1 D =>
        have T := fj_run_ok _ _ _ _ _ _ H.1 e1
        have hk := cls_st H.1 T.2 hk hk0
        have kc1 := cls_st H.1 T.2 kc1 (by decide)
        have H := shp_st H T
        j_at (pc := 24) D gn <|
        j_tx (hx_398 _)) (fun q6 h4 e1 =>
        j_tx (hx_398 _))) (fun q =>
      have D : fk_D 398 [(25, none, .aload_n 1, 1, 0, 0, 0), (26, none, .getfield 15, 3, 213, 100, 12), (29, none, .getfield 19, 3, 122, 119, 12), (32, none, .iload_n 2, 1, 0, 0, 0), (33, none, .dload 4, 2, 0, 0, 0), (35, none, .invokestatic 29, 3, 1, 399, 4), (38, none, .dastore, 1, 0, 0, 0), (39, none, .return_, 1, 0, 0, 0)] := fq_of2 cd_398 ow_398 cl_398 rfl (pc := 25) (by decide +kernel)
      j_aldn (pc := 25) D rfl rfl rfl fun D =>
      j_gf (pc := 26) (a := x1.toNat) D rfl rfl (nz_cls H.2.1 kc1 (by decide)) rfl kc1 rfl fun D =>
      j_gf (pc := 29) (a := (h 213 x1.toNat 0).toNat) D rfl rfl (nz_cls H.2.1 kc2 (by decide)) rfl kc2 rfl fun D =>
      j_ildn (pc := 32) D rfl rfl rfl fun D =>
      j_dld (pc := 33) D rfl rfl rfl fun D =>
      j_is (pc := 35) (m := 399) (a := [(3, y3)]) (rest := [(0, x2), (4, h 122 (h 213 x1.toNat 0).toNat 0)]) D rfl rfl rfl rfl (fun v8 h7 e1 D =>
        have T := fj_run_ok _ _ _ _ _ _ H.1 e1
        have hk := cls_st H.1 T.2 hk hk0
        have kc1 := cls_st H.1 T.2 kc1 (by decide)
        have kc2 := cls_st H.1 T.2 kc2 (by decide)
        have H := shp_st H T
        j_asu (pc := 38) (e := 7) D rfl rfl ⟨rfl, rfl, rfl⟩ rfl gn gn (gy rfl) fun h10 eh10 S q q2 D =>
        have T := fj_hs_ok H.1 S
        have hk := cls_st H.1 T.2 hk hk0
        have kc1 := cls_st H.1 T.2 kc1 (by decide)
        have H := shp_st H T
        j_vret D rt_398) (fun q9 h7 e1 =>
        j_tx (hx_398 _)))
/-! 399 java/lang/Math.sqrt(D)D -/
theorem cd_399 : fi_code 399 = prog_82_method_13_code := rfl
theorem hx_399 : ∀ pc, fi_hat 399 pc = none := fun pc => by unfold fi_hat; rw [show fi_hh 399 = [] from rfl]; rfl
theorem rt_399 : fi_ret 399 = some .double := rfl
theorem nl_399 : fi_nl 399 = 2 := rfl
theorem ow_399 : fi_ow 399 = 75 := rfl
theorem cl_399 : fj_cutT.getD 399 [] = [] := rfl
theorem m_399 (d : Nat) (x0 : Int) {h : fi_H} (H : Shp h) : fj_run (d + 1) 399 h [(3, x0)] =
  ca_ (fj_run d 400 h [(3, x0)]) 3
    (fun v2 h1 =>
    some (.inl (some (3, v2)), h1))
    (fun q3 h1 => tx_ q3 h1) := by
  rw [fj_run_eq d (by decide) h [(3, x0)] (Nat.le_of_ble_eq_true (by rw [nl_399]; rfl))]
  show gG (fj_run d) 399 0 [(0, (3, x0))] [] h = _
  exact
    have D : fk_D 399 [(0, none, .dload_n 0, 1, 0, 0, 0), (1, none, .invokestatic 43, 3, 1, 400, 4), (4, none, .dreturn, 1, 0, 0, 0)] := fq_of2 cd_399 ow_399 cl_399 rfl (pc := 0) (by decide +kernel)
    j_dldn (pc := 0) D rfl rfl rfl fun D =>
    j_is (pc := 1) (m := 400) (a := [(3, x0)]) (rest := []) D rfl rfl rfl rfl (fun v2 h1 e1 D =>
      have T := fj_run_ok _ _ _ _ _ _ H.1 e1
      have H := shp_st H T
      j_dret D rt_399) (fun q3 h1 e1 =>
      j_tx (hx_399 _))
/-! 400 java/lang/StrictMath.sqrt(D)D -/
theorem cd_400 : fi_code 400 = prog_85_method_13_code := rfl
theorem hx_400 : ∀ pc, fi_hat 400 pc = none := fun pc => by unfold fi_hat; rw [show fi_hh 400 = [] from rfl]; rfl
theorem rt_400 : fi_ret 400 = some .double := rfl
theorem nl_400 : fi_nl 400 = 2 := rfl
theorem ow_400 : fi_ow 400 = 78 := rfl
theorem cl_400 : fj_cutT.getD 400 [] = [] := rfl
theorem m_400 (d : Nat) (x0 : Int) {h : fi_H} (H : Shp h) : fj_run (d + 1) 400 h [(3, x0)] =
  ca_ (fj_run d 401 h [(3, x0)]) 3
    (fun v2 h1 =>
    some (.inl (some (3, v2)), h1))
    (fun q3 h1 => tx_ q3 h1) := by
  rw [fj_run_eq d (by decide) h [(3, x0)] (Nat.le_of_ble_eq_true (by rw [nl_400]; rfl))]
  show gG (fj_run d) 400 0 [(0, (3, x0))] [] h = _
  exact
    have D : fk_D 400 [(0, none, .dload_n 0, 1, 0, 0, 0), (1, none, .invokestatic 47, 3, 1, 401, 4), (4, none, .dreturn, 1, 0, 0, 0)] := fq_of2 cd_400 ow_400 cl_400 rfl (pc := 0) (by decide +kernel)
    j_dldn (pc := 0) D rfl rfl rfl fun D =>
    j_is (pc := 1) (m := 401) (a := [(3, x0)]) (rest := []) D rfl rfl rfl rfl (fun v2 h1 e1 D =>
      have T := fj_run_ok _ _ _ _ _ _ H.1 e1
      have H := shp_st H T
      j_dret D rt_400) (fun q3 h1 e1 =>
      j_tx (hx_400 _))
/-! 401 java/lang/FdLibm$Sqrt.compute(D)D -/
theorem cd_401 : fi_code 401 = prog_78_method_2_code := rfl
theorem hx_401 : ∀ pc, fi_hat 401 pc = none := fun pc => by unfold fi_hat; rw [show fi_hh 401 = [] from rfl]; rfl
theorem rt_401 : fi_ret 401 = some .double := rfl
theorem nl_401 : fi_nl 401 = 16 := rfl
theorem ow_401 : fi_ow 401 = 73 := rfl
theorem cl_401 : fj_cutT.getD 401 [] = [(67, [4, 8, 10]), (79, [4, 8, 10, 13]), (110, [4, 8, 10, 13, 15]), (159, [4, 8, 10, 13]), (205, [4, 8, 10, 13]), (250, [4, 5, 7, 8, 9, 10, 11, 12, 13]), (290, [4, 5, 7, 8, 9, 10, 11, 12, 13]), (326, [4, 5, 7, 8, 9, 10, 11, 12, 13]), (366, [4, 5, 6, 8, 9, 10, 11, 12, 13, 14]), (394, [4, 5, 6, 7, 8, 9, 10, 11, 12, 13, 14]), (414, [4, 5, 6, 7, 8, 9, 10, 11, 12, 13]), (428, [4, 5, 7, 8, 9, 10, 11, 12, 13]), (509, [4, 9, 12, 13]), (524, [4, 9, 12, 13]), (554, [8, 10, 13])] := rfl
theorem cut_401_67 : fj_cut 401 67 = some [4, 8, 10] := by decide +kernel
noncomputable def c_401_67 (d : Nat) (x4 x8 x10 : Int) (h : fi_H) : fk_R := gG (fj_run d) 401 67 [(4, (0, x4)), (8, (0, x8)), (10, (0, x10))] [] h
theorem cut_401_79 : fj_cut 401 79 = some [4, 8, 10, 13] := by decide +kernel
noncomputable def c_401_79 (d : Nat) (x4 x8 x10 x13 : Int) (h : fi_H) : fk_R := gG (fj_run d) 401 79 [(4, (0, x4)), (8, (0, x8)), (10, (0, x10)), (13, (0, x13))] [] h
theorem cut_401_110 : fj_cut 401 110 = some [4, 8, 10, 13, 15] := by decide +kernel
noncomputable def c_401_110 (d : Nat) (x4 x8 x10 x13 x15 : Int) (h : fi_H) : fk_R := gG (fj_run d) 401 110 [(4, (0, x4)), (8, (0, x8)), (10, (0, x10)), (13, (0, x13)), (15, (0, x15))] [] h
theorem cut_401_159 : fj_cut 401 159 = some [4, 8, 10, 13] := by decide +kernel
noncomputable def c_401_159 (d : Nat) (x4 x8 x10 x13 : Int) (h : fi_H) : fk_R := gG (fj_run d) 401 159 [(4, (0, x4)), (8, (0, x8)), (10, (0, x10)), (13, (0, x13))] [] h
theorem cut_401_205 : fj_cut 401 205 = some [4, 8, 10, 13] := by decide +kernel
noncomputable def c_401_205 (d : Nat) (x4 x8 x10 x13 : Int) (h : fi_H) : fk_R := gG (fj_run d) 401 205 [(4, (0, x4)), (8, (0, x8)), (10, (0, x10)), (13, (0, x13))] [] h
theorem cut_401_250 : fj_cut 401 250 = some [4, 5, 7, 8, 9, 10, 11, 12, 13] := by decide +kernel
noncomputable def c_401_250 (d : Nat) (x4 x5 x7 x8 x9 x10 x11 x12 x13 : Int) (h : fi_H) : fk_R := gG (fj_run d) 401 250 [(4, (0, x4)), (5, (0, x5)), (7, (0, x7)), (8, (0, x8)), (9, (0, x9)), (10, (0, x10)), (11, (0, x11)), (12, (0, x12)), (13, (0, x13))] [] h
theorem cut_401_290 : fj_cut 401 290 = some [4, 5, 7, 8, 9, 10, 11, 12, 13] := by decide +kernel
noncomputable def c_401_290 (d : Nat) (x4 x5 x7 x8 x9 x10 x11 x12 x13 : Int) (h : fi_H) : fk_R := gG (fj_run d) 401 290 [(4, (0, x4)), (5, (0, x5)), (7, (0, x7)), (8, (0, x8)), (9, (0, x9)), (10, (0, x10)), (11, (0, x11)), (12, (0, x12)), (13, (0, x13))] [] h
theorem cut_401_326 : fj_cut 401 326 = some [4, 5, 7, 8, 9, 10, 11, 12, 13] := by decide +kernel
noncomputable def c_401_326 (d : Nat) (x4 x5 x7 x8 x9 x10 x11 x12 x13 : Int) (h : fi_H) : fk_R := gG (fj_run d) 401 326 [(4, (0, x4)), (5, (0, x5)), (7, (0, x7)), (8, (0, x8)), (9, (0, x9)), (10, (0, x10)), (11, (0, x11)), (12, (0, x12)), (13, (0, x13))] [] h
theorem cut_401_366 : fj_cut 401 366 = some [4, 5, 6, 8, 9, 10, 11, 12, 13, 14] := by decide +kernel
noncomputable def c_401_366 (d : Nat) (x4 x5 x6 x8 x9 x10 x11 x12 x13 x14 : Int) (h : fi_H) : fk_R := gG (fj_run d) 401 366 [(4, (0, x4)), (5, (0, x5)), (6, (0, x6)), (8, (0, x8)), (9, (0, x9)), (10, (0, x10)), (11, (0, x11)), (12, (0, x12)), (13, (0, x13)), (14, (0, x14))] [] h
theorem cut_401_394 : fj_cut 401 394 = some [4, 5, 6, 7, 8, 9, 10, 11, 12, 13, 14] := by decide +kernel
noncomputable def c_401_394 (d : Nat) (x4 x5 x6 x7 x8 x9 x10 x11 x12 x13 x14 : Int) (h : fi_H) : fk_R := gG (fj_run d) 401 394 [(4, (0, x4)), (5, (0, x5)), (6, (0, x6)), (7, (0, x7)), (8, (0, x8)), (9, (0, x9)), (10, (0, x10)), (11, (0, x11)), (12, (0, x12)), (13, (0, x13)), (14, (0, x14))] [] h
theorem cut_401_414 : fj_cut 401 414 = some [4, 5, 6, 7, 8, 9, 10, 11, 12, 13] := by decide +kernel
noncomputable def c_401_414 (d : Nat) (x4 x5 x6 x7 x8 x9 x10 x11 x12 x13 : Int) (h : fi_H) : fk_R := gG (fj_run d) 401 414 [(4, (0, x4)), (5, (0, x5)), (6, (0, x6)), (7, (0, x7)), (8, (0, x8)), (9, (0, x9)), (10, (0, x10)), (11, (0, x11)), (12, (0, x12)), (13, (0, x13))] [] h
theorem cut_401_428 : fj_cut 401 428 = some [4, 5, 7, 8, 9, 10, 11, 12, 13] := by decide +kernel
noncomputable def c_401_428 (d : Nat) (x4 x5 x7 x8 x9 x10 x11 x12 x13 : Int) (h : fi_H) : fk_R := gG (fj_run d) 401 428 [(4, (0, x4)), (5, (0, x5)), (7, (0, x7)), (8, (0, x8)), (9, (0, x9)), (10, (0, x10)), (11, (0, x11)), (12, (0, x12)), (13, (0, x13))] [] h
theorem cut_401_509 : fj_cut 401 509 = some [4, 9, 12, 13] := by decide +kernel
noncomputable def c_401_509 (d : Nat) (x4 x9 x12 x13 : Int) (h : fi_H) : fk_R := gG (fj_run d) 401 509 [(4, (0, x4)), (9, (0, x9)), (12, (0, x12)), (13, (0, x13))] [] h
theorem cut_401_524 : fj_cut 401 524 = some [4, 9, 12, 13] := by decide +kernel
noncomputable def c_401_524 (d : Nat) (x4 x9 x12 x13 : Int) (h : fi_H) : fk_R := gG (fj_run d) 401 524 [(4, (0, x4)), (9, (0, x9)), (12, (0, x12)), (13, (0, x13))] [] h
theorem cut_401_554 : fj_cut 401 554 = some [8, 10, 13] := by decide +kernel
noncomputable def c_401_554 (d : Nat) (x8 x10 x13 : Int) (h : fi_H) : fk_R := gG (fj_run d) 401 554 [(8, (0, x8)), (10, (0, x10)), (13, (0, x13))] [] h
theorem e_401_67 (d : Nat) (x4 x8 x10 : Int) {h : fi_H} (H : Shp h) : c_401_67 d x4 x8 x10 h =
  if sr_ x10 20 = 0 then
    c_401_79 d x4 x8 x10 (sr_ x10 20) h
  else
    c_401_159 d x4 x8 x10 (sr_ x10 20) h := by
  unfold c_401_67
  exact
    have D : fk_D 401 [(67, some [4, 8, 10], .iload 10, 2, 0, 0, 0), (69, none, .bipush 20, 2, 0, 20, 0), (71, none, .ishr, 1, 0, 0, 0), (72, none, .istore 13, 2, 0, 0, 0), (74, none, .iload 13, 2, 0, 0, 0), (76, none, .ifCond .ne 83, 3, 159, 0, 0)] := fq_of2 cd_401 ow_401 cl_401 rfl (pc := 67) (by decide +kernel)
    j_ild (pc := 67) D rfl rfl rfl fun D =>
    j_bp (pc := 69) D rfl fun D =>
    j_ishr (pc := 71) D rfl fun D =>
    j_ist (pc := 72) (L' := [(13, (0, sr_ x10 20)), (4, (0, x4)), (8, (0, x8)), (10, (0, x10))]) D rfl nl_401 rfl rfl fun D =>
    j_ild (pc := 74) D rfl rfl rfl fun D =>
    j_ifne (pc := 76) D rfl (fun q D =>
      fk_jump cut_401_79 rfl rfl) (fun q =>
      fk_jump cut_401_159 rfl rfl)
theorem e_401_79 (d : Nat) (x4 x8 x10 x13 : Int) {h : fi_H} (H : Shp h) : c_401_79 d x4 x8 x10 x13 h =
  if x10 = 0 then
    c_401_79 d x4 (sl_ x8 21) (io_ x10 (su_ x8 11)) (wI (x13 + (-21))) h
  else
    c_401_110 d x4 x8 x10 x13 0 h := by
  unfold c_401_79
  exact
    have D : fk_D 401 [(79, some [4, 8, 10, 13], .iload 10, 2, 0, 0, 0), (81, none, .ifCond .ne 26, 3, 107, 0, 0), (84, none, .iinc 13 (-21), 3, 0, (-21), 0), (87, none, .iload 10, 2, 0, 0, 0), (89, none, .iload 8, 2, 0, 0, 0), (91, none, .bipush 11, 2, 0, 11, 0), (93, none, .iushr, 1, 0, 0, 0), (94, none, .ior, 1, 0, 0, 0), (95, none, .istore 10, 2, 0, 0, 0), (97, none, .iload 8, 2, 0, 0, 0), (99, none, .bipush 21, 2, 0, 21, 0), (101, none, .ishl, 1, 0, 0, 0), (102, none, .istore 8, 2, 0, 0, 0), (104, none, .goto (-25), 3, 79, 0, 0)] := fq_of2 cd_401 ow_401 cl_401 rfl (pc := 79) (by decide +kernel)
    j_ild (pc := 79) D rfl rfl rfl fun D =>
    j_ifne (pc := 81) D rfl (fun q D =>
      j_inc (pc := 84) (L' := [(13, (0, wI (x13 + (-21)))), (4, (0, x4)), (8, (0, x8)), (10, (0, x10))]) D rfl rfl rfl (by decide +kernel) rfl fun D =>
      j_ild (pc := 87) D rfl rfl rfl fun D =>
      j_ild (pc := 89) D rfl rfl rfl fun D =>
      j_bp (pc := 91) D rfl fun D =>
      j_iushr (pc := 93) D rfl fun D =>
      j_ior (pc := 94) D rfl fun D =>
      j_ist (pc := 95) (L' := [(10, (0, io_ x10 (su_ x8 11))), (13, (0, wI (x13 + (-21)))), (4, (0, x4)), (8, (0, x8))]) D rfl nl_401 rfl rfl fun D =>
      j_ild (pc := 97) D rfl rfl rfl fun D =>
      j_bp (pc := 99) D rfl fun D =>
      j_ishl (pc := 101) D rfl fun D =>
      j_ist (pc := 102) (L' := [(8, (0, sl_ x8 21)), (10, (0, io_ x10 (su_ x8 11))), (13, (0, wI (x13 + (-21)))), (4, (0, x4))]) D rfl nl_401 rfl rfl fun D =>
      j_goto (pc := 104) D rfl <|
      fk_jump cut_401_79 rfl rfl) (fun q =>
      have D : fk_D 401 [(107, none, .iconst 0, 1, 0, 0, 0), (108, none, .istore 15, 2, 0, 0, 0)] := fq_of2 cd_401 ow_401 cl_401 rfl (pc := 107) (by decide +kernel)
      j_ic (pc := 107) D rfl fun D =>
      j_ist (pc := 108) (L' := [(15, (0, 0)), (4, (0, x4)), (8, (0, x8)), (10, (0, x10)), (13, (0, x13))]) D rfl nl_401 rfl rfl fun D =>
      fk_jump cut_401_110 rfl rfl)
theorem e_401_110 (d : Nat) (x4 x8 x10 x13 x15 : Int) {h : fi_H} (H : Shp h) : c_401_110 d x4 x8 x10 x13 x15 h =
  if ia_ x10 1048576 = 0 then
    c_401_110 d x4 x8 (sl_ x10 1) x13 (wI (x15 + 1)) h
  else
    c_401_159 d x4 (sl_ x8 x15) (io_ x10 (su_ x8 (wI (32 - x15)))) (wI (x13 - (wI (x15 - 1)))) h := by
  unfold c_401_110
  exact
    have D : fk_D 401 [(110, some [4, 8, 10, 13, 15], .iload 10, 2, 0, 0, 0), (112, none, .ldc 21, 2, 0, 1048576, 0), (114, none, .iand, 1, 0, 0, 0), (115, none, .ifCond .ne 15, 3, 130, 0, 0), (118, none, .iload 10, 2, 0, 0, 0), (120, none, .iconst 1, 1, 0, 1, 0), (121, none, .ishl, 1, 0, 0, 0), (122, none, .istore 10, 2, 0, 0, 0), (124, none, .iinc 15 1, 3, 0, 1, 0), (127, none, .goto (-17), 3, 110, 0, 0)] := fq_of2 cd_401 ow_401 cl_401 rfl (pc := 110) (by decide +kernel)
    j_ild (pc := 110) D rfl rfl rfl fun D =>
    j_ldc (pc := 112) D rfl fun D =>
    j_iand (pc := 114) D rfl fun D =>
    j_ifne (pc := 115) D rfl (fun q D =>
      j_ild (pc := 118) D rfl rfl rfl fun D =>
      j_ic (pc := 120) D rfl fun D =>
      j_ishl (pc := 121) D rfl fun D =>
      j_ist (pc := 122) (L' := [(10, (0, sl_ x10 1)), (4, (0, x4)), (8, (0, x8)), (13, (0, x13)), (15, (0, x15))]) D rfl nl_401 rfl rfl fun D =>
      j_inc (pc := 124) (L' := [(15, (0, wI (x15 + 1))), (10, (0, sl_ x10 1)), (4, (0, x4)), (8, (0, x8)), (13, (0, x13))]) D rfl rfl rfl (by decide +kernel) rfl fun D =>
      j_goto (pc := 127) D rfl <|
      fk_jump cut_401_110 rfl rfl) (fun q =>
      have D : fk_D 401 [(130, none, .iload 13, 2, 0, 0, 0), (132, none, .iload 15, 2, 0, 0, 0), (134, none, .iconst 1, 1, 0, 1, 0), (135, none, .isub, 1, 0, 0, 0), (136, none, .isub, 1, 0, 0, 0), (137, none, .istore 13, 2, 0, 0, 0), (139, none, .iload 10, 2, 0, 0, 0), (141, none, .iload 8, 2, 0, 0, 0), (143, none, .bipush 32, 2, 0, 32, 0), (145, none, .iload 15, 2, 0, 0, 0), (147, none, .isub, 1, 0, 0, 0), (148, none, .iushr, 1, 0, 0, 0), (149, none, .ior, 1, 0, 0, 0), (150, none, .istore 10, 2, 0, 0, 0), (152, none, .iload 8, 2, 0, 0, 0), (154, none, .iload 15, 2, 0, 0, 0), (156, none, .ishl, 1, 0, 0, 0), (157, none, .istore 8, 2, 0, 0, 0)] := fq_of2 cd_401 ow_401 cl_401 rfl (pc := 130) (by decide +kernel)
      j_ild (pc := 130) D rfl rfl rfl fun D =>
      j_ild (pc := 132) D rfl rfl rfl fun D =>
      j_ic (pc := 134) D rfl fun D =>
      j_isub (pc := 135) D rfl fun D =>
      j_isub (pc := 136) D rfl fun D =>
      j_ist (pc := 137) (L' := [(13, (0, wI (x13 - (wI (x15 - 1))))), (4, (0, x4)), (8, (0, x8)), (10, (0, x10)), (15, (0, x15))]) D rfl nl_401 rfl rfl fun D =>
      j_ild (pc := 139) D rfl rfl rfl fun D =>
      j_ild (pc := 141) D rfl rfl rfl fun D =>
      j_bp (pc := 143) D rfl fun D =>
      j_ild (pc := 145) D rfl rfl rfl fun D =>
      j_isub (pc := 147) D rfl fun D =>
      j_iushr (pc := 148) D rfl fun D =>
      j_ior (pc := 149) D rfl fun D =>
      j_ist (pc := 150) (L' := [(10, (0, io_ x10 (su_ x8 (wI (32 - x15))))), (13, (0, wI (x13 - (wI (x15 - 1))))), (4, (0, x4)), (8, (0, x8)), (15, (0, x15))]) D rfl nl_401 rfl rfl fun D =>
      j_ild (pc := 152) D rfl rfl rfl fun D =>
      j_ild (pc := 154) D rfl rfl rfl fun D =>
      j_ishl (pc := 156) D rfl fun D =>
      j_ist (pc := 157) (L' := [(8, (0, sl_ x8 x15)), (10, (0, io_ x10 (su_ x8 (wI (32 - x15))))), (13, (0, wI (x13 - (wI (x15 - 1))))), (4, (0, x4)), (15, (0, x15))]) D rfl nl_401 rfl rfl fun D =>
      fk_jump cut_401_159 rfl rfl)
theorem e_401_159 (d : Nat) (x4 x8 x10 x13 : Int) {h : fi_H} (H : Shp h) : c_401_159 d x4 x8 x10 x13 h =
  if ia_ (wI (x13 + (-1023))) 1 = 0 then
    c_401_205 d x4 x8 (io_ (ia_ x10 1048575) 1048576) (wI (x13 + (-1023))) h
  else
    lt_ (wI ((io_ (ia_ x10 1048575) 1048576) + (wI ((io_ (ia_ x10 1048575) 1048576) + (su_ (ia_ x8 x4) 31))))) fun y1 =>
    c_401_205 d x4 (wI (x8 + x8)) y1 (wI (x13 + (-1023))) h := by
  unfold c_401_159
  exact
    have D : fk_D 401 [(159, some [4, 8, 10, 13], .iinc 13 (-1023), 6, 0, (-1023), 0), (165, none, .iload 10, 2, 0, 0, 0), (167, none, .ldc 22, 2, 0, 1048575, 0), (169, none, .iand, 1, 0, 0, 0), (170, none, .ldc 21, 2, 0, 1048576, 0), (172, none, .ior, 1, 0, 0, 0), (173, none, .istore 10, 2, 0, 0, 0), (175, none, .iload 13, 2, 0, 0, 0), (177, none, .iconst 1, 1, 0, 1, 0), (178, none, .iand, 1, 0, 0, 0), (179, none, .ifCond .eq 26, 3, 205, 0, 0), (182, none, .iload 10, 2, 0, 0, 0), (184, none, .iload 10, 2, 0, 0, 0), (186, none, .iload 8, 2, 0, 0, 0), (188, none, .iload 4, 2, 0, 0, 0), (190, none, .iand, 1, 0, 0, 0), (191, none, .bipush 31, 2, 0, 31, 0), (193, none, .iushr, 1, 0, 0, 0), (194, none, .iadd, 1, 0, 0, 0), (195, none, .iadd, 1, 0, 0, 0)] := fq_of2 cd_401 ow_401 cl_401 rfl (pc := 159) (by decide +kernel)
    j_inc (pc := 159) (L' := [(13, (0, wI (x13 + (-1023)))), (4, (0, x4)), (8, (0, x8)), (10, (0, x10))]) D rfl rfl rfl (by decide +kernel) rfl fun D =>
    j_ild (pc := 165) D rfl rfl rfl fun D =>
    j_ldc (pc := 167) D rfl fun D =>
    j_iand (pc := 169) D rfl fun D =>
    j_ldc (pc := 170) D rfl fun D =>
    j_ior (pc := 172) D rfl fun D =>
    j_ist (pc := 173) (L' := [(10, (0, io_ (ia_ x10 1048575) 1048576)), (13, (0, wI (x13 + (-1023)))), (4, (0, x4)), (8, (0, x8))]) D rfl nl_401 rfl rfl fun D =>
    j_ild (pc := 175) D rfl rfl rfl fun D =>
    j_ic (pc := 177) D rfl fun D =>
    j_iand (pc := 178) D rfl fun D =>
    j_ifeq (pc := 179) D rfl (fun q =>
      fk_jump cut_401_205 rfl rfl) (fun q D =>
      j_ild (pc := 182) D rfl rfl rfl fun D =>
      j_ild (pc := 184) D rfl rfl rfl fun D =>
      j_ild (pc := 186) D rfl rfl rfl fun D =>
      j_ild (pc := 188) D rfl rfl rfl fun D =>
      j_iand (pc := 190) D rfl fun D =>
      j_bp (pc := 191) D rfl fun D =>
      j_iushr (pc := 193) D rfl fun D =>
      j_iadd (pc := 194) D rfl fun D =>
      j_iadd (pc := 195) D rfl fun D =>
      have D : fk_D 401 [(196, none, .istore 10, 2, 0, 0, 0), (198, none, .iload 8, 2, 0, 0, 0), (200, none, .iload 8, 2, 0, 0, 0), (202, none, .iadd, 1, 0, 0, 0), (203, none, .istore 8, 2, 0, 0, 0)] := fq_of2 cd_401 ow_401 cl_401 rfl (pc := 196) (by decide +kernel)
      j_stl (pc := 196) (L' := fun y1 => [(10, (0, y1)), (13, (0, wI (x13 + (-1023)))), (4, (0, x4)), (8, (0, x8))]) D rfl ⟨rfl, rfl, rfl, rfl⟩ nl_401 rfl (fun _ => rfl) fun y1 ey1 D =>
      j_ild (pc := 198) D rfl rfl rfl fun D =>
      j_ild (pc := 200) D rfl rfl rfl fun D =>
      j_iadd (pc := 202) D rfl fun D =>
      j_ist (pc := 203) (L' := [(8, (0, wI (x8 + x8))), (10, (0, y1)), (13, (0, wI (x13 + (-1023)))), (4, (0, x4))]) D rfl nl_401 rfl rfl fun D =>
      fk_jump cut_401_205 rfl rfl)
theorem e_401_205 (d : Nat) (x4 x8 x10 x13 : Int) {h : fi_H} (H : Shp h) : c_401_205 d x4 x8 x10 x13 h =
  c_401_250 d x4 2097152 0 (wI (x8 + x8)) 0 (wI (x10 + (wI (x10 + (su_ (ia_ x8 x4) 31))))) 0 0 (sr_ x13 1) h := by
  unfold c_401_205
  exact
    have D : fk_D 401 [(205, some [4, 8, 10, 13], .iload 13, 2, 0, 0, 0), (207, none, .iconst 1, 1, 0, 1, 0), (208, none, .ishr, 1, 0, 0, 0), (209, none, .istore 13, 2, 0, 0, 0), (211, none, .iload 10, 2, 0, 0, 0), (213, none, .iload 10, 2, 0, 0, 0), (215, none, .iload 8, 2, 0, 0, 0), (217, none, .iload 4, 2, 0, 0, 0), (219, none, .iand, 1, 0, 0, 0), (220, none, .bipush 31, 2, 0, 31, 0), (222, none, .iushr, 1, 0, 0, 0), (223, none, .iadd, 1, 0, 0, 0), (224, none, .iadd, 1, 0, 0, 0), (225, none, .istore 10, 2, 0, 0, 0), (227, none, .iload 8, 2, 0, 0, 0), (229, none, .iload 8, 2, 0, 0, 0), (231, none, .iadd, 1, 0, 0, 0), (232, none, .istore 8, 2, 0, 0, 0), (234, none, .iconst 0, 1, 0, 0, 0), (235, none, .dup, 1, 0, 0, 0)] := fq_of2 cd_401 ow_401 cl_401 rfl (pc := 205) (by decide +kernel)
    j_ild (pc := 205) D rfl rfl rfl fun D =>
    j_ic (pc := 207) D rfl fun D =>
    j_ishr (pc := 208) D rfl fun D =>
    j_ist (pc := 209) (L' := [(13, (0, sr_ x13 1)), (4, (0, x4)), (8, (0, x8)), (10, (0, x10))]) D rfl nl_401 rfl rfl fun D =>
    j_ild (pc := 211) D rfl rfl rfl fun D =>
    j_ild (pc := 213) D rfl rfl rfl fun D =>
    j_ild (pc := 215) D rfl rfl rfl fun D =>
    j_ild (pc := 217) D rfl rfl rfl fun D =>
    j_iand (pc := 219) D rfl fun D =>
    j_bp (pc := 220) D rfl fun D =>
    j_iushr (pc := 222) D rfl fun D =>
    j_iadd (pc := 223) D rfl fun D =>
    j_iadd (pc := 224) D rfl fun D =>
    j_ist (pc := 225) (L' := [(10, (0, wI (x10 + (wI (x10 + (su_ (ia_ x8 x4) 31)))))), (13, (0, sr_ x13 1)), (4, (0, x4)), (8, (0, x8))]) D rfl nl_401 rfl rfl fun D =>
    j_ild (pc := 227) D rfl rfl rfl fun D =>
    j_ild (pc := 229) D rfl rfl rfl fun D =>
    j_iadd (pc := 231) D rfl fun D =>
    j_ist (pc := 232) (L' := [(8, (0, wI (x8 + x8))), (10, (0, wI (x10 + (wI (x10 + (su_ (ia_ x8 x4) 31)))))), (13, (0, sr_ x13 1)), (4, (0, x4))]) D rfl nl_401 rfl rfl fun D =>
    j_ic (pc := 234) D rfl fun D =>
    j_sh (pc := 235) D rfl rfl rfl fun D =>
    have D : fk_D 401 [(236, none, .istore 7, 2, 0, 0, 0), (238, none, .dup, 1, 0, 0, 0), (239, none, .istore 11, 2, 0, 0, 0), (241, none, .dup, 1, 0, 0, 0), (242, none, .istore 9, 2, 0, 0, 0), (244, none, .istore 12, 2, 0, 0, 0), (246, none, .ldc 23, 2, 0, 2097152, 0), (248, none, .istore 5, 2, 0, 0, 0)] := fq_of2 cd_401 ow_401 cl_401 rfl (pc := 236) (by decide +kernel)
    j_ist (pc := 236) (L' := [(7, (0, 0)), (8, (0, wI (x8 + x8))), (10, (0, wI (x10 + (wI (x10 + (su_ (ia_ x8 x4) 31)))))), (13, (0, sr_ x13 1)), (4, (0, x4))]) D rfl nl_401 rfl rfl fun D =>
    j_sh (pc := 238) D rfl rfl rfl fun D =>
    j_ist (pc := 239) (L' := [(11, (0, 0)), (7, (0, 0)), (8, (0, wI (x8 + x8))), (10, (0, wI (x10 + (wI (x10 + (su_ (ia_ x8 x4) 31)))))), (13, (0, sr_ x13 1)), (4, (0, x4))]) D rfl nl_401 rfl rfl fun D =>
    j_sh (pc := 241) D rfl rfl rfl fun D =>
    j_ist (pc := 242) (L' := [(9, (0, 0)), (11, (0, 0)), (7, (0, 0)), (8, (0, wI (x8 + x8))), (10, (0, wI (x10 + (wI (x10 + (su_ (ia_ x8 x4) 31)))))), (13, (0, sr_ x13 1)), (4, (0, x4))]) D rfl nl_401 rfl rfl fun D =>
    j_ist (pc := 244) (L' := [(12, (0, 0)), (9, (0, 0)), (11, (0, 0)), (7, (0, 0)), (8, (0, wI (x8 + x8))), (10, (0, wI (x10 + (wI (x10 + (su_ (ia_ x8 x4) 31)))))), (13, (0, sr_ x13 1)), (4, (0, x4))]) D rfl nl_401 rfl rfl fun D =>
    j_ldc (pc := 246) D rfl fun D =>
    j_ist (pc := 248) (L' := [(5, (0, 2097152)), (12, (0, 0)), (9, (0, 0)), (11, (0, 0)), (7, (0, 0)), (8, (0, wI (x8 + x8))), (10, (0, wI (x10 + (wI (x10 + (su_ (ia_ x8 x4) 31)))))), (13, (0, sr_ x13 1)), (4, (0, x4))]) D rfl nl_401 rfl rfl fun D =>
    fk_jump cut_401_250 rfl rfl
theorem e_401_250 (d : Nat) (x4 x5 x7 x8 x9 x10 x11 x12 x13 : Int) {h : fi_H} (H : Shp h) : c_401_250 d x4 x5 x7 x8 x9 x10 x11 x12 x13 h =
  if x5 = 0 then
    c_401_326 d x4 x4 x7 x8 x9 x10 x11 x12 x13 h
  else
    if x10 < wI (x11 + x5) then
      c_401_290 d x4 x5 x7 x8 x9 x10 x11 x12 x13 h
    else
      c_401_290 d x4 x5 x7 x8 x9 (wI (x10 - (wI (x11 + x5)))) (wI ((wI (x11 + x5)) + x5)) (wI (x12 + x5)) x13 h := by
  unfold c_401_250
  exact
    have D : fk_D 401 [(250, some [4, 5, 7, 8, 9, 10, 11, 12, 13], .iload 5, 2, 0, 0, 0), (252, none, .ifCond .eq 70, 3, 322, 0, 0), (255, none, .iload 11, 2, 0, 0, 0), (257, none, .iload 5, 2, 0, 0, 0), (259, none, .iadd, 1, 0, 0, 0), (260, none, .istore 14, 2, 0, 0, 0), (262, none, .iload 14, 2, 0, 0, 0), (264, none, .iload 10, 2, 0, 0, 0), (266, none, .if_icmp .gt 24, 3, 290, 0, 0), (269, none, .iload 14, 2, 0, 0, 0), (271, none, .iload 5, 2, 0, 0, 0), (273, none, .iadd, 1, 0, 0, 0), (274, none, .istore 11, 2, 0, 0, 0), (276, none, .iload 10, 2, 0, 0, 0), (278, none, .iload 14, 2, 0, 0, 0), (280, none, .isub, 1, 0, 0, 0), (281, none, .istore 10, 2, 0, 0, 0), (283, none, .iload 12, 2, 0, 0, 0), (285, none, .iload 5, 2, 0, 0, 0), (287, none, .iadd, 1, 0, 0, 0)] := fq_of2 cd_401 ow_401 cl_401 rfl (pc := 250) (by decide +kernel)
    j_ild (pc := 250) D rfl rfl rfl fun D =>
    j_ifeq (pc := 252) D rfl (fun q =>
      have D : fk_D 401 [(322, none, .iload 4, 2, 0, 0, 0), (324, none, .istore 5, 2, 0, 0, 0)] := fq_of2 cd_401 ow_401 cl_401 rfl (pc := 322) (by decide +kernel)
      j_ild (pc := 322) D rfl rfl rfl fun D =>
      j_ist (pc := 324) (L' := [(5, (0, x4)), (4, (0, x4)), (7, (0, x7)), (8, (0, x8)), (9, (0, x9)), (10, (0, x10)), (11, (0, x11)), (12, (0, x12)), (13, (0, x13))]) D rfl nl_401 rfl rfl fun D =>
      fk_jump cut_401_326 rfl rfl) (fun q D =>
      j_ild (pc := 255) D rfl rfl rfl fun D =>
      j_ild (pc := 257) D rfl rfl rfl fun D =>
      j_iadd (pc := 259) D rfl fun D =>
      j_ist (pc := 260) (L' := [(14, (0, wI (x11 + x5))), (4, (0, x4)), (5, (0, x5)), (7, (0, x7)), (8, (0, x8)), (9, (0, x9)), (10, (0, x10)), (11, (0, x11)), (12, (0, x12)), (13, (0, x13))]) D rfl nl_401 rfl rfl fun D =>
      j_ild (pc := 262) D rfl rfl rfl fun D =>
      j_ild (pc := 264) D rfl rfl rfl fun D =>
      j_igt (pc := 266) D rfl (fun q =>
        fk_jump cut_401_290 rfl rfl) (fun q D =>
        j_ild (pc := 269) D rfl rfl rfl fun D =>
        j_ild (pc := 271) D rfl rfl rfl fun D =>
        j_iadd (pc := 273) D rfl fun D =>
        j_ist (pc := 274) (L' := [(11, (0, wI ((wI (x11 + x5)) + x5))), (14, (0, wI (x11 + x5))), (4, (0, x4)), (5, (0, x5)), (7, (0, x7)), (8, (0, x8)), (9, (0, x9)), (10, (0, x10)), (12, (0, x12)), (13, (0, x13))]) D rfl nl_401 rfl rfl fun D =>
        j_ild (pc := 276) D rfl rfl rfl fun D =>
        j_ild (pc := 278) D rfl rfl rfl fun D =>
        j_isub (pc := 280) D rfl fun D =>
        j_ist (pc := 281) (L' := [(10, (0, wI (x10 - (wI (x11 + x5))))), (11, (0, wI ((wI (x11 + x5)) + x5))), (14, (0, wI (x11 + x5))), (4, (0, x4)), (5, (0, x5)), (7, (0, x7)), (8, (0, x8)), (9, (0, x9)), (12, (0, x12)), (13, (0, x13))]) D rfl nl_401 rfl rfl fun D =>
        j_ild (pc := 283) D rfl rfl rfl fun D =>
        j_ild (pc := 285) D rfl rfl rfl fun D =>
        j_iadd (pc := 287) D rfl fun D =>
        have D : fk_D 401 [(288, none, .istore 12, 2, 0, 0, 0)] := fq_of2 cd_401 ow_401 cl_401 rfl (pc := 288) (by decide +kernel)
        j_ist (pc := 288) (L' := [(12, (0, wI (x12 + x5))), (10, (0, wI (x10 - (wI (x11 + x5))))), (11, (0, wI ((wI (x11 + x5)) + x5))), (14, (0, wI (x11 + x5))), (4, (0, x4)), (5, (0, x5)), (7, (0, x7)), (8, (0, x8)), (9, (0, x9)), (13, (0, x13))]) D rfl nl_401 rfl rfl fun D =>
        fk_jump cut_401_290 rfl rfl))
theorem e_401_290 (d : Nat) (x4 x5 x7 x8 x9 x10 x11 x12 x13 : Int) {h : fi_H} (H : Shp h) : c_401_290 d x4 x5 x7 x8 x9 x10 x11 x12 x13 h =
  c_401_250 d x4 (su_ x5 1) x7 (wI (x8 + x8)) x9 (wI (x10 + (wI (x10 + (su_ (ia_ x8 x4) 31))))) x11 x12 x13 h := by
  unfold c_401_290
  exact
    have D : fk_D 401 [(290, some [4, 5, 7, 8, 9, 10, 11, 12, 13], .iload 10, 2, 0, 0, 0), (292, none, .iload 10, 2, 0, 0, 0), (294, none, .iload 8, 2, 0, 0, 0), (296, none, .iload 4, 2, 0, 0, 0), (298, none, .iand, 1, 0, 0, 0), (299, none, .bipush 31, 2, 0, 31, 0), (301, none, .iushr, 1, 0, 0, 0), (302, none, .iadd, 1, 0, 0, 0), (303, none, .iadd, 1, 0, 0, 0), (304, none, .istore 10, 2, 0, 0, 0), (306, none, .iload 8, 2, 0, 0, 0), (308, none, .iload 8, 2, 0, 0, 0), (310, none, .iadd, 1, 0, 0, 0), (311, none, .istore 8, 2, 0, 0, 0), (313, none, .iload 5, 2, 0, 0, 0), (315, none, .iconst 1, 1, 0, 1, 0), (316, none, .iushr, 1, 0, 0, 0), (317, none, .istore 5, 2, 0, 0, 0), (319, none, .goto (-69), 3, 250, 0, 0)] := fq_of2 cd_401 ow_401 cl_401 rfl (pc := 290) (by decide +kernel)
    j_ild (pc := 290) D rfl rfl rfl fun D =>
    j_ild (pc := 292) D rfl rfl rfl fun D =>
    j_ild (pc := 294) D rfl rfl rfl fun D =>
    j_ild (pc := 296) D rfl rfl rfl fun D =>
    j_iand (pc := 298) D rfl fun D =>
    j_bp (pc := 299) D rfl fun D =>
    j_iushr (pc := 301) D rfl fun D =>
    j_iadd (pc := 302) D rfl fun D =>
    j_iadd (pc := 303) D rfl fun D =>
    j_ist (pc := 304) (L' := [(10, (0, wI (x10 + (wI (x10 + (su_ (ia_ x8 x4) 31)))))), (4, (0, x4)), (5, (0, x5)), (7, (0, x7)), (8, (0, x8)), (9, (0, x9)), (11, (0, x11)), (12, (0, x12)), (13, (0, x13))]) D rfl nl_401 rfl rfl fun D =>
    j_ild (pc := 306) D rfl rfl rfl fun D =>
    j_ild (pc := 308) D rfl rfl rfl fun D =>
    j_iadd (pc := 310) D rfl fun D =>
    j_ist (pc := 311) (L' := [(8, (0, wI (x8 + x8))), (10, (0, wI (x10 + (wI (x10 + (su_ (ia_ x8 x4) 31)))))), (4, (0, x4)), (5, (0, x5)), (7, (0, x7)), (9, (0, x9)), (11, (0, x11)), (12, (0, x12)), (13, (0, x13))]) D rfl nl_401 rfl rfl fun D =>
    j_ild (pc := 313) D rfl rfl rfl fun D =>
    j_ic (pc := 315) D rfl fun D =>
    j_iushr (pc := 316) D rfl fun D =>
    j_ist (pc := 317) (L' := [(5, (0, su_ x5 1)), (8, (0, wI (x8 + x8))), (10, (0, wI (x10 + (wI (x10 + (su_ (ia_ x8 x4) 31)))))), (4, (0, x4)), (7, (0, x7)), (9, (0, x9)), (11, (0, x11)), (12, (0, x12)), (13, (0, x13))]) D rfl nl_401 rfl rfl fun D =>
    j_goto (pc := 319) D rfl <|
    fk_jump cut_401_250 rfl rfl
theorem e_401_326 (d : Nat) (x4 x5 x7 x8 x9 x10 x11 x12 x13 : Int) {h : fi_H} (H : Shp h) : c_401_326 d x4 x5 x7 x8 x9 x10 x11 x12 x13 h =
  if x5 = 0 then
    if io_ x10 x8 = 0 then
      c_401_524 d x4 x9 x12 x13 h
    else
      if dl_ 4607182418800017408 4607182418800017408 < 0 then
        c_401_524 d x4 x9 x12 x13 h
      else
        if x9 = (-1) then
          c_401_524 d x4 0 (wI (x12 + 1)) x13 h
        else
          if 0 < dl_ 4607182418800017408 4607182418800017408 then
            if x9 = (-2) then
              c_401_509 d x4 x9 (wI (x12 + 1)) x13 h
            else
              c_401_509 d x4 x9 x12 x13 h
          else
            c_401_524 d x4 (wI (x9 + (ia_ x9 1))) x12 x13 h
  else
    if x11 < x10 then
      c_401_366 d x4 x5 (wI (x7 + x5)) x8 x9 x10 x11 x12 x13 x11 h
    else
      if x11 = x10 then
        ca_ (fj_run d 404 h [(0, wI (x7 + x5)), (0, x8)]) 0
          (fun v2 h1 =>
          if 0 < v2 then
            c_401_428 d x4 x5 x7 x8 x9 x10 x11 x12 x13 h1
          else
            c_401_366 d x4 x5 (wI (x7 + x5)) x8 x9 x10 x11 x12 x13 x11 h1)
          (fun q3 h1 => tx_ q3 h1)
      else
        c_401_428 d x4 x5 x7 x8 x9 x10 x11 x12 x13 h := by
  unfold c_401_326
  exact
    have D : fk_D 401 [(326, some [4, 5, 7, 8, 9, 10, 11, 12, 13], .iload 5, 2, 0, 0, 0), (328, none, .ifCond .eq 132, 3, 460, 0, 0), (331, none, .iload 7, 2, 0, 0, 0), (333, none, .iload 5, 2, 0, 0, 0), (335, none, .iadd, 1, 0, 0, 0), (336, none, .istore 6, 2, 0, 0, 0), (338, none, .iload 11, 2, 0, 0, 0), (340, none, .istore 14, 2, 0, 0, 0), (342, none, .iload 14, 2, 0, 0, 0), (344, none, .iload 10, 2, 0, 0, 0), (346, none, .if_icmp .lt 20, 3, 366, 0, 0), (349, none, .iload 14, 2, 0, 0, 0), (351, none, .iload 10, 2, 0, 0, 0), (353, none, .if_icmp .ne 75, 3, 428, 0, 0), (356, none, .iload 6, 2, 0, 0, 0), (358, none, .iload 8, 2, 0, 0, 0), (360, none, .invokestatic 24, 3, 2, 404, 1), (363, none, .ifCond .gt 65, 3, 428, 0, 0)] := fq_of2 cd_401 ow_401 cl_401 rfl (pc := 326) (by decide +kernel)
    j_ild (pc := 326) D rfl rfl rfl fun D =>
    j_ifeq (pc := 328) D rfl (fun q =>
      have D : fk_D 401 [(460, none, .iload 10, 2, 0, 0, 0), (462, none, .iload 8, 2, 0, 0, 0), (464, none, .ior, 1, 0, 0, 0), (465, none, .ifCond .eq 59, 3, 524, 0, 0), (468, none, .dconst 1, 1, 0, 0, 0), (469, none, .dstore_n 2, 1, 0, 0, 0), (470, none, .dload_n 2, 1, 0, 0, 0), (471, none, .dconst 1, 1, 0, 0, 0), (472, none, .dcmp .l, 1, 0, 0, 0), (473, none, .ifCond .lt 51, 3, 524, 0, 0), (476, none, .dconst 1, 1, 0, 0, 0), (477, none, .dstore_n 2, 1, 0, 0, 0), (478, none, .iload 9, 2, 0, 0, 0), (480, none, .iconst (-1), 1, 0, (-1), 0), (481, none, .if_icmp .ne 12, 3, 493, 0, 0), (484, none, .iconst 0, 1, 0, 0, 0), (485, none, .istore 9, 2, 0, 0, 0), (487, none, .iinc 12 1, 3, 0, 1, 0), (490, none, .goto 34, 3, 524, 0, 0)] := fq_of2 cd_401 ow_401 cl_401 rfl (pc := 460) (by decide +kernel)
      j_ild (pc := 460) D rfl rfl rfl fun D =>
      j_ild (pc := 462) D rfl rfl rfl fun D =>
      j_ior (pc := 464) D rfl fun D =>
      j_ifeq (pc := 465) D rfl (fun q =>
        fk_jump cut_401_524 rfl rfl) (fun q D =>
        j_c0 (pc := 468) (v := (3, 4607182418800017408)) D rfl rfl (by decide +kernel) fun D =>
        j_dstn (pc := 469) (L' := [(2, (3, 4607182418800017408)), (4, (0, x4)), (5, (0, x5)), (7, (0, x7)), (8, (0, x8)), (9, (0, x9)), (10, (0, x10)), (11, (0, x11)), (12, (0, x12)), (13, (0, x13))]) D rfl nl_401 rfl rfl fun D =>
        j_dldn (pc := 470) D rfl rfl rfl fun D =>
        j_c0 (pc := 471) (v := (3, 4607182418800017408)) D rfl rfl (by decide +kernel) fun D =>
        j_dcmpl (pc := 472) D rfl fun D =>
        j_iflt (pc := 473) D rfl (fun q =>
          fk_jump cut_401_524 rfl rfl) (fun q D =>
          j_c0 (pc := 476) (v := (3, 4607182418800017408)) D rfl rfl (by decide +kernel) fun D =>
          j_dstn (pc := 477) (L' := [(2, (3, 4607182418800017408)), (4, (0, x4)), (5, (0, x5)), (7, (0, x7)), (8, (0, x8)), (9, (0, x9)), (10, (0, x10)), (11, (0, x11)), (12, (0, x12)), (13, (0, x13))]) D rfl nl_401 rfl rfl fun D =>
          j_ild (pc := 478) D rfl rfl rfl fun D =>
          j_ic (pc := 480) D rfl fun D =>
          j_ine (pc := 481) D rfl (fun q D =>
            j_ic (pc := 484) D rfl fun D =>
            j_ist (pc := 485) (L' := [(9, (0, 0)), (2, (3, 4607182418800017408)), (4, (0, x4)), (5, (0, x5)), (7, (0, x7)), (8, (0, x8)), (10, (0, x10)), (11, (0, x11)), (12, (0, x12)), (13, (0, x13))]) D rfl nl_401 rfl rfl fun D =>
            j_inc (pc := 487) (L' := [(12, (0, wI (x12 + 1))), (9, (0, 0)), (2, (3, 4607182418800017408)), (4, (0, x4)), (5, (0, x5)), (7, (0, x7)), (8, (0, x8)), (10, (0, x10)), (11, (0, x11)), (13, (0, x13))]) D rfl rfl rfl (by decide +kernel) rfl fun D =>
            j_goto (pc := 490) D rfl <|
            fk_jump cut_401_524 rfl rfl) (fun q =>
            have D : fk_D 401 [(493, none, .dload_n 2, 1, 0, 0, 0), (494, none, .dconst 1, 1, 0, 0, 0), (495, none, .dcmp .l, 1, 0, 0, 0), (496, none, .ifCond .le 19, 3, 515, 0, 0), (499, none, .iload 9, 2, 0, 0, 0), (501, none, .bipush (-2), 2, 0, (-2), 0), (503, none, .if_icmp .ne 6, 3, 509, 0, 0), (506, none, .iinc 12 1, 3, 0, 1, 0)] := fq_of2 cd_401 ow_401 cl_401 rfl (pc := 493) (by decide +kernel)
            j_dldn (pc := 493) D rfl rfl rfl fun D =>
            j_c0 (pc := 494) (v := (3, 4607182418800017408)) D rfl rfl (by decide +kernel) fun D =>
            j_dcmpl (pc := 495) D rfl fun D =>
            j_ifle (pc := 496) D rfl (fun q D =>
              j_ild (pc := 499) D rfl rfl rfl fun D =>
              j_bp (pc := 501) D rfl fun D =>
              j_ine (pc := 503) D rfl (fun q D =>
                j_inc (pc := 506) (L' := [(12, (0, wI (x12 + 1))), (2, (3, 4607182418800017408)), (4, (0, x4)), (5, (0, x5)), (7, (0, x7)), (8, (0, x8)), (9, (0, x9)), (10, (0, x10)), (11, (0, x11)), (13, (0, x13))]) D rfl rfl rfl (by decide +kernel) rfl fun D =>
                fk_jump cut_401_509 rfl rfl) (fun q =>
                fk_jump cut_401_509 rfl rfl)) (fun q =>
              have D : fk_D 401 [(515, none, .iload 9, 2, 0, 0, 0), (517, none, .iload 9, 2, 0, 0, 0), (519, none, .iconst 1, 1, 0, 1, 0), (520, none, .iand, 1, 0, 0, 0), (521, none, .iadd, 1, 0, 0, 0), (522, none, .istore 9, 2, 0, 0, 0)] := fq_of2 cd_401 ow_401 cl_401 rfl (pc := 515) (by decide +kernel)
              j_ild (pc := 515) D rfl rfl rfl fun D =>
              j_ild (pc := 517) D rfl rfl rfl fun D =>
              j_ic (pc := 519) D rfl fun D =>
              j_iand (pc := 520) D rfl fun D =>
              j_iadd (pc := 521) D rfl fun D =>
              j_ist (pc := 522) (L' := [(9, (0, wI (x9 + (ia_ x9 1)))), (2, (3, 4607182418800017408)), (4, (0, x4)), (5, (0, x5)), (7, (0, x7)), (8, (0, x8)), (10, (0, x10)), (11, (0, x11)), (12, (0, x12)), (13, (0, x13))]) D rfl nl_401 rfl rfl fun D =>
              fk_jump cut_401_524 rfl rfl))))) (fun q D =>
      j_ild (pc := 331) D rfl rfl rfl fun D =>
      j_ild (pc := 333) D rfl rfl rfl fun D =>
      j_iadd (pc := 335) D rfl fun D =>
      j_ist (pc := 336) (L' := [(6, (0, wI (x7 + x5))), (4, (0, x4)), (5, (0, x5)), (7, (0, x7)), (8, (0, x8)), (9, (0, x9)), (10, (0, x10)), (11, (0, x11)), (12, (0, x12)), (13, (0, x13))]) D rfl nl_401 rfl rfl fun D =>
      j_ild (pc := 338) D rfl rfl rfl fun D =>
      j_ist (pc := 340) (L' := [(14, (0, x11)), (6, (0, wI (x7 + x5))), (4, (0, x4)), (5, (0, x5)), (7, (0, x7)), (8, (0, x8)), (9, (0, x9)), (10, (0, x10)), (11, (0, x11)), (12, (0, x12)), (13, (0, x13))]) D rfl nl_401 rfl rfl fun D =>
      j_ild (pc := 342) D rfl rfl rfl fun D =>
      j_ild (pc := 344) D rfl rfl rfl fun D =>
      j_ilt (pc := 346) D rfl (fun q =>
        fk_jump cut_401_366 rfl rfl) (fun q D =>
        j_ild (pc := 349) D rfl rfl rfl fun D =>
        j_ild (pc := 351) D rfl rfl rfl fun D =>
        j_ine (pc := 353) D rfl (fun q D =>
          j_ild (pc := 356) D rfl rfl rfl fun D =>
          j_ild (pc := 358) D rfl rfl rfl fun D =>
          j_is (pc := 360) (m := 404) (a := [(0, wI (x7 + x5)), (0, x8)]) (rest := []) D rfl rfl rfl rfl (fun v2 h1 e1 D =>
            have T := fj_run_ok _ _ _ _ _ _ H.1 e1
            have H := shp_st H T
            j_ifgt (pc := 363) D rfl (fun q =>
              fk_jump cut_401_428 rfl rfl) (fun q D =>
              fk_jump cut_401_366 rfl rfl)) (fun q3 h1 e1 =>
            j_tx (hx_401 _))) (fun q =>
          fk_jump cut_401_428 rfl rfl)))
theorem e_401_366 (d : Nat) (x4 x5 x6 x8 x9 x10 x11 x12 x13 x14 : Int) {h : fi_H} (H : Shp h) : c_401_366 d x4 x5 x6 x8 x9 x10 x11 x12 x13 x14 h =
  if ia_ x6 x4 = x4 then
    if ia_ (wI (x6 + x5)) x4 = 0 then
      c_401_394 d x4 x5 x6 (wI (x6 + x5)) x8 x9 x10 (wI (x11 + 1)) x12 x13 x14 h
    else
      c_401_394 d x4 x5 x6 (wI (x6 + x5)) x8 x9 x10 x11 x12 x13 x14 h
  else
    c_401_394 d x4 x5 x6 (wI (x6 + x5)) x8 x9 x10 x11 x12 x13 x14 h := by
  unfold c_401_366
  exact
    have D : fk_D 401 [(366, some [4, 5, 6, 8, 9, 10, 11, 12, 13, 14], .iload 6, 2, 0, 0, 0), (368, none, .iload 5, 2, 0, 0, 0), (370, none, .iadd, 1, 0, 0, 0), (371, none, .istore 7, 2, 0, 0, 0), (373, none, .iload 6, 2, 0, 0, 0), (375, none, .iload 4, 2, 0, 0, 0), (377, none, .iand, 1, 0, 0, 0), (378, none, .iload 4, 2, 0, 0, 0), (380, none, .if_icmp .ne 14, 3, 394, 0, 0), (383, none, .iload 7, 2, 0, 0, 0), (385, none, .iload 4, 2, 0, 0, 0), (387, none, .iand, 1, 0, 0, 0), (388, none, .ifCond .ne 6, 3, 394, 0, 0), (391, none, .iinc 11 1, 3, 0, 1, 0)] := fq_of2 cd_401 ow_401 cl_401 rfl (pc := 366) (by decide +kernel)
    j_ild (pc := 366) D rfl rfl rfl fun D =>
    j_ild (pc := 368) D rfl rfl rfl fun D =>
    j_iadd (pc := 370) D rfl fun D =>
    j_ist (pc := 371) (L' := [(7, (0, wI (x6 + x5))), (4, (0, x4)), (5, (0, x5)), (6, (0, x6)), (8, (0, x8)), (9, (0, x9)), (10, (0, x10)), (11, (0, x11)), (12, (0, x12)), (13, (0, x13)), (14, (0, x14))]) D rfl nl_401 rfl rfl fun D =>
    j_ild (pc := 373) D rfl rfl rfl fun D =>
    j_ild (pc := 375) D rfl rfl rfl fun D =>
    j_iand (pc := 377) D rfl fun D =>
    j_ild (pc := 378) D rfl rfl rfl fun D =>
    j_ine (pc := 380) D rfl (fun q D =>
      j_ild (pc := 383) D rfl rfl rfl fun D =>
      j_ild (pc := 385) D rfl rfl rfl fun D =>
      j_iand (pc := 387) D rfl fun D =>
      j_ifne (pc := 388) D rfl (fun q D =>
        j_inc (pc := 391) (L' := [(11, (0, wI (x11 + 1))), (7, (0, wI (x6 + x5))), (4, (0, x4)), (5, (0, x5)), (6, (0, x6)), (8, (0, x8)), (9, (0, x9)), (10, (0, x10)), (12, (0, x12)), (13, (0, x13)), (14, (0, x14))]) D rfl rfl rfl (by decide +kernel) rfl fun D =>
        fk_jump cut_401_394 rfl rfl) (fun q =>
        fk_jump cut_401_394 rfl rfl)) (fun q =>
      fk_jump cut_401_394 rfl rfl)
theorem e_401_394 (d : Nat) (x4 x5 x6 x7 x8 x9 x10 x11 x12 x13 x14 : Int) {h : fi_H} (H : Shp h) : c_401_394 d x4 x5 x6 x7 x8 x9 x10 x11 x12 x13 x14 h =
  ca_ (fj_run d 404 h [(0, x8), (0, x6)]) 0
    (fun v2 h1 =>
    if v2 < 0 then
      c_401_414 d x4 x5 x6 x7 x8 x9 (wI ((wI (x10 - x14)) + (-1))) x11 x12 x13 h1
    else
      c_401_414 d x4 x5 x6 x7 x8 x9 (wI (x10 - x14)) x11 x12 x13 h1)
    (fun q3 h1 => tx_ q3 h1) := by
  unfold c_401_394
  exact
    have D : fk_D 401 [(394, some [4, 5, 6, 7, 8, 9, 10, 11, 12, 13, 14], .iload 10, 2, 0, 0, 0), (396, none, .iload 14, 2, 0, 0, 0), (398, none, .isub, 1, 0, 0, 0), (399, none, .istore 10, 2, 0, 0, 0), (401, none, .iload 8, 2, 0, 0, 0), (403, none, .iload 6, 2, 0, 0, 0), (405, none, .invokestatic 24, 3, 2, 404, 1), (408, none, .ifCond .ge 6, 3, 414, 0, 0), (411, none, .iinc 10 (-1), 3, 0, (-1), 0)] := fq_of2 cd_401 ow_401 cl_401 rfl (pc := 394) (by decide +kernel)
    j_ild (pc := 394) D rfl rfl rfl fun D =>
    j_ild (pc := 396) D rfl rfl rfl fun D =>
    j_isub (pc := 398) D rfl fun D =>
    j_ist (pc := 399) (L' := [(10, (0, wI (x10 - x14))), (4, (0, x4)), (5, (0, x5)), (6, (0, x6)), (7, (0, x7)), (8, (0, x8)), (9, (0, x9)), (11, (0, x11)), (12, (0, x12)), (13, (0, x13)), (14, (0, x14))]) D rfl nl_401 rfl rfl fun D =>
    j_ild (pc := 401) D rfl rfl rfl fun D =>
    j_ild (pc := 403) D rfl rfl rfl fun D =>
    j_is (pc := 405) (m := 404) (a := [(0, x8), (0, x6)]) (rest := []) D rfl rfl rfl rfl (fun v2 h1 e1 D =>
      have T := fj_run_ok _ _ _ _ _ _ H.1 e1
      have H := shp_st H T
      j_ifge (pc := 408) D rfl (fun q D =>
        j_inc (pc := 411) (L' := [(10, (0, wI ((wI (x10 - x14)) + (-1)))), (4, (0, x4)), (5, (0, x5)), (6, (0, x6)), (7, (0, x7)), (8, (0, x8)), (9, (0, x9)), (11, (0, x11)), (12, (0, x12)), (13, (0, x13)), (14, (0, x14))]) D rfl rfl rfl (by decide +kernel) rfl fun D =>
        fk_jump cut_401_414 rfl rfl) (fun q =>
        fk_jump cut_401_414 rfl rfl)) (fun q3 h1 e1 =>
      j_tx (hx_401 _))
theorem e_401_414 (d : Nat) (x4 x5 x6 x7 x8 x9 x10 x11 x12 x13 : Int) {h : fi_H} (H : Shp h) : c_401_414 d x4 x5 x6 x7 x8 x9 x10 x11 x12 x13 h =
  c_401_428 d x4 x5 x7 (wI (x8 - x6)) (wI (x9 + x5)) x10 x11 x12 x13 h := by
  unfold c_401_414
  exact
    have D : fk_D 401 [(414, some [4, 5, 6, 7, 8, 9, 10, 11, 12, 13], .iload 8, 2, 0, 0, 0), (416, none, .iload 6, 2, 0, 0, 0), (418, none, .isub, 1, 0, 0, 0), (419, none, .istore 8, 2, 0, 0, 0), (421, none, .iload 9, 2, 0, 0, 0), (423, none, .iload 5, 2, 0, 0, 0), (425, none, .iadd, 1, 0, 0, 0), (426, none, .istore 9, 2, 0, 0, 0)] := fq_of2 cd_401 ow_401 cl_401 rfl (pc := 414) (by decide +kernel)
    j_ild (pc := 414) D rfl rfl rfl fun D =>
    j_ild (pc := 416) D rfl rfl rfl fun D =>
    j_isub (pc := 418) D rfl fun D =>
    j_ist (pc := 419) (L' := [(8, (0, wI (x8 - x6))), (4, (0, x4)), (5, (0, x5)), (6, (0, x6)), (7, (0, x7)), (9, (0, x9)), (10, (0, x10)), (11, (0, x11)), (12, (0, x12)), (13, (0, x13))]) D rfl nl_401 rfl rfl fun D =>
    j_ild (pc := 421) D rfl rfl rfl fun D =>
    j_ild (pc := 423) D rfl rfl rfl fun D =>
    j_iadd (pc := 425) D rfl fun D =>
    j_ist (pc := 426) (L' := [(9, (0, wI (x9 + x5))), (8, (0, wI (x8 - x6))), (4, (0, x4)), (5, (0, x5)), (6, (0, x6)), (7, (0, x7)), (10, (0, x10)), (11, (0, x11)), (12, (0, x12)), (13, (0, x13))]) D rfl nl_401 rfl rfl fun D =>
    fk_jump cut_401_428 rfl rfl
theorem e_401_428 (d : Nat) (x4 x5 x7 x8 x9 x10 x11 x12 x13 : Int) {h : fi_H} (H : Shp h) : c_401_428 d x4 x5 x7 x8 x9 x10 x11 x12 x13 h =
  c_401_326 d x4 (su_ x5 1) x7 (wI (x8 + x8)) x9 (wI (x10 + (wI (x10 + (su_ (ia_ x8 x4) 31))))) x11 x12 x13 h := by
  unfold c_401_428
  exact
    have D : fk_D 401 [(428, some [4, 5, 7, 8, 9, 10, 11, 12, 13], .iload 10, 2, 0, 0, 0), (430, none, .iload 10, 2, 0, 0, 0), (432, none, .iload 8, 2, 0, 0, 0), (434, none, .iload 4, 2, 0, 0, 0), (436, none, .iand, 1, 0, 0, 0), (437, none, .bipush 31, 2, 0, 31, 0), (439, none, .iushr, 1, 0, 0, 0), (440, none, .iadd, 1, 0, 0, 0), (441, none, .iadd, 1, 0, 0, 0), (442, none, .istore 10, 2, 0, 0, 0), (444, none, .iload 8, 2, 0, 0, 0), (446, none, .iload 8, 2, 0, 0, 0), (448, none, .iadd, 1, 0, 0, 0), (449, none, .istore 8, 2, 0, 0, 0), (451, none, .iload 5, 2, 0, 0, 0), (453, none, .iconst 1, 1, 0, 1, 0), (454, none, .iushr, 1, 0, 0, 0), (455, none, .istore 5, 2, 0, 0, 0), (457, none, .goto (-131), 3, 326, 0, 0)] := fq_of2 cd_401 ow_401 cl_401 rfl (pc := 428) (by decide +kernel)
    j_ild (pc := 428) D rfl rfl rfl fun D =>
    j_ild (pc := 430) D rfl rfl rfl fun D =>
    j_ild (pc := 432) D rfl rfl rfl fun D =>
    j_ild (pc := 434) D rfl rfl rfl fun D =>
    j_iand (pc := 436) D rfl fun D =>
    j_bp (pc := 437) D rfl fun D =>
    j_iushr (pc := 439) D rfl fun D =>
    j_iadd (pc := 440) D rfl fun D =>
    j_iadd (pc := 441) D rfl fun D =>
    j_ist (pc := 442) (L' := [(10, (0, wI (x10 + (wI (x10 + (su_ (ia_ x8 x4) 31)))))), (4, (0, x4)), (5, (0, x5)), (7, (0, x7)), (8, (0, x8)), (9, (0, x9)), (11, (0, x11)), (12, (0, x12)), (13, (0, x13))]) D rfl nl_401 rfl rfl fun D =>
    j_ild (pc := 444) D rfl rfl rfl fun D =>
    j_ild (pc := 446) D rfl rfl rfl fun D =>
    j_iadd (pc := 448) D rfl fun D =>
    j_ist (pc := 449) (L' := [(8, (0, wI (x8 + x8))), (10, (0, wI (x10 + (wI (x10 + (su_ (ia_ x8 x4) 31)))))), (4, (0, x4)), (5, (0, x5)), (7, (0, x7)), (9, (0, x9)), (11, (0, x11)), (12, (0, x12)), (13, (0, x13))]) D rfl nl_401 rfl rfl fun D =>
    j_ild (pc := 451) D rfl rfl rfl fun D =>
    j_ic (pc := 453) D rfl fun D =>
    j_iushr (pc := 454) D rfl fun D =>
    j_ist (pc := 455) (L' := [(5, (0, su_ x5 1)), (8, (0, wI (x8 + x8))), (10, (0, wI (x10 + (wI (x10 + (su_ (ia_ x8 x4) 31)))))), (4, (0, x4)), (7, (0, x7)), (9, (0, x9)), (11, (0, x11)), (12, (0, x12)), (13, (0, x13))]) D rfl nl_401 rfl rfl fun D =>
    j_goto (pc := 457) D rfl <|
    fk_jump cut_401_326 rfl rfl
theorem e_401_509 (d : Nat) (x4 x9 x12 x13 : Int) {h : fi_H} (H : Shp h) : c_401_509 d x4 x9 x12 x13 h =
  c_401_524 d x4 (wI (x9 + 2)) x12 x13 h := by
  unfold c_401_509
  exact
    have D : fk_D 401 [(509, some [4, 9, 12, 13], .iinc 9 2, 3, 0, 2, 0), (512, none, .goto 12, 3, 524, 0, 0)] := fq_of2 cd_401 ow_401 cl_401 rfl (pc := 509) (by decide +kernel)
    j_inc (pc := 509) (L' := [(9, (0, wI (x9 + 2))), (4, (0, x4)), (12, (0, x12)), (13, (0, x13))]) D rfl rfl rfl (by decide +kernel) rfl fun D =>
    j_goto (pc := 512) D rfl <|
    fk_jump cut_401_524 rfl rfl
theorem e_401_524 (d : Nat) (x4 x9 x12 x13 : Int) {h : fi_H} (H : Shp h) : c_401_524 d x4 x9 x12 x13 h =
  if ia_ x12 1 = 1 then
    c_401_554 d (io_ (su_ x9 1) x4) (wI ((sr_ x12 1) + 1071644672)) x13 h
  else
    c_401_554 d (su_ x9 1) (wI ((sr_ x12 1) + 1071644672)) x13 h := by
  unfold c_401_524
  exact
    have D : fk_D 401 [(524, some [4, 9, 12, 13], .iload 12, 2, 0, 0, 0), (526, none, .iconst 1, 1, 0, 1, 0), (527, none, .ishr, 1, 0, 0, 0), (528, none, .ldc 32, 2, 0, 1071644672, 0), (530, none, .iadd, 1, 0, 0, 0), (531, none, .istore 10, 2, 0, 0, 0), (533, none, .iload 9, 2, 0, 0, 0), (535, none, .iconst 1, 1, 0, 1, 0), (536, none, .iushr, 1, 0, 0, 0), (537, none, .istore 8, 2, 0, 0, 0), (539, none, .iload 12, 2, 0, 0, 0), (541, none, .iconst 1, 1, 0, 1, 0), (542, none, .iand, 1, 0, 0, 0), (543, none, .iconst 1, 1, 0, 1, 0), (544, none, .if_icmp .ne 10, 3, 554, 0, 0), (547, none, .iload 8, 2, 0, 0, 0), (549, none, .iload 4, 2, 0, 0, 0), (551, none, .ior, 1, 0, 0, 0), (552, none, .istore 8, 2, 0, 0, 0)] := fq_of2 cd_401 ow_401 cl_401 rfl (pc := 524) (by decide +kernel)
    j_ild (pc := 524) D rfl rfl rfl fun D =>
    j_ic (pc := 526) D rfl fun D =>
    j_ishr (pc := 527) D rfl fun D =>
    j_ldc (pc := 528) D rfl fun D =>
    j_iadd (pc := 530) D rfl fun D =>
    j_ist (pc := 531) (L' := [(10, (0, wI ((sr_ x12 1) + 1071644672))), (4, (0, x4)), (9, (0, x9)), (12, (0, x12)), (13, (0, x13))]) D rfl nl_401 rfl rfl fun D =>
    j_ild (pc := 533) D rfl rfl rfl fun D =>
    j_ic (pc := 535) D rfl fun D =>
    j_iushr (pc := 536) D rfl fun D =>
    j_ist (pc := 537) (L' := [(8, (0, su_ x9 1)), (10, (0, wI ((sr_ x12 1) + 1071644672))), (4, (0, x4)), (9, (0, x9)), (12, (0, x12)), (13, (0, x13))]) D rfl nl_401 rfl rfl fun D =>
    j_ild (pc := 539) D rfl rfl rfl fun D =>
    j_ic (pc := 541) D rfl fun D =>
    j_iand (pc := 542) D rfl fun D =>
    j_ic (pc := 543) D rfl fun D =>
    j_ine (pc := 544) D rfl (fun q D =>
      j_ild (pc := 547) D rfl rfl rfl fun D =>
      j_ild (pc := 549) D rfl rfl rfl fun D =>
      j_ior (pc := 551) D rfl fun D =>
      j_ist (pc := 552) (L' := [(8, (0, io_ (su_ x9 1) x4)), (10, (0, wI ((sr_ x12 1) + 1071644672))), (4, (0, x4)), (9, (0, x9)), (12, (0, x12)), (13, (0, x13))]) D rfl nl_401 rfl rfl fun D =>
      fk_jump cut_401_554 rfl rfl) (fun q =>
      fk_jump cut_401_554 rfl rfl)
theorem e_401_554 (d : Nat) (x8 x10 x13 : Int) {h : fi_H} (H : Shp h) : c_401_554 d x8 x10 x13 h =
  ca_ (fj_run d 406 h [(0, wI (x10 + (sl_ x13 20))), (0, x8)]) 3
    (fun v2 h1 =>
    some (.inl (some (3, v2)), h1))
    (fun q3 h1 => tx_ q3 h1) := by
  unfold c_401_554
  exact
    have D : fk_D 401 [(554, some [8, 10, 13], .iload 10, 2, 0, 0, 0), (556, none, .iload 13, 2, 0, 0, 0), (558, none, .bipush 20, 2, 0, 20, 0), (560, none, .ishl, 1, 0, 0, 0), (561, none, .iadd, 1, 0, 0, 0), (562, none, .istore 10, 2, 0, 0, 0), (564, none, .iload 10, 2, 0, 0, 0), (566, none, .iload 8, 2, 0, 0, 0), (568, none, .invokestatic 33, 3, 2, 406, 4), (571, none, .dreturn, 1, 0, 0, 0)] := fq_of2 cd_401 ow_401 cl_401 rfl (pc := 554) (by decide +kernel)
    j_ild (pc := 554) D rfl rfl rfl fun D =>
    j_ild (pc := 556) D rfl rfl rfl fun D =>
    j_bp (pc := 558) D rfl fun D =>
    j_ishl (pc := 560) D rfl fun D =>
    j_iadd (pc := 561) D rfl fun D =>
    j_ist (pc := 562) (L' := [(10, (0, wI (x10 + (sl_ x13 20)))), (8, (0, x8)), (13, (0, x13))]) D rfl nl_401 rfl rfl fun D =>
    j_ild (pc := 564) D rfl rfl rfl fun D =>
    j_ild (pc := 566) D rfl rfl rfl fun D =>
    j_is (pc := 568) (m := 406) (a := [(0, wI (x10 + (sl_ x13 20))), (0, x8)]) (rest := []) D rfl rfl rfl rfl (fun v2 h1 e1 D =>
      have T := fj_run_ok _ _ _ _ _ _ H.1 e1
      have H := shp_st H T
      j_dret D rt_401) (fun q3 h1 e1 =>
      j_tx (hx_401 _))
theorem m_401 (d : Nat) (x0 : Int) {h : fi_H} (H : Shp h) : fj_run (d + 1) 401 h [(3, x0)] =
  ca_ (fj_run d 402 h [(3, x0)]) 0
    (fun v2 h1 =>
    ca_ (fj_run d 403 h1 [(3, x0)]) 0
      (fun v5 h4 =>
      if ia_ v2 2146435072 = 2146435072 then
        dn_ (FP.dmul (fi_D x0) (fi_D x0)) fun v7 =>
        dn_ (FP.dadd (fi_D v7) (fi_D x0)) fun v8 =>
        some (.inl (some (3, v8)), h4)
      else
        if 0 < v2 then
          c_401_67 d (-2147483648) v5 v2 h4
        else
          if io_ (ia_ v2 (ix_ (-2147483648) (-1))) v5 = 0 then
            some (.inl (some (3, x0)), h4)
          else
            if v2 < 0 then
              dn_ (FP.dsub (fi_D x0) (fi_D x0)) fun v9 =>
              dn_ (FP.dsub (fi_D x0) (fi_D x0)) fun v10 =>
              dn_ (FP.ddiv (fi_D v9) (fi_D v10)) fun v11 =>
              some (.inl (some (3, v11)), h4)
            else
              c_401_67 d (-2147483648) v5 v2 h4)
      (fun q6 h4 => tx_ q6 h4))
    (fun q3 h1 => tx_ q3 h1) := by
  rw [fj_run_eq d (by decide) h [(3, x0)] (Nat.le_of_ble_eq_true (by rw [nl_401]; rfl))]
  show gG (fj_run d) 401 0 [(0, (3, x0))] [] h = _
  exact
    have D : fk_D 401 [(0, none, .dconst 0, 1, 0, 0, 0), (1, none, .dstore_n 2, 1, 0, 0, 0), (2, none, .ldc 12, 2, 0, (-2147483648), 0), (4, none, .istore 4, 2, 0, 0, 0), (6, none, .dload_n 0, 1, 0, 0, 0), (7, none, .invokestatic 13, 3, 1, 402, 1), (10, none, .istore 10, 2, 0, 0, 0), (12, none, .dload_n 0, 1, 0, 0, 0), (13, none, .invokestatic 17, 3, 1, 403, 1), (16, none, .istore 8, 2, 0, 0, 0), (18, none, .iload 10, 2, 0, 0, 0), (20, none, .ldc 20, 2, 0, 2146435072, 0), (22, none, .iand, 1, 0, 0, 0), (23, none, .ldc 20, 2, 0, 2146435072, 0), (25, none, .if_icmp .ne 9, 3, 34, 0, 0), (28, none, .dload_n 0, 1, 0, 0, 0), (29, none, .dload_n 0, 1, 0, 0, 0), (30, none, .dmul, 1, 0, 0, 0), (31, none, .dload_n 0, 1, 0, 0, 0), (32, none, .dadd, 1, 0, 0, 0)] := fq_of2 cd_401 ow_401 cl_401 rfl (pc := 0) (by decide +kernel)
    j_c0 (pc := 0) (v := (3, 0)) D rfl rfl (by decide +kernel) fun D =>
    j_dstn (pc := 1) (L' := [(2, (3, 0)), (0, (3, x0))]) D rfl nl_401 rfl rfl fun D =>
    j_ldc (pc := 2) D rfl fun D =>
    j_ist (pc := 4) (L' := [(4, (0, (-2147483648))), (2, (3, 0)), (0, (3, x0))]) D rfl nl_401 rfl rfl fun D =>
    j_dldn (pc := 6) D rfl rfl rfl fun D =>
    j_is (pc := 7) (m := 402) (a := [(3, x0)]) (rest := []) D rfl rfl rfl rfl (fun v2 h1 e1 D =>
      have T := fj_run_ok _ _ _ _ _ _ H.1 e1
      have H := shp_st H T
      j_ist (pc := 10) (L' := [(10, (0, v2)), (4, (0, (-2147483648))), (2, (3, 0)), (0, (3, x0))]) D rfl nl_401 rfl rfl fun D =>
      j_dldn (pc := 12) D rfl rfl rfl fun D =>
      j_is (pc := 13) (m := 403) (a := [(3, x0)]) (rest := []) D rfl rfl rfl rfl (fun v5 h4 e1 D =>
        have T := fj_run_ok _ _ _ _ _ _ H.1 e1
        have H := shp_st H T
        j_ist (pc := 16) (L' := [(8, (0, v5)), (10, (0, v2)), (4, (0, (-2147483648))), (2, (3, 0)), (0, (3, x0))]) D rfl nl_401 rfl rfl fun D =>
        j_ild (pc := 18) D rfl rfl rfl fun D =>
        j_ldc (pc := 20) D rfl fun D =>
        j_iand (pc := 22) D rfl fun D =>
        j_ldc (pc := 23) D rfl fun D =>
        j_ine (pc := 25) D rfl (fun q D =>
          j_dldn (pc := 28) D rfl rfl rfl fun D =>
          j_dldn (pc := 29) D rfl rfl rfl fun D =>
          j_dop (pc := 30) (u := FP.dmul (fi_D x0) (fi_D x0)) D rfl rfl rfl fun D v7 =>
          j_dldn (pc := 31) D rfl rfl rfl fun D =>
          j_dop (pc := 32) (u := FP.dadd (fi_D v7) (fi_D x0)) D rfl rfl rfl fun D v8 =>
          have D : fk_D 401 [(33, none, .dreturn, 1, 0, 0, 0)] := fq_of2 cd_401 ow_401 cl_401 rfl (pc := 33) (by decide +kernel)
          j_dret D rt_401) (fun q =>
          have D : fk_D 401 [(34, none, .iload 10, 2, 0, 0, 0), (36, none, .ifCond .gt 31, 3, 67, 0, 0), (39, none, .iload 10, 2, 0, 0, 0), (41, none, .iload 4, 2, 0, 0, 0), (43, none, .iconst (-1), 1, 0, (-1), 0), (44, none, .ixor, 1, 0, 0, 0), (45, none, .iand, 1, 0, 0, 0), (46, none, .iload 8, 2, 0, 0, 0), (48, none, .ior, 1, 0, 0, 0), (49, none, .ifCond .ne 5, 3, 54, 0, 0), (52, none, .dload_n 0, 1, 0, 0, 0), (53, none, .dreturn, 1, 0, 0, 0)] := fq_of2 cd_401 ow_401 cl_401 rfl (pc := 34) (by decide +kernel)
          j_ild (pc := 34) D rfl rfl rfl fun D =>
          j_ifgt (pc := 36) D rfl (fun q =>
            fk_jump cut_401_67 rfl rfl) (fun q D =>
            j_ild (pc := 39) D rfl rfl rfl fun D =>
            j_ild (pc := 41) D rfl rfl rfl fun D =>
            j_ic (pc := 43) D rfl fun D =>
            j_ixor (pc := 44) D rfl fun D =>
            j_iand (pc := 45) D rfl fun D =>
            j_ild (pc := 46) D rfl rfl rfl fun D =>
            j_ior (pc := 48) D rfl fun D =>
            j_ifne (pc := 49) D rfl (fun q D =>
              j_dldn (pc := 52) D rfl rfl rfl fun D =>
              j_dret D rt_401) (fun q =>
              have D : fk_D 401 [(54, none, .iload 10, 2, 0, 0, 0), (56, none, .ifCond .ge 11, 3, 67, 0, 0), (59, none, .dload_n 0, 1, 0, 0, 0), (60, none, .dload_n 0, 1, 0, 0, 0), (61, none, .dsub, 1, 0, 0, 0), (62, none, .dload_n 0, 1, 0, 0, 0), (63, none, .dload_n 0, 1, 0, 0, 0), (64, none, .dsub, 1, 0, 0, 0), (65, none, .ddiv, 1, 0, 0, 0), (66, none, .dreturn, 1, 0, 0, 0)] := fq_of2 cd_401 ow_401 cl_401 rfl (pc := 54) (by decide +kernel)
              j_ild (pc := 54) D rfl rfl rfl fun D =>
              j_ifge (pc := 56) D rfl (fun q D =>
                j_dldn (pc := 59) D rfl rfl rfl fun D =>
                j_dldn (pc := 60) D rfl rfl rfl fun D =>
                j_dop (pc := 61) (u := FP.dsub (fi_D x0) (fi_D x0)) D rfl rfl rfl fun D v9 =>
                j_dldn (pc := 62) D rfl rfl rfl fun D =>
                j_dldn (pc := 63) D rfl rfl rfl fun D =>
                j_dop (pc := 64) (u := FP.dsub (fi_D x0) (fi_D x0)) D rfl rfl rfl fun D v10 =>
                j_dop (pc := 65) (u := FP.ddiv (fi_D v9) (fi_D v10)) D rfl rfl rfl fun D v11 =>
                j_dret D rt_401) (fun q =>
                fk_jump cut_401_67 rfl rfl))))) (fun q6 h4 e1 =>
        j_tx (hx_401 _))) (fun q3 h1 e1 =>
      j_tx (hx_401 _))
/-! 402 java/lang/FdLibm.__HI(D)I -/
theorem cd_402 : fi_code 402 = prog_77_method_4_code := rfl
theorem hx_402 : ∀ pc, fi_hat 402 pc = none := fun pc => by unfold fi_hat; rw [show fi_hh 402 = [] from rfl]; rfl
theorem rt_402 : fi_ret 402 = some .int := rfl
theorem nl_402 : fi_nl 402 = 4 := rfl
theorem ow_402 : fi_ow 402 = 72 := rfl
theorem cl_402 : fj_cutT.getD 402 [] = [] := rfl
theorem m_402 (d : Nat) (x0 : Int) {h : fi_H} (H : Shp h) : fj_run (d + 1) 402 h [(3, x0)] =
  ca_ (fj_run d 1002 h [(3, x0)]) 1
    (fun v2 h1 =>
    some (.inl (some (0, wI (lsr_ v2 32))), h1))
    (fun q3 h1 => tx_ q3 h1) := by
  rw [fj_run_eq d (by decide) h [(3, x0)] (Nat.le_of_ble_eq_true (by rw [nl_402]; rfl))]
  show gG (fj_run d) 402 0 [(0, (3, x0))] [] h = _
  exact
    have D : fk_D 402 [(0, none, .dload_n 0, 1, 0, 0, 0), (1, none, .invokestatic 16, 3, 1, 1002, 2), (4, none, .lstore_n 2, 1, 0, 0, 0), (5, none, .lload_n 2, 1, 0, 0, 0), (6, none, .bipush 32, 2, 0, 32, 0), (8, none, .lshr, 1, 0, 0, 0), (9, none, .l2i, 1, 0, 0, 0), (10, none, .ireturn, 1, 0, 0, 0)] := fq_of2 cd_402 ow_402 cl_402 rfl (pc := 0) (by decide +kernel)
    j_dldn (pc := 0) D rfl rfl rfl fun D =>
    j_is (pc := 1) (m := 1002) (a := [(3, x0)]) (rest := []) D rfl rfl rfl rfl (fun v2 h1 e1 D =>
      have T := fj_run_ok _ _ _ _ _ _ H.1 e1
      have H := shp_st H T
      j_lstn (pc := 4) (L' := [(2, (1, v2)), (0, (3, x0))]) D rfl nl_402 rfl rfl fun D =>
      j_lldn (pc := 5) D rfl rfl rfl fun D =>
      j_bp (pc := 6) D rfl fun D =>
      j_lshr (pc := 8) D rfl fun D =>
      j_l2i (pc := 9) D rfl fun D =>
      j_iret D rt_402) (fun q3 h1 e1 =>
      j_tx (hx_402 _))
/-! 403 java/lang/FdLibm.__LO(D)I -/
theorem cd_403 : fi_code 403 = prog_77_method_2_code := rfl
theorem hx_403 : ∀ pc, fi_hat 403 pc = none := fun pc => by unfold fi_hat; rw [show fi_hh 403 = [] from rfl]; rfl
theorem rt_403 : fi_ret 403 = some .int := rfl
theorem nl_403 : fi_nl 403 = 4 := rfl
theorem ow_403 : fi_ow 403 = 72 := rfl
theorem cl_403 : fj_cutT.getD 403 [] = [] := rfl
theorem m_403 (d : Nat) (x0 : Int) {h : fi_H} (H : Shp h) : fj_run (d + 1) 403 h [(3, x0)] =
  ca_ (fj_run d 1002 h [(3, x0)]) 1
    (fun v2 h1 =>
    some (.inl (some (0, wI v2)), h1))
    (fun q3 h1 => tx_ q3 h1) := by
  rw [fj_run_eq d (by decide) h [(3, x0)] (Nat.le_of_ble_eq_true (by rw [nl_403]; rfl))]
  show gG (fj_run d) 403 0 [(0, (3, x0))] [] h = _
  exact
    have D : fk_D 403 [(0, none, .dload_n 0, 1, 0, 0, 0), (1, none, .invokestatic 16, 3, 1, 1002, 2), (4, none, .lstore_n 2, 1, 0, 0, 0), (5, none, .lload_n 2, 1, 0, 0, 0), (6, none, .l2i, 1, 0, 0, 0), (7, none, .ireturn, 1, 0, 0, 0)] := fq_of2 cd_403 ow_403 cl_403 rfl (pc := 0) (by decide +kernel)
    j_dldn (pc := 0) D rfl rfl rfl fun D =>
    j_is (pc := 1) (m := 1002) (a := [(3, x0)]) (rest := []) D rfl rfl rfl rfl (fun v2 h1 e1 D =>
      have T := fj_run_ok _ _ _ _ _ _ H.1 e1
      have H := shp_st H T
      j_lstn (pc := 4) (L' := [(2, (1, v2)), (0, (3, x0))]) D rfl nl_403 rfl rfl fun D =>
      j_lldn (pc := 5) D rfl rfl rfl fun D =>
      j_l2i (pc := 6) D rfl fun D =>
      j_iret D rt_403) (fun q3 h1 e1 =>
      j_tx (hx_403 _))
/-! 404 java/lang/Integer.compareUnsigned(II)I -/
theorem cd_404 : fi_code 404 = prog_80_method_41_code := rfl
theorem hx_404 : ∀ pc, fi_hat 404 pc = none := fun pc => by unfold fi_hat; rw [show fi_hh 404 = [] from rfl]; rfl
theorem rt_404 : fi_ret 404 = some .int := rfl
theorem nl_404 : fi_nl 404 = 2 := rfl
theorem ow_404 : fi_ow 404 = 74 := rfl
theorem cl_404 : fj_cutT.getD 404 [] = [] := rfl
theorem m_404 (d : Nat) (x0 x1 : Int) {h : fi_H} (H : Shp h) : fj_run (d + 1) 404 h [(0, x0), (0, x1)] =
  ca_ (fj_run d 405 h [(0, wI (x0 + (-2147483648))), (0, wI (x1 + (-2147483648)))]) 0
    (fun v2 h1 =>
    some (.inl (some (0, v2)), h1))
    (fun q3 h1 => tx_ q3 h1) := by
  rw [fj_run_eq d (by decide) h [(0, x0), (0, x1)] (Nat.le_of_ble_eq_true (by rw [nl_404]; rfl))]
  show gG (fj_run d) 404 0 [(0, (0, x0)), (1, (0, x1))] [] h = _
  exact
    have D : fk_D 404 [(0, none, .iload_n 0, 1, 0, 0, 0), (1, none, .ldc 127, 2, 0, (-2147483648), 0), (3, none, .iadd, 1, 0, 0, 0), (4, none, .iload_n 1, 1, 0, 0, 0), (5, none, .ldc 127, 2, 0, (-2147483648), 0), (7, none, .iadd, 1, 0, 0, 0), (8, none, .invokestatic 259, 3, 2, 405, 1), (11, none, .ireturn, 1, 0, 0, 0)] := fq_of2 cd_404 ow_404 cl_404 rfl (pc := 0) (by decide +kernel)
    j_ildn (pc := 0) D rfl rfl rfl fun D =>
    j_ldc (pc := 1) D rfl fun D =>
    j_iadd (pc := 3) D rfl fun D =>
    j_ildn (pc := 4) D rfl rfl rfl fun D =>
    j_ldc (pc := 5) D rfl fun D =>
    j_iadd (pc := 7) D rfl fun D =>
    j_is (pc := 8) (m := 405) (a := [(0, wI (x0 + (-2147483648))), (0, wI (x1 + (-2147483648)))]) (rest := []) D rfl rfl rfl rfl (fun v2 h1 e1 D =>
      have T := fj_run_ok _ _ _ _ _ _ H.1 e1
      have H := shp_st H T
      j_iret D rt_404) (fun q3 h1 e1 =>
      j_tx (hx_404 _))
/-! 405 java/lang/Integer.compare(II)I -/
theorem cd_405 : fi_code 405 = prog_80_method_40_code := rfl
theorem hx_405 : ∀ pc, fi_hat 405 pc = none := fun pc => by unfold fi_hat; rw [show fi_hh 405 = [] from rfl]; rfl
theorem rt_405 : fi_ret 405 = some .int := rfl
theorem nl_405 : fi_nl 405 = 2 := rfl
theorem ow_405 : fi_ow 405 = 74 := rfl
theorem cl_405 : fj_cutT.getD 405 [] = [] := rfl
theorem m_405 (d : Nat) (x0 x1 : Int) {h : fi_H} (H : Shp h) : fj_run (d + 1) 405 h [(0, x0), (0, x1)] =
  if x0 < x1 then
    some (.inl (some (0, (-1))), h)
  else
    if x0 = x1 then
      some (.inl (some (0, 0)), h)
    else
      some (.inl (some (0, 1)), h) := by
  rw [fj_run_eq d (by decide) h [(0, x0), (0, x1)] (Nat.le_of_ble_eq_true (by rw [nl_405]; rfl))]
  show gG (fj_run d) 405 0 [(0, (0, x0)), (1, (0, x1))] [] h = _
  exact
    have D : fk_D 405 [(0, none, .iload_n 0, 1, 0, 0, 0), (1, none, .iload_n 1, 1, 0, 0, 0), (2, none, .if_icmp .ge 7, 3, 9, 0, 0), (5, none, .iconst (-1), 1, 0, (-1), 0), (6, none, .goto 13, 3, 19, 0, 0)] := fq_of2 cd_405 ow_405 cl_405 rfl (pc := 0) (by decide +kernel)
    j_ildn (pc := 0) D rfl rfl rfl fun D =>
    j_ildn (pc := 1) D rfl rfl rfl fun D =>
    j_ige (pc := 2) D rfl (fun q D =>
      j_ic (pc := 5) D rfl fun D =>
      j_goto (pc := 6) D rfl <|
      have D : fk_D 405 [(19, none, .ireturn, 1, 0, 0, 0)] := fq_of2 cd_405 ow_405 cl_405 rfl (pc := 19) (by decide +kernel)
      j_iret D rt_405) (fun q =>
      have D : fk_D 405 [(9, none, .iload_n 0, 1, 0, 0, 0), (10, none, .iload_n 1, 1, 0, 0, 0), (11, none, .if_icmp .ne 7, 3, 18, 0, 0), (14, none, .iconst 0, 1, 0, 0, 0), (15, none, .goto 4, 3, 19, 0, 0)] := fq_of2 cd_405 ow_405 cl_405 rfl (pc := 9) (by decide +kernel)
      j_ildn (pc := 9) D rfl rfl rfl fun D =>
      j_ildn (pc := 10) D rfl rfl rfl fun D =>
      j_ine (pc := 11) D rfl (fun q D =>
        j_ic (pc := 14) D rfl fun D =>
        j_goto (pc := 15) D rfl <|
        have D : fk_D 405 [(19, none, .ireturn, 1, 0, 0, 0)] := fq_of2 cd_405 ow_405 cl_405 rfl (pc := 19) (by decide +kernel)
        j_iret D rt_405) (fun q =>
        have D : fk_D 405 [(18, none, .iconst 1, 1, 0, 1, 0), (19, none, .ireturn, 1, 0, 0, 0)] := fq_of2 cd_405 ow_405 cl_405 rfl (pc := 18) (by decide +kernel)
        j_ic (pc := 18) D rfl fun D =>
        j_iret D rt_405))
/-! 406 java/lang/FdLibm.__HI_LO(II)D -/
theorem cd_406 : fi_code 406 = prog_77_method_6_code := rfl
theorem hx_406 : ∀ pc, fi_hat 406 pc = none := fun pc => by unfold fi_hat; rw [show fi_hh 406 = [] from rfl]; rfl
theorem rt_406 : fi_ret 406 = some .double := rfl
theorem nl_406 : fi_nl 406 = 2 := rfl
theorem ow_406 : fi_ow 406 = 72 := rfl
theorem cl_406 : fj_cutT.getD 406 [] = [] := rfl
theorem m_406 (d : Nat) (x0 x1 : Int) {h : fi_H} (H : Shp h) : fj_run (d + 1) 406 h [(0, x0), (0, x1)] =
  ca_ (fj_run d 1001 h [(1, lo_ (lsl_ (wI x0) 32) (la_ (wI x1) 4294967295))]) 3
    (fun v2 h1 =>
    some (.inl (some (3, v2)), h1))
    (fun q3 h1 => tx_ q3 h1) := by
  rw [fj_run_eq d (by decide) h [(0, x0), (0, x1)] (Nat.le_of_ble_eq_true (by rw [nl_406]; rfl))]
  show gG (fj_run d) 406 0 [(0, (0, x0)), (1, (0, x1))] [] h = _
  exact
    have D : fk_D 406 [(0, none, .iload_n 0, 1, 0, 0, 0), (1, none, .i2l, 1, 0, 0, 0), (2, none, .bipush 32, 2, 0, 32, 0), (4, none, .lshl, 1, 0, 0, 0), (5, none, .iload_n 1, 1, 0, 0, 0), (6, none, .i2l, 1, 0, 0, 0), (7, none, .ldc2_w 22, 3, 1, 4294967295, 0), (10, none, .land, 1, 0, 0, 0), (11, none, .lor, 1, 0, 0, 0), (12, none, .invokestatic 24, 3, 1, 1001, 4), (15, none, .dreturn, 1, 0, 0, 0)] := fq_of2 cd_406 ow_406 cl_406 rfl (pc := 0) (by decide +kernel)
    j_ildn (pc := 0) D rfl rfl rfl fun D =>
    j_i2l (pc := 1) D rfl fun D =>
    j_bp (pc := 2) D rfl fun D =>
    j_lshl (pc := 4) D rfl fun D =>
    j_ildn (pc := 5) D rfl rfl rfl fun D =>
    j_i2l (pc := 6) D rfl fun D =>
    j_ldc2 (pc := 7) D rfl fun D =>
    j_land (pc := 10) D rfl fun D =>
    j_lor (pc := 11) D rfl fun D =>
    j_is (pc := 12) (m := 1001) (a := [(1, lo_ (lsl_ (wI x0) 32) (la_ (wI x1) 4294967295))]) (rest := []) D rfl rfl rfl rfl (fun v2 h1 e1 D =>
      have T := fj_run_ok _ _ _ _ _ _ H.1 e1
      have H := shp_st H T
      j_dret D rt_406) (fun q3 h1 e1 =>
      j_tx (hx_406 _))
/-! 407 StatuteHouse$Function$23.work(LStatuteHouse;ILStatuteHouse$Kind;)V -/
theorem cd_407 : fi_code 407 = prog_28_method_3_code := rfl
theorem hx_407 : ∀ pc, fi_hat 407 pc = none := fun pc => by unfold fi_hat; rw [show fi_hh 407 = [] from rfl]; rfl
theorem rt_407 : fi_ret 407 = none := rfl
theorem nl_407 : fi_nl 407 = 6 := rfl
theorem ow_407 : fi_ow 407 = 50 := rfl
theorem cl_407 : fj_cutT.getD 407 [] = [] := rfl
theorem m_407 (d : Nat) (x0 x1 x2 x3 : Int) {h : fi_H} {k0 : Int} (H : Shp h) (hk : h 0 x0.toNat 0 = k0) (hk0 : k0 ≠ 0) : fj_run (d + 1) 407 h [(4, x0), (4, x1), (0, x2), (4, x3)] =
  if h 0 x1.toNat 0 = 100 then
  if h 0 (h 213 x1.toNat 0).toNat 0 = 119 then
  if h 0 (h 122 (h 213 x1.toNat 0).toNat 0).toNat 0 = 7 ∧ 0 ≤ x2 ∧ x2 < h 1 (h 122 (h 213 x1.toNat 0).toNat 0).toNat 0 then
  lt_ (h 7 (h 122 (h 213 x1.toNat 0).toNat 0).toNat x2.toNat) fun y3 =>
  ca_ (fj_run d 1006 h [(3, y3)]) 3
    (fun v5 h4 =>
    if 0 < dl_ v5 4761044086503243776 then
      ca_ (fj_run d 310 h4 [(4, x1), (0, 8)]) 4
        (fun v8 h7 =>
        if v8 ≠ 0 then
        tx_ v8.toNat h7
        else none)
        (fun q9 h7 => tx_ q9 h7)
    else
      dn_ (FP.dmul (fi_D y3) (fi_D 4636737291354636288)) fun v10 =>
      ca_ (fj_run d 1007 h4 [(3, v10)]) 3
        (fun v12 h11 =>
        cv_ (fj_run d 347 h11 [(4, x1), (0, x2), (1, d2l_ v12)])
          (fun h14 =>
          some (.inl none, h14))
          (fun q16 h14 => tx_ q16 h14))
        (fun q13 h11 => tx_ q13 h11))
    (fun q6 h4 => tx_ q6 h4)
  else none
  else none
  else none := by
  rw [fj_run_eq d (by decide) h [(4, x0), (4, x1), (0, x2), (4, x3)] (Nat.le_of_ble_eq_true (by rw [nl_407]; rfl))]
  show gG (fj_run d) 407 0 [(0, (4, x0)), (1, (4, x1)), (2, (0, x2)), (3, (4, x3))] [] h = _
  exact
    have D : fk_D 407 [(0, none, .aload_n 1, 1, 0, 0, 0), (1, none, .getfield 18, 3, 213, (-100), 12), (4, none, .getfield 22, 3, 122, (-119), 12), (7, none, .iload_n 2, 1, 0, 0, 0), (8, none, .daload, 1, 0, 0, 0), (9, none, .dstore 4, 2, 0, 0, 0), (11, none, .dload 4, 2, 0, 0, 0), (13, none, .invokestatic 28, 3, 1, 1006, 4), (16, none, .ldc2_w 34, 3, 3, 4761044086503243776, 0), (19, none, .dcmp .l, 1, 0, 0, 0), (20, none, .ifCond .le 10, 3, 30, 0, 0), (23, none, .aload_n 1, 1, 0, 0, 0), (24, none, .bipush 8, 2, 0, 8, 0), (26, none, .invokevirtual 36, 3, 1, 112, 5), (29, none, .athrow, 1, 0, 0, 0)] := fq_of2 cd_407 ow_407 cl_407 rfl (pc := 0) (by decide +kernel)
    j_aldn (pc := 0) D rfl rfl rfl fun D =>
    j_gfo (pc := 1) H.2.1 D rfl rfl rfl rfl fun kc1 D =>
    j_gfo (pc := 4) H.2.1 D rfl rfl rfl rfl fun kc2 D =>
    j_ildn (pc := 7) D rfl rfl rfl fun D =>
    j_alp (pc := 8) (e := 7) H.2.1 D rfl rfl ⟨rfl, rfl, rfl⟩ rfl fun q q2 D =>
    j_stl (pc := 9) (L' := fun y3 => [(4, (3, y3)), (0, (4, x0)), (1, (4, x1)), (2, (0, x2)), (3, (4, x3))]) D rfl ⟨rfl, rfl, rfl, rfl⟩ nl_407 rfl (fun _ => rfl) fun y3 ey3 D =>
    j_dld (pc := 11) D rfl rfl rfl fun D =>
    j_is (pc := 13) (m := 1006) (a := [(3, y3)]) (rest := []) D rfl rfl rfl rfl (fun v5 h4 e1 D =>
      have T := fj_run_ok _ _ _ _ _ _ H.1 e1
      have hk := cls_st H.1 T.2 hk hk0
      have kc1 := cls_st H.1 T.2 kc1 (by decide)
      have H := shp_st H T
      j_ldc2 (pc := 16) D rfl fun D =>
      j_dcmpl (pc := 19) D rfl fun D =>
      j_ifle (pc := 20) D rfl (fun q D =>
        j_aldn (pc := 23) D rfl rfl rfl fun D =>
        j_bp (pc := 24) D rfl fun D =>
        j_iv (pc := 26) (m := 310) (dd := 112) (a := [(0, 8)]) (rest := []) D rfl rfl rfl rfl rfl (nz_cls H.2.1 kc1 (by decide)) kc1 (by decide +kernel) (fun v8 h7 e1 D =>
          have T := fj_run_ok _ _ _ _ _ _ H.1 e1
          have hk := cls_st H.1 T.2 hk hk0
          have kc1 := cls_st H.1 T.2 kc1 (by decide)
          have H := shp_st H T
          j_at (pc := 29) D gn <|
          j_tx (hx_407 _)) (fun q9 h7 e1 =>
          j_tx (hx_407 _))) (fun q =>
        have D : fk_D 407 [(30, none, .aload_n 1, 1, 0, 0, 0), (31, none, .iload_n 2, 1, 0, 0, 0), (32, none, .dload 4, 2, 0, 0, 0), (34, none, .ldc2_w 40, 3, 3, 4636737291354636288, 0), (37, none, .dmul, 1, 0, 0, 0), (38, none, .invokestatic 42, 3, 1, 1007, 4), (41, none, .d2l, 1, 0, 0, 0), (42, none, .invokevirtual 45, 3, 2, 116, 0), (45, none, .return_, 1, 0, 0, 0)] := fq_of2 cd_407 ow_407 cl_407 rfl (pc := 30) (by decide +kernel)
        j_aldn (pc := 30) D rfl rfl rfl fun D =>
        j_ildn (pc := 31) D rfl rfl rfl fun D =>
        j_dld (pc := 32) D rfl rfl rfl fun D =>
        j_ldc2 (pc := 34) D rfl fun D =>
        j_dop (pc := 37) (u := FP.dmul (fi_D y3) (fi_D 4636737291354636288)) D rfl rfl rfl fun D v10 =>
        j_is (pc := 38) (m := 1007) (a := [(3, v10)]) (rest := [(0, x2), (4, x1)]) D rfl rfl rfl rfl (fun v12 h11 e1 D =>
          have T := fj_run_ok _ _ _ _ _ _ H.1 e1
          have hk := cls_st H.1 T.2 hk hk0
          have kc1 := cls_st H.1 T.2 kc1 (by decide)
          have H := shp_st H T
          j_d2l (pc := 41) D rfl fun D =>
          j_ivv (pc := 42) (m := 347) (dd := 116) (a := [(0, x2), (1, d2l_ v12)]) (rest := []) D rfl rfl rfl rfl rfl (nz_cls H.2.1 kc1 (by decide)) kc1 (by decide +kernel) (fun h14 e1 D =>
            have T := fj_run_ok _ _ _ _ _ _ H.1 e1
            have hk := cls_st H.1 T.2 hk hk0
            have kc1 := cls_st H.1 T.2 kc1 (by decide)
            have H := shp_st H T
            j_vret D rt_407) (fun q16 h14 e1 =>
            j_tx (hx_407 _))) (fun q13 h11 e1 =>
          j_tx (hx_407 _)))) (fun q6 h4 e1 =>
      j_tx (hx_407 _))
/-! 408 java/lang/StrictMath.rint(D)D -/
theorem cd_408 : fi_code 408 = prog_85_method_19_code := rfl
theorem hx_408 : ∀ pc, fi_hat 408 pc = none := fun pc => by unfold fi_hat; rw [show fi_hh 408 = [] from rfl]; rfl
theorem rt_408 : fi_ret 408 = some .double := rfl
theorem nl_408 : fi_nl 408 = 6 := rfl
theorem ow_408 : fi_ow 408 = 78 := rfl
theorem cl_408 : fj_cutT.getD 408 [] = [] := rfl
theorem m_408 (d : Nat) (x0 : Int) {h : fi_H} (H : Shp h) : fj_run (d + 1) 408 h [(3, x0)] =
  ca_ (fj_run d 1008 h [(3, 4607182418800017408), (3, x0)]) 3
    (fun v2 h1 =>
    ca_ (fj_run d 1006 h1 [(3, x0)]) 3
      (fun v5 h4 =>
      if dg_ v5 4841369599423283200 < 0 then
        dn_ (FP.dadd (fi_D 4841369599423283200) (fi_D v5)) fun v7 =>
        dn_ (FP.dsub (fi_D v7) (fi_D 4841369599423283200)) fun v8 =>
        dn_ (FP.dmul (fi_D v2) (fi_D v8)) fun v9 =>
        some (.inl (some (3, v9)), h4)
      else
        dn_ (FP.dmul (fi_D v2) (fi_D v5)) fun v10 =>
        some (.inl (some (3, v10)), h4))
      (fun q6 h4 => tx_ q6 h4))
    (fun q3 h1 => tx_ q3 h1) := by
  rw [fj_run_eq d (by decide) h [(3, x0)] (Nat.le_of_ble_eq_true (by rw [nl_408]; rfl))]
  show gG (fj_run d) 408 0 [(0, (3, x0))] [] h = _
  exact
    have D : fk_D 408 [(0, none, .ldc2_w 93, 3, 3, 4841369599423283200, 0), (3, none, .dstore_n 2, 1, 0, 0, 0), (4, none, .dconst 1, 1, 0, 0, 0), (5, none, .dload_n 0, 1, 0, 0, 0), (6, none, .invokestatic 95, 3, 2, 1008, 4), (9, none, .dstore 4, 2, 0, 0, 0), (11, none, .dload_n 0, 1, 0, 0, 0), (12, none, .invokestatic 98, 3, 1, 1006, 4), (15, none, .dstore_n 0, 1, 0, 0, 0), (16, none, .dload_n 0, 1, 0, 0, 0), (17, none, .dload_n 2, 1, 0, 0, 0), (18, none, .dcmp .g, 1, 0, 0, 0), (19, none, .ifCond .ge 9, 3, 28, 0, 0), (22, none, .dload_n 2, 1, 0, 0, 0), (23, none, .dload_n 0, 1, 0, 0, 0), (24, none, .dadd, 1, 0, 0, 0), (25, none, .dload_n 2, 1, 0, 0, 0), (26, none, .dsub, 1, 0, 0, 0), (27, none, .dstore_n 0, 1, 0, 0, 0), (28, none, .dload 4, 2, 0, 0, 0)] := fq_of2 cd_408 ow_408 cl_408 rfl (pc := 0) (by decide +kernel)
    j_ldc2 (pc := 0) D rfl fun D =>
    j_dstn (pc := 3) (L' := [(2, (3, 4841369599423283200)), (0, (3, x0))]) D rfl nl_408 rfl rfl fun D =>
    j_c0 (pc := 4) (v := (3, 4607182418800017408)) D rfl rfl (by decide +kernel) fun D =>
    j_dldn (pc := 5) D rfl rfl rfl fun D =>
    j_is (pc := 6) (m := 1008) (a := [(3, 4607182418800017408), (3, x0)]) (rest := []) D rfl rfl rfl rfl (fun v2 h1 e1 D =>
      have T := fj_run_ok _ _ _ _ _ _ H.1 e1
      have H := shp_st H T
      j_dst (pc := 9) (L' := [(4, (3, v2)), (2, (3, 4841369599423283200)), (0, (3, x0))]) D rfl nl_408 rfl rfl fun D =>
      j_dldn (pc := 11) D rfl rfl rfl fun D =>
      j_is (pc := 12) (m := 1006) (a := [(3, x0)]) (rest := []) D rfl rfl rfl rfl (fun v5 h4 e1 D =>
        have T := fj_run_ok _ _ _ _ _ _ H.1 e1
        have H := shp_st H T
        j_dstn (pc := 15) (L' := [(0, (3, v5)), (4, (3, v2)), (2, (3, 4841369599423283200))]) D rfl nl_408 rfl rfl fun D =>
        j_dldn (pc := 16) D rfl rfl rfl fun D =>
        j_dldn (pc := 17) D rfl rfl rfl fun D =>
        j_dcmpg (pc := 18) D rfl fun D =>
        j_ifge (pc := 19) D rfl (fun q D =>
          j_dldn (pc := 22) D rfl rfl rfl fun D =>
          j_dldn (pc := 23) D rfl rfl rfl fun D =>
          j_dop (pc := 24) (u := FP.dadd (fi_D 4841369599423283200) (fi_D v5)) D rfl rfl rfl fun D v7 =>
          j_dldn (pc := 25) D rfl rfl rfl fun D =>
          j_dop (pc := 26) (u := FP.dsub (fi_D v7) (fi_D 4841369599423283200)) D rfl rfl rfl fun D v8 =>
          j_dstn (pc := 27) (L' := [(0, (3, v8)), (4, (3, v2)), (2, (3, 4841369599423283200))]) D rfl nl_408 rfl rfl fun D =>
          j_dld (pc := 28) D rfl rfl rfl fun D =>
          have D : fk_D 408 [(30, none, .dload_n 0, 1, 0, 0, 0), (31, none, .dmul, 1, 0, 0, 0), (32, none, .dreturn, 1, 0, 0, 0)] := fq_of2 cd_408 ow_408 cl_408 rfl (pc := 30) (by decide +kernel)
          j_dldn (pc := 30) D rfl rfl rfl fun D =>
          j_dop (pc := 31) (u := FP.dmul (fi_D v2) (fi_D v8)) D rfl rfl rfl fun D v9 =>
          j_dret D rt_408) (fun q =>
          have D : fk_D 408 [(28, none, .dload 4, 2, 0, 0, 0), (30, none, .dload_n 0, 1, 0, 0, 0), (31, none, .dmul, 1, 0, 0, 0), (32, none, .dreturn, 1, 0, 0, 0)] := fq_of2 cd_408 ow_408 cl_408 rfl (pc := 28) (by decide +kernel)
          j_dld (pc := 28) D rfl rfl rfl fun D =>
          j_dldn (pc := 30) D rfl rfl rfl fun D =>
          j_dop (pc := 31) (u := FP.dmul (fi_D v2) (fi_D v5)) D rfl rfl rfl fun D v10 =>
          j_dret D rt_408)) (fun q6 h4 e1 =>
        j_tx (hx_408 _))) (fun q3 h1 e1 =>
      j_tx (hx_408 _))
/-! 409 StatuteHouse$Function$24.work(LStatuteHouse;ILStatuteHouse$Kind;)V -/
theorem cd_409 : fi_code 409 = prog_29_method_3_code := rfl
theorem hx_409 : ∀ pc, fi_hat 409 pc = none := fun pc => by unfold fi_hat; rw [show fi_hh 409 = [] from rfl]; rfl
theorem rt_409 : fi_ret 409 = none := rfl
theorem nl_409 : fi_nl 409 = 4 := rfl
theorem ow_409 : fi_ow 409 = 51 := rfl
theorem cl_409 : fj_cutT.getD 409 [] = [] := rfl
theorem m_409 (d : Nat) (x0 x1 x2 x3 : Int) {h : fi_H} {k0 : Int} (H : Shp h) (hk : h 0 x0.toNat 0 = k0) (hk0 : k0 ≠ 0) : fj_run (d + 1) 409 h [(4, x0), (4, x1), (0, x2), (4, x3)] =
  if x3 = 5 then
    if h 0 x1.toNat 0 = 100 then
    if h 0 (h 213 x1.toNat 0).toNat 0 = 119 then
    if h 0 (h 116 (h 213 x1.toNat 0).toNat 0).toNat 0 = 10 ∧ 0 ≤ x2 ∧ x2 < h 1 (h 116 (h 213 x1.toNat 0).toNat 0).toNat 0 then
    if h 0 (h 117 (h 213 x1.toNat 0).toNat 0).toNat 0 = 10 ∧ 0 ≤ x2 ∧ x2 < h 1 (h 117 (h 213 x1.toNat 0).toNat 0).toNat 0 then
    if h 10 (h 117 (h 213 x1.toNat 0).toNat 0).toNat x2.toNat = 0 then none else
    cv_ (fj_run d 353 h [(4, x1), (0, x2), (1, wI (iq_ (h 10 (h 116 (h 213 x1.toNat 0).toNat 0).toNat x2.toNat) (h 10 (h 117 (h 213 x1.toNat 0).toNat 0).toNat x2.toNat)))])
      (fun h3 =>
      some (.inl none, h3))
      (fun q5 h3 => tx_ q5 h3)
    else none
    else none
    else none
    else none
  else
    if h 0 x1.toNat 0 = 100 then
    if h 0 (h 213 x1.toNat 0).toNat 0 = 119 then
    if h 0 (h 122 (h 213 x1.toNat 0).toNat 0).toNat 0 = 7 ∧ 0 ≤ x2 ∧ x2 < h 1 (h 122 (h 213 x1.toNat 0).toNat 0).toNat 0 then
    cv_ (fj_run d 353 h [(4, x1), (0, x2), (1, d2l_ (h 7 (h 122 (h 213 x1.toNat 0).toNat 0).toNat x2.toNat))])
      (fun h8 =>
      some (.inl none, h8))
      (fun q10 h8 => tx_ q10 h8)
    else none
    else none
    else none := by
  rw [fj_run_eq d (by decide) h [(4, x0), (4, x1), (0, x2), (4, x3)] (Nat.le_of_ble_eq_true (by rw [nl_409]; rfl))]
  show gG (fj_run d) 409 0 [(0, (4, x0)), (1, (4, x1)), (2, (0, x2)), (3, (4, x3))] [] h = _
  exact
    have D : fk_D 409 [(0, none, .aload_n 3, 1, 0, 0, 0), (1, none, .getstatic 7, 3, 4, 5, 0), (4, none, .if_acmp .ne 31, 3, 35, 0, 0), (7, none, .aload_n 1, 1, 0, 0, 0), (8, none, .iload_n 2, 1, 0, 0, 0), (9, none, .aload_n 1, 1, 0, 0, 0), (10, none, .getfield 19, 3, 213, (-100), 12), (13, none, .getfield 25, 3, 116, (-119), 12), (16, none, .iload_n 2, 1, 0, 0, 0), (17, none, .iaload, 1, 0, 0, 0), (18, none, .aload_n 1, 1, 0, 0, 0), (19, none, .getfield 19, 3, 213, 100, 12), (22, none, .getfield 31, 3, 117, 119, 12), (25, none, .iload_n 2, 1, 0, 0, 0), (26, none, .iaload, 1, 0, 0, 0), (27, none, .idiv, 1, 0, 0, 0), (28, none, .i2l, 1, 0, 0, 0), (29, none, .invokevirtual 34, 3, 2, 121, 0), (32, none, .goto 18, 3, 50, 0, 0)] := fq_of2 cd_409 ow_409 cl_409 rfl (pc := 0) (by decide +kernel)
    j_aldn (pc := 0) D rfl rfl rfl fun D =>
    j_gs (pc := 1) D rfl fun D =>
    j_ane (pc := 4) D rfl (fun q D =>
      j_aldn (pc := 7) D rfl rfl rfl fun D =>
      j_ildn (pc := 8) D rfl rfl rfl fun D =>
      j_aldn (pc := 9) D rfl rfl rfl fun D =>
      j_gfo (pc := 10) H.2.1 D rfl rfl rfl rfl fun kc1 D =>
      j_gfo (pc := 13) H.2.1 D rfl rfl rfl rfl fun kc2 D =>
      j_ildn (pc := 16) D rfl rfl rfl fun D =>
      j_alp (pc := 17) (e := 10) H.2.1 D rfl rfl ⟨rfl, rfl, rfl⟩ rfl fun q q2 D =>
      j_aldn (pc := 18) D rfl rfl rfl fun D =>
      j_gf (pc := 19) (a := x1.toNat) D rfl rfl (nz_cls H.2.1 kc1 (by decide)) rfl kc1 rfl fun D =>
      j_gf (pc := 22) (a := (h 213 x1.toNat 0).toNat) D rfl rfl (nz_cls H.2.1 kc2 (by decide)) rfl kc2 rfl fun D =>
      j_ildn (pc := 25) D rfl rfl rfl fun D =>
      j_alp (pc := 26) (e := 10) H.2.1 D rfl rfl ⟨rfl, rfl, rfl⟩ rfl fun q q2 D =>
      j_idiv (pc := 27) D rfl fun q D =>
      j_i2l (pc := 28) D rfl fun D =>
      j_ivv (pc := 29) (m := 353) (dd := 121) (a := [(0, x2), (1, wI (iq_ (h 10 (h 116 (h 213 x1.toNat 0).toNat 0).toNat x2.toNat) (h 10 (h 117 (h 213 x1.toNat 0).toNat 0).toNat x2.toNat)))]) (rest := []) D rfl rfl rfl rfl rfl (nz_cls H.2.1 kc1 (by decide)) kc1 (by decide +kernel) (fun h3 e1 D =>
        have T := fj_run_ok _ _ _ _ _ _ H.1 e1
        have hk := cls_st H.1 T.2 hk hk0
        have kc1 := cls_st H.1 T.2 kc1 (by decide)
        have H := shp_st H T
        j_goto (pc := 32) D rfl <|
        have D : fk_D 409 [(50, none, .return_, 1, 0, 0, 0)] := fq_of2 cd_409 ow_409 cl_409 rfl (pc := 50) (by decide +kernel)
        j_vret D rt_409) (fun q5 h3 e1 =>
        j_tx (hx_409 _))) (fun q =>
      have D : fk_D 409 [(35, none, .aload_n 1, 1, 0, 0, 0), (36, none, .iload_n 2, 1, 0, 0, 0), (37, none, .aload_n 1, 1, 0, 0, 0), (38, none, .getfield 19, 3, 213, (-100), 12), (41, none, .getfield 38, 3, 122, (-119), 12), (44, none, .iload_n 2, 1, 0, 0, 0), (45, none, .daload, 1, 0, 0, 0), (46, none, .d2l, 1, 0, 0, 0), (47, none, .invokevirtual 34, 3, 2, 121, 0), (50, none, .return_, 1, 0, 0, 0)] := fq_of2 cd_409 ow_409 cl_409 rfl (pc := 35) (by decide +kernel)
      j_aldn (pc := 35) D rfl rfl rfl fun D =>
      j_ildn (pc := 36) D rfl rfl rfl fun D =>
      j_aldn (pc := 37) D rfl rfl rfl fun D =>
      j_gfo (pc := 38) H.2.1 D rfl rfl rfl rfl fun kc6 D =>
      j_gfo (pc := 41) H.2.1 D rfl rfl rfl rfl fun kc7 D =>
      j_ildn (pc := 44) D rfl rfl rfl fun D =>
      j_alp (pc := 45) (e := 7) H.2.1 D rfl rfl ⟨rfl, rfl, rfl⟩ rfl fun q q2 D =>
      j_d2l (pc := 46) D rfl fun D =>
      j_ivv (pc := 47) (m := 353) (dd := 121) (a := [(0, x2), (1, d2l_ (h 7 (h 122 (h 213 x1.toNat 0).toNat 0).toNat x2.toNat))]) (rest := []) D rfl rfl rfl rfl rfl (nz_cls H.2.1 kc6 (by decide)) kc6 (by decide +kernel) (fun h8 e1 D =>
        have T := fj_run_ok _ _ _ _ _ _ H.1 e1
        have hk := cls_st H.1 T.2 hk hk0
        have kc6 := cls_st H.1 T.2 kc6 (by decide)
        have H := shp_st H T
        j_vret D rt_409) (fun q10 h8 e1 =>
        j_tx (hx_409 _)))
/-! 410 StatuteHouse$Function$3.work(LStatuteHouse;ILStatuteHouse$Kind;)V -/
theorem cd_410 : fi_code 410 = prog_30_method_3_code := rfl
theorem hx_410 : ∀ pc, fi_hat 410 pc = none := fun pc => by unfold fi_hat; rw [show fi_hh 410 = [] from rfl]; rfl
theorem rt_410 : fi_ret 410 = none := rfl
theorem nl_410 : fi_nl 410 = 4 := rfl
theorem ow_410 : fi_ow 410 = 52 := rfl
theorem cl_410 : fj_cutT.getD 410 [] = [] := rfl
theorem m_410 (d : Nat) (x0 x1 x2 x3 : Int) {h : fi_H} {k0 : Int} (H : Shp h) (hk : h 0 x0.toNat 0 = k0) (hk0 : k0 ≠ 0) : fj_run (d + 1) 410 h [(4, x0), (4, x1), (0, x2), (4, x3)] =
  if h 0 x1.toNat 0 = 100 then
  if h 0 (h 213 x1.toNat 0).toNat 0 = 119 then
  if h 0 (h 120 (h 213 x1.toNat 0).toNat 0).toNat 0 = 5 ∧ 0 ≤ x2 ∧ x2 < h 1 (h 120 (h 213 x1.toNat 0).toNat 0).toNat 0 then
  if h 0 (h 120 (h 213 x1.toNat 0).toNat 0).toNat 0 = 5 ∧ 0 ≤ wI (x2 + 1) ∧ wI (x2 + 1) < h 1 (h 120 (h 213 x1.toNat 0).toNat 0).toNat 0 then
  dv_ (fi_vt 196 (h 0 (h 209 x1.toNat 0).toNat 0)) fun m6 => ca_ (fj_run d m6 h [(4, h 209 x1.toNat 0), (0, h 5 (h 120 (h 213 x1.toNat 0).toNat 0).toNat x2.toNat), (0, h 5 (h 120 (h 213 x1.toNat 0).toNat 0).toNat (wI (x2 + 1)).toNat)]) 0
    (fun v4 h3 =>
    if 302 < h 115 (h 213 x1.toNat 0).toNat 0 ∧ h3 0 (h 115 (h 213 x1.toNat 0).toNat 0).toNat 0 = 10 then
    if 0 ≤ x2 ∧ x2 < h3 1 (h 115 (h 213 x1.toNat 0).toNat 0).toNat 0 then
    lt_ (fi_upd h3 10 (h 115 (h 213 x1.toNat 0).toNat 0).toNat x2.toNat v4) fun h7 =>
    some (.inl none, h7)
    else none
    else none)
    (fun q5 h3 => tx_ q5 h3)
  else none
  else none
  else none
  else none := by
  rw [fj_run_eq d (by decide) h [(4, x0), (4, x1), (0, x2), (4, x3)] (Nat.le_of_ble_eq_true (by rw [nl_410]; rfl))]
  show gG (fj_run d) 410 0 [(0, (4, x0)), (1, (4, x1)), (2, (0, x2)), (3, (4, x3))] [] h = _
  exact
    have D : fk_D 410 [(0, none, .aload_n 1, 1, 0, 0, 0), (1, none, .getfield 17, 3, 213, (-100), 12), (4, none, .getfield 23, 3, 115, (-119), 12), (7, none, .iload_n 2, 1, 0, 0, 0), (8, none, .aload_n 1, 1, 0, 0, 0), (9, none, .getfield 29, 3, 209, 100, 12), (12, none, .aload_n 1, 1, 0, 0, 0), (13, none, .getfield 17, 3, 213, 100, 12), (16, none, .getfield 33, 3, 120, 119, 12), (19, none, .iload_n 2, 1, 0, 0, 0), (20, none, .caload, 1, 0, 0, 0), (21, none, .aload_n 1, 1, 0, 0, 0), (22, none, .getfield 17, 3, 213, 100, 12), (25, none, .getfield 33, 3, 120, 119, 12), (28, none, .iload_n 2, 1, 0, 0, 0), (29, none, .iconst 1, 1, 0, 1, 0), (30, none, .iadd, 1, 0, 0, 0), (31, none, .caload, 1, 0, 0, 0), (32, none, .invokevirtual 37, 3, 2, 196, 1), (35, none, .iastore, 1, 0, 0, 0)] := fq_of2 cd_410 ow_410 cl_410 rfl (pc := 0) (by decide +kernel)
    j_aldn (pc := 0) D rfl rfl rfl fun D =>
    j_gfo (pc := 1) H.2.1 D rfl rfl rfl rfl fun kc1 D =>
    j_gfo (pc := 4) H.2.1 D rfl rfl rfl rfl fun kc2 D =>
    j_ildn (pc := 7) D rfl rfl rfl fun D =>
    j_aldn (pc := 8) D rfl rfl rfl fun D =>
    j_gf (pc := 9) (a := x1.toNat) D rfl rfl (nz_cls H.2.1 kc1 (by decide)) rfl kc1 rfl fun D =>
    j_aldn (pc := 12) D rfl rfl rfl fun D =>
    j_gf (pc := 13) (a := x1.toNat) D rfl rfl (nz_cls H.2.1 kc1 (by decide)) rfl kc1 rfl fun D =>
    j_gf (pc := 16) (a := (h 213 x1.toNat 0).toNat) D rfl rfl (nz_cls H.2.1 kc2 (by decide)) rfl kc2 rfl fun D =>
    j_ildn (pc := 19) D rfl rfl rfl fun D =>
    j_alp (pc := 20) (e := 5) H.2.1 D rfl rfl ⟨rfl, rfl, rfl⟩ rfl fun q q2 D =>
    j_aldn (pc := 21) D rfl rfl rfl fun D =>
    j_gf (pc := 22) (a := x1.toNat) D rfl rfl (nz_cls H.2.1 kc1 (by decide)) rfl kc1 rfl fun D =>
    j_gf (pc := 25) (a := (h 213 x1.toNat 0).toNat) D rfl rfl (nz_cls H.2.1 kc2 (by decide)) rfl kc2 rfl fun D =>
    j_ildn (pc := 28) D rfl rfl rfl fun D =>
    j_ic (pc := 29) D rfl fun D =>
    j_iadd (pc := 30) D rfl fun D =>
    j_alp (pc := 31) (e := 5) H.2.1 D rfl rfl ⟨rfl, rfl, rfl⟩ rfl fun q q2 D =>
    j_ivu (pc := 32) (dd := 196) (a := [(0, h 5 (h 120 (h 213 x1.toNat 0).toNat 0).toNat x2.toNat), (0, h 5 (h 120 (h 213 x1.toNat 0).toNat 0).toNat (wI (x2 + 1)).toNat)]) (rest := [(0, x2), (4, h 115 (h 213 x1.toNat 0).toNat 0)]) H.2.1 D rfl rfl rfl rfl rfl (fun m6 v4 h3 e1 D =>
      have T := fj_run_ok _ _ _ _ _ _ H.1 e1
      have hk := cls_st H.1 T.2 hk hk0
      have kc1 := cls_st H.1 T.2 kc1 (by decide)
      have kc2 := cls_st H.1 T.2 kc2 (by decide)
      have H := shp_st H T
      j_asu (pc := 35) (e := 10) D rfl rfl ⟨rfl, rfl, rfl⟩ rfl gn gn (gy rfl) fun h7 eh7 S q q2 D =>
      have T := fj_hs_ok H.1 S
      have hk := cls_st H.1 T.2 hk hk0
      have kc1 := cls_st H.1 T.2 kc1 (by decide)
      have H := shp_st H T
      have D : fk_D 410 [(36, none, .return_, 1, 0, 0, 0)] := fq_of2 cd_410 ow_410 cl_410 rfl (pc := 36) (by decide +kernel)
      j_vret D rt_410) (fun m6 q5 h3 e1 =>
      j_tx (hx_410 _))
/-! 411 StatuteHouse$Function$4.work(LStatuteHouse;ILStatuteHouse$Kind;)V -/
theorem cd_411 : fi_code 411 = prog_31_method_3_code := rfl
theorem hx_411 : ∀ pc, fi_hat 411 pc = none := fun pc => by unfold fi_hat; rw [show fi_hh 411 = [] from rfl]; rfl
theorem rt_411 : fi_ret 411 = none := rfl
theorem nl_411 : fi_nl 411 = 4 := rfl
theorem ow_411 : fi_ow 411 = 53 := rfl
theorem cl_411 : fj_cutT.getD 411 [] = [] := rfl
theorem m_411 (d : Nat) (x0 x1 x2 x3 : Int) {h : fi_H} {k0 : Int} (H : Shp h) (hk : h 0 x0.toNat 0 = k0) (hk0 : k0 ≠ 0) : fj_run (d + 1) 411 h [(4, x0), (4, x1), (0, x2), (4, x3)] =
  if h 0 x1.toNat 0 = 100 then
  if h 0 (h 213 x1.toNat 0).toNat 0 = 119 then
  if h 0 (h 120 (h 213 x1.toNat 0).toNat 0).toNat 0 = 5 ∧ 0 ≤ wI (x2 + 1) ∧ wI (x2 + 1) < h 1 (h 120 (h 213 x1.toNat 0).toNat 0).toNat 0 then
  if h 0 (h 120 (h 213 x1.toNat 0).toNat 0).toNat 0 = 5 ∧ 0 ≤ x2 ∧ x2 < h 1 (h 120 (h 213 x1.toNat 0).toNat 0).toNat 0 then
  if 302 < h 115 (h 213 x1.toNat 0).toNat 0 ∧ h 0 (h 115 (h 213 x1.toNat 0).toNat 0).toNat 0 = 10 then
  if 0 ≤ x2 ∧ x2 < h 1 (h 115 (h 213 x1.toNat 0).toNat 0).toNat 0 then
  lt_ (fi_upd h 10 (h 115 (h 213 x1.toNat 0).toNat 0).toNat x2.toNat (wI ((h 5 (h 120 (h 213 x1.toNat 0).toNat 0).toNat (wI (x2 + 1)).toNat) - (h 5 (h 120 (h 213 x1.toNat 0).toNat 0).toNat x2.toNat)))) fun h3 =>
  some (.inl none, h3)
  else none
  else none
  else none
  else none
  else none
  else none := by
  rw [fj_run_eq d (by decide) h [(4, x0), (4, x1), (0, x2), (4, x3)] (Nat.le_of_ble_eq_true (by rw [nl_411]; rfl))]
  show gG (fj_run d) 411 0 [(0, (4, x0)), (1, (4, x1)), (2, (0, x2)), (3, (4, x3))] [] h = _
  exact
    have D : fk_D 411 [(0, none, .aload_n 1, 1, 0, 0, 0), (1, none, .getfield 17, 3, 213, (-100), 12), (4, none, .getfield 23, 3, 115, (-119), 12), (7, none, .iload_n 2, 1, 0, 0, 0), (8, none, .aload_n 1, 1, 0, 0, 0), (9, none, .getfield 17, 3, 213, 100, 12), (12, none, .getfield 29, 3, 120, 119, 12), (15, none, .iload_n 2, 1, 0, 0, 0), (16, none, .iconst 1, 1, 0, 1, 0), (17, none, .iadd, 1, 0, 0, 0), (18, none, .caload, 1, 0, 0, 0), (19, none, .aload_n 1, 1, 0, 0, 0), (20, none, .getfield 17, 3, 213, 100, 12), (23, none, .getfield 29, 3, 120, 119, 12), (26, none, .iload_n 2, 1, 0, 0, 0), (27, none, .caload, 1, 0, 0, 0), (28, none, .isub, 1, 0, 0, 0), (29, none, .iastore, 1, 0, 0, 0), (30, none, .return_, 1, 0, 0, 0)] := fq_of2 cd_411 ow_411 cl_411 rfl (pc := 0) (by decide +kernel)
    j_aldn (pc := 0) D rfl rfl rfl fun D =>
    j_gfo (pc := 1) H.2.1 D rfl rfl rfl rfl fun kc1 D =>
    j_gfo (pc := 4) H.2.1 D rfl rfl rfl rfl fun kc2 D =>
    j_ildn (pc := 7) D rfl rfl rfl fun D =>
    j_aldn (pc := 8) D rfl rfl rfl fun D =>
    j_gf (pc := 9) (a := x1.toNat) D rfl rfl (nz_cls H.2.1 kc1 (by decide)) rfl kc1 rfl fun D =>
    j_gf (pc := 12) (a := (h 213 x1.toNat 0).toNat) D rfl rfl (nz_cls H.2.1 kc2 (by decide)) rfl kc2 rfl fun D =>
    j_ildn (pc := 15) D rfl rfl rfl fun D =>
    j_ic (pc := 16) D rfl fun D =>
    j_iadd (pc := 17) D rfl fun D =>
    j_alp (pc := 18) (e := 5) H.2.1 D rfl rfl ⟨rfl, rfl, rfl⟩ rfl fun q q2 D =>
    j_aldn (pc := 19) D rfl rfl rfl fun D =>
    j_gf (pc := 20) (a := x1.toNat) D rfl rfl (nz_cls H.2.1 kc1 (by decide)) rfl kc1 rfl fun D =>
    j_gf (pc := 23) (a := (h 213 x1.toNat 0).toNat) D rfl rfl (nz_cls H.2.1 kc2 (by decide)) rfl kc2 rfl fun D =>
    j_ildn (pc := 26) D rfl rfl rfl fun D =>
    j_alp (pc := 27) (e := 5) H.2.1 D rfl rfl ⟨rfl, rfl, rfl⟩ rfl fun q q2 D =>
    j_isub (pc := 28) D rfl fun D =>
    j_asu (pc := 29) (e := 10) D rfl rfl ⟨rfl, rfl, rfl⟩ rfl gn gn (gy rfl) fun h3 eh3 S q q2 D =>
    have T := fj_hs_ok H.1 S
    have hk := cls_st H.1 T.2 hk hk0
    have kc1 := cls_st H.1 T.2 kc1 (by decide)
    have H := shp_st H T
    j_vret D rt_411
/-! 412 StatuteHouse$Function$5.work(LStatuteHouse;ILStatuteHouse$Kind;)V -/
theorem cd_412 : fi_code 412 = prog_32_method_3_code := rfl
theorem hx_412 : ∀ pc, fi_hat 412 pc = none := fun pc => by unfold fi_hat; rw [show fi_hh 412 = [] from rfl]; rfl
theorem rt_412 : fi_ret 412 = none := rfl
theorem nl_412 : fi_nl 412 = 4 := rfl
theorem ow_412 : fi_ow 412 = 54 := rfl
theorem cl_412 : fj_cutT.getD 412 [] = [] := rfl
theorem m_412 (d : Nat) (x0 x1 x2 x3 : Int) {h : fi_H} {k0 : Int} (H : Shp h) (hk : h 0 x0.toNat 0 = k0) (hk0 : k0 ≠ 0) : fj_run (d + 1) 412 h [(4, x0), (4, x1), (0, x2), (4, x3)] =
  dv_ (fi_vt 226 (h 0 x1.toNat 0)) fun m4 => ca_ (fj_run d m4 h [(4, x1), (0, x2), (4, x3), (4, x3)]) 0
    (fun v2 h1 =>
    if 0 < v2 then
      if h1 0 x1.toNat 0 = 100 then
      dv_ (fi_vt 131 (h1 0 (h1 213 x1.toNat 0).toNat 0)) fun m9 => cv_ (fj_run d m9 h1 [(4, h1 213 x1.toNat 0), (0, x2), (4, h1 213 x1.toNat 0), (0, wI (x2 + 1)), (4, x3)])
        (fun h6 =>
        some (.inl none, h6))
        (fun q8 h6 => tx_ q8 h6)
      else none
    else
      some (.inl none, h1))
    (fun q3 h1 => tx_ q3 h1) := by
  rw [fj_run_eq d (by decide) h [(4, x0), (4, x1), (0, x2), (4, x3)] (Nat.le_of_ble_eq_true (by rw [nl_412]; rfl))]
  show gG (fj_run d) 412 0 [(0, (4, x0)), (1, (4, x1)), (2, (0, x2)), (3, (4, x3))] [] h = _
  exact
    have D : fk_D 412 [(0, none, .aload_n 1, 1, 0, 0, 0), (1, none, .iload_n 2, 1, 0, 0, 0), (2, none, .aload_n 3, 1, 0, 0, 0), (3, none, .aload_n 3, 1, 0, 0, 0), (4, none, .invokevirtual 13, 3, 3, 226, 1), (7, none, .ifCond .le 19, 3, 26, 0, 0), (10, none, .aload_n 1, 1, 0, 0, 0), (11, none, .getfield 19, 3, 213, (-100), 12), (14, none, .iload_n 2, 1, 0, 0, 0), (15, none, .aload_n 1, 1, 0, 0, 0), (16, none, .getfield 19, 3, 213, 100, 12), (19, none, .iload_n 2, 1, 0, 0, 0), (20, none, .iconst 1, 1, 0, 1, 0), (21, none, .iadd, 1, 0, 0, 0), (22, none, .aload_n 3, 1, 0, 0, 0), (23, none, .invokevirtual 23, 3, 4, 131, 0), (26, none, .return_, 1, 0, 0, 0)] := fq_of2 cd_412 ow_412 cl_412 rfl (pc := 0) (by decide +kernel)
    j_aldn (pc := 0) D rfl rfl rfl fun D =>
    j_ildn (pc := 1) D rfl rfl rfl fun D =>
    j_aldn (pc := 2) D rfl rfl rfl fun D =>
    j_aldn (pc := 3) D rfl rfl rfl fun D =>
    j_ivu (pc := 4) (dd := 226) (a := [(0, x2), (4, x3), (4, x3)]) (rest := []) H.2.1 D rfl rfl rfl rfl rfl (fun m4 v2 h1 e1 D =>
      have T := fj_run_ok _ _ _ _ _ _ H.1 e1
      have hk := cls_st H.1 T.2 hk hk0
      have H := shp_st H T
      j_ifle (pc := 7) D rfl (fun q D =>
        j_aldn (pc := 10) D rfl rfl rfl fun D =>
        j_gfo (pc := 11) H.2.1 D rfl rfl rfl rfl fun kc5 D =>
        j_ildn (pc := 14) D rfl rfl rfl fun D =>
        j_aldn (pc := 15) D rfl rfl rfl fun D =>
        j_gf (pc := 16) (a := x1.toNat) D rfl rfl (nz_cls H.2.1 kc5 (by decide)) rfl kc5 rfl fun D =>
        j_ildn (pc := 19) D rfl rfl rfl fun D =>
        j_ic (pc := 20) D rfl fun D =>
        j_iadd (pc := 21) D rfl fun D =>
        j_aldn (pc := 22) D rfl rfl rfl fun D =>
        j_ivuv (pc := 23) (dd := 131) (a := [(0, x2), (4, h1 213 x1.toNat 0), (0, wI (x2 + 1)), (4, x3)]) (rest := []) H.2.1 D rfl rfl rfl rfl rfl (fun m9 h6 e1 D =>
          have T := fj_run_ok _ _ _ _ _ _ H.1 e1
          have hk := cls_st H.1 T.2 hk hk0
          have kc5 := cls_st H.1 T.2 kc5 (by decide)
          have H := shp_st H T
          j_vret D rt_412) (fun m9 q8 h6 e1 =>
          j_tx (hx_412 _))) (fun q =>
        have D : fk_D 412 [(26, none, .return_, 1, 0, 0, 0)] := fq_of2 cd_412 ow_412 cl_412 rfl (pc := 26) (by decide +kernel)
        j_vret D rt_412)) (fun m4 q3 h1 e1 =>
      j_tx (hx_412 _))
/-! 413 StatuteHouse$Function$6.work(LStatuteHouse;ILStatuteHouse$Kind;)V -/
theorem cd_413 : fi_code 413 = prog_33_method_3_code := rfl
theorem hx_413 : ∀ pc, fi_hat 413 pc = none := fun pc => by unfold fi_hat; rw [show fi_hh 413 = [] from rfl]; rfl
theorem rt_413 : fi_ret 413 = none := rfl
theorem nl_413 : fi_nl 413 = 4 := rfl
theorem ow_413 : fi_ow 413 = 55 := rfl
theorem cl_413 : fj_cutT.getD 413 [] = [] := rfl
theorem m_413 (d : Nat) (x0 x1 x2 x3 : Int) {h : fi_H} {k0 : Int} (H : Shp h) (hk : h 0 x0.toNat 0 = k0) (hk0 : k0 ≠ 0) : fj_run (d + 1) 413 h [(4, x0), (4, x1), (0, x2), (4, x3)] =
  dv_ (fi_vt 226 (h 0 x1.toNat 0)) fun m4 => ca_ (fj_run d m4 h [(4, x1), (0, x2), (4, x3), (4, x3)]) 0
    (fun v2 h1 =>
    if v2 < 0 then
      if h1 0 x1.toNat 0 = 100 then
      dv_ (fi_vt 131 (h1 0 (h1 213 x1.toNat 0).toNat 0)) fun m9 => cv_ (fj_run d m9 h1 [(4, h1 213 x1.toNat 0), (0, x2), (4, h1 213 x1.toNat 0), (0, wI (x2 + 1)), (4, x3)])
        (fun h6 =>
        some (.inl none, h6))
        (fun q8 h6 => tx_ q8 h6)
      else none
    else
      some (.inl none, h1))
    (fun q3 h1 => tx_ q3 h1) := by
  rw [fj_run_eq d (by decide) h [(4, x0), (4, x1), (0, x2), (4, x3)] (Nat.le_of_ble_eq_true (by rw [nl_413]; rfl))]
  show gG (fj_run d) 413 0 [(0, (4, x0)), (1, (4, x1)), (2, (0, x2)), (3, (4, x3))] [] h = _
  exact
    have D : fk_D 413 [(0, none, .aload_n 1, 1, 0, 0, 0), (1, none, .iload_n 2, 1, 0, 0, 0), (2, none, .aload_n 3, 1, 0, 0, 0), (3, none, .aload_n 3, 1, 0, 0, 0), (4, none, .invokevirtual 13, 3, 3, 226, 1), (7, none, .ifCond .ge 19, 3, 26, 0, 0), (10, none, .aload_n 1, 1, 0, 0, 0), (11, none, .getfield 19, 3, 213, (-100), 12), (14, none, .iload_n 2, 1, 0, 0, 0), (15, none, .aload_n 1, 1, 0, 0, 0), (16, none, .getfield 19, 3, 213, 100, 12), (19, none, .iload_n 2, 1, 0, 0, 0), (20, none, .iconst 1, 1, 0, 1, 0), (21, none, .iadd, 1, 0, 0, 0), (22, none, .aload_n 3, 1, 0, 0, 0), (23, none, .invokevirtual 23, 3, 4, 131, 0), (26, none, .return_, 1, 0, 0, 0)] := fq_of2 cd_413 ow_413 cl_413 rfl (pc := 0) (by decide +kernel)
    j_aldn (pc := 0) D rfl rfl rfl fun D =>
    j_ildn (pc := 1) D rfl rfl rfl fun D =>
    j_aldn (pc := 2) D rfl rfl rfl fun D =>
    j_aldn (pc := 3) D rfl rfl rfl fun D =>
    j_ivu (pc := 4) (dd := 226) (a := [(0, x2), (4, x3), (4, x3)]) (rest := []) H.2.1 D rfl rfl rfl rfl rfl (fun m4 v2 h1 e1 D =>
      have T := fj_run_ok _ _ _ _ _ _ H.1 e1
      have hk := cls_st H.1 T.2 hk hk0
      have H := shp_st H T
      j_ifge (pc := 7) D rfl (fun q D =>
        j_aldn (pc := 10) D rfl rfl rfl fun D =>
        j_gfo (pc := 11) H.2.1 D rfl rfl rfl rfl fun kc5 D =>
        j_ildn (pc := 14) D rfl rfl rfl fun D =>
        j_aldn (pc := 15) D rfl rfl rfl fun D =>
        j_gf (pc := 16) (a := x1.toNat) D rfl rfl (nz_cls H.2.1 kc5 (by decide)) rfl kc5 rfl fun D =>
        j_ildn (pc := 19) D rfl rfl rfl fun D =>
        j_ic (pc := 20) D rfl fun D =>
        j_iadd (pc := 21) D rfl fun D =>
        j_aldn (pc := 22) D rfl rfl rfl fun D =>
        j_ivuv (pc := 23) (dd := 131) (a := [(0, x2), (4, h1 213 x1.toNat 0), (0, wI (x2 + 1)), (4, x3)]) (rest := []) H.2.1 D rfl rfl rfl rfl rfl (fun m9 h6 e1 D =>
          have T := fj_run_ok _ _ _ _ _ _ H.1 e1
          have hk := cls_st H.1 T.2 hk hk0
          have kc5 := cls_st H.1 T.2 kc5 (by decide)
          have H := shp_st H T
          j_vret D rt_413) (fun m9 q8 h6 e1 =>
          j_tx (hx_413 _))) (fun q =>
        have D : fk_D 413 [(26, none, .return_, 1, 0, 0, 0)] := fq_of2 cd_413 ow_413 cl_413 rfl (pc := 26) (by decide +kernel)
        j_vret D rt_413)) (fun m4 q3 h1 e1 =>
      j_tx (hx_413 _))
/-! 414 StatuteHouse$Function$7.work(LStatuteHouse;ILStatuteHouse$Kind;)V -/
theorem cd_414 : fi_code 414 = prog_34_method_3_code := rfl
theorem hx_414 : ∀ pc, fi_hat 414 pc = none := fun pc => by unfold fi_hat; rw [show fi_hh 414 = [] from rfl]; rfl
theorem rt_414 : fi_ret 414 = none := rfl
theorem nl_414 : fi_nl 414 = 4 := rfl
theorem ow_414 : fi_ow 414 = 56 := rfl
theorem cl_414 : fj_cutT.getD 414 [] = [] := rfl
theorem m_414 (d : Nat) (x0 x1 x2 x3 : Int) {h : fi_H} {k0 : Int} (H : Shp h) (hk : h 0 x0.toNat 0 = k0) (hk0 : k0 ≠ 0) : fj_run (d + 1) 414 h [(4, x0), (4, x1), (0, x2), (4, x3)] =
  dv_ (fi_vt 494 (h 0 x1.toNat 0)) fun m4 => cv_ (fj_run d m4 h [(4, x1), (4, 11), (0, x2)])
    (fun h1 =>
    some (.inl none, h1))
    (fun q3 h1 => tx_ q3 h1) := by
  rw [fj_run_eq d (by decide) h [(4, x0), (4, x1), (0, x2), (4, x3)] (Nat.le_of_ble_eq_true (by rw [nl_414]; rfl))]
  show gG (fj_run d) 414 0 [(0, (4, x0)), (1, (4, x1)), (2, (0, x2)), (3, (4, x3))] [] h = _
  exact
    have D : fk_D 414 [(0, none, .aload_n 1, 1, 0, 0, 0), (1, none, .getstatic 11, 3, 4, 11, 0), (4, none, .iload_n 2, 1, 0, 0, 0), (5, none, .invokevirtual 17, 3, 2, 494, 0), (8, none, .return_, 1, 0, 0, 0)] := fq_of2 cd_414 ow_414 cl_414 rfl (pc := 0) (by decide +kernel)
    j_aldn (pc := 0) D rfl rfl rfl fun D =>
    j_gs (pc := 1) D rfl fun D =>
    j_ildn (pc := 4) D rfl rfl rfl fun D =>
    j_ivuv (pc := 5) (dd := 494) (a := [(4, 11), (0, x2)]) (rest := []) H.2.1 D rfl rfl rfl rfl rfl (fun m4 h1 e1 D =>
      have T := fj_run_ok _ _ _ _ _ _ H.1 e1
      have hk := cls_st H.1 T.2 hk hk0
      have H := shp_st H T
      j_vret D rt_414) (fun m4 q3 h1 e1 =>
      j_tx (hx_414 _))
/-! 415 StatuteHouse$Function$8.work(LStatuteHouse;ILStatuteHouse$Kind;)V -/
theorem cd_415 : fi_code 415 = prog_35_method_3_code := rfl
theorem hx_415 : ∀ pc, fi_hat 415 pc = none := fun pc => by unfold fi_hat; rw [show fi_hh 415 = [] from rfl]; rfl
theorem rt_415 : fi_ret 415 = none := rfl
theorem nl_415 : fi_nl 415 = 4 := rfl
theorem ow_415 : fi_ow 415 = 57 := rfl
theorem cl_415 : fj_cutT.getD 415 [] = [] := rfl
theorem m_415 (d : Nat) (x0 x1 x2 x3 : Int) {h : fi_H} {k0 : Int} (H : Shp h) (hk : h 0 x0.toNat 0 = k0) (hk0 : k0 ≠ 0) : fj_run (d + 1) 415 h [(4, x0), (4, x1), (0, x2), (4, x3)] =
  dv_ (fi_vt 494 (h 0 x1.toNat 0)) fun m4 => cv_ (fj_run d m4 h [(4, x1), (4, 12), (0, x2)])
    (fun h1 =>
    some (.inl none, h1))
    (fun q3 h1 => tx_ q3 h1) := by
  rw [fj_run_eq d (by decide) h [(4, x0), (4, x1), (0, x2), (4, x3)] (Nat.le_of_ble_eq_true (by rw [nl_415]; rfl))]
  show gG (fj_run d) 415 0 [(0, (4, x0)), (1, (4, x1)), (2, (0, x2)), (3, (4, x3))] [] h = _
  exact
    have D : fk_D 415 [(0, none, .aload_n 1, 1, 0, 0, 0), (1, none, .getstatic 11, 3, 4, 12, 0), (4, none, .iload_n 2, 1, 0, 0, 0), (5, none, .invokevirtual 17, 3, 2, 494, 0), (8, none, .return_, 1, 0, 0, 0)] := fq_of2 cd_415 ow_415 cl_415 rfl (pc := 0) (by decide +kernel)
    j_aldn (pc := 0) D rfl rfl rfl fun D =>
    j_gs (pc := 1) D rfl fun D =>
    j_ildn (pc := 4) D rfl rfl rfl fun D =>
    j_ivuv (pc := 5) (dd := 494) (a := [(4, 12), (0, x2)]) (rest := []) H.2.1 D rfl rfl rfl rfl rfl (fun m4 h1 e1 D =>
      have T := fj_run_ok _ _ _ _ _ _ H.1 e1
      have hk := cls_st H.1 T.2 hk hk0
      have H := shp_st H T
      j_vret D rt_415) (fun m4 q3 h1 e1 =>
      j_tx (hx_415 _))
/-! 416 StatuteHouse$Function$9.work(LStatuteHouse;ILStatuteHouse$Kind;)V -/
theorem cd_416 : fi_code 416 = prog_36_method_3_code := rfl
theorem hx_416 : ∀ pc, fi_hat 416 pc = none := fun pc => by unfold fi_hat; rw [show fi_hh 416 = [] from rfl]; rfl
theorem rt_416 : fi_ret 416 = none := rfl
theorem nl_416 : fi_nl 416 = 4 := rfl
theorem ow_416 : fi_ow 416 = 58 := rfl
theorem cl_416 : fj_cutT.getD 416 [] = [] := rfl
theorem m_416 (d : Nat) (x0 x1 x2 x3 : Int) {h : fi_H} {k0 : Int} (H : Shp h) (hk : h 0 x0.toNat 0 = k0) (hk0 : k0 ≠ 0) : fj_run (d + 1) 416 h [(4, x0), (4, x1), (0, x2), (4, x3)] =
  dv_ (fi_vt 494 (h 0 x1.toNat 0)) fun m4 => cv_ (fj_run d m4 h [(4, x1), (4, 13), (0, x2)])
    (fun h1 =>
    some (.inl none, h1))
    (fun q3 h1 => tx_ q3 h1) := by
  rw [fj_run_eq d (by decide) h [(4, x0), (4, x1), (0, x2), (4, x3)] (Nat.le_of_ble_eq_true (by rw [nl_416]; rfl))]
  show gG (fj_run d) 416 0 [(0, (4, x0)), (1, (4, x1)), (2, (0, x2)), (3, (4, x3))] [] h = _
  exact
    have D : fk_D 416 [(0, none, .aload_n 1, 1, 0, 0, 0), (1, none, .getstatic 11, 3, 4, 13, 0), (4, none, .iload_n 2, 1, 0, 0, 0), (5, none, .invokevirtual 17, 3, 2, 494, 0), (8, none, .return_, 1, 0, 0, 0)] := fq_of2 cd_416 ow_416 cl_416 rfl (pc := 0) (by decide +kernel)
    j_aldn (pc := 0) D rfl rfl rfl fun D =>
    j_gs (pc := 1) D rfl fun D =>
    j_ildn (pc := 4) D rfl rfl rfl fun D =>
    j_ivuv (pc := 5) (dd := 494) (a := [(4, 13), (0, x2)]) (rest := []) H.2.1 D rfl rfl rfl rfl rfl (fun m4 h1 e1 D =>
      have T := fj_run_ok _ _ _ _ _ _ H.1 e1
      have hk := cls_st H.1 T.2 hk hk0
      have H := shp_st H T
      j_vret D rt_416) (fun m4 q3 h1 e1 =>
      j_tx (hx_416 _))
/-! 417 StatuteHouse.fault(I)I -/
theorem cd_417 : fi_code 417 = prog_1_method_66_code := rfl
theorem hx_417 : ∀ pc, fi_hat 417 pc = none := fun pc => by unfold fi_hat; rw [show fi_hh 417 = [] from rfl]; rfl
theorem rt_417 : fi_ret 417 = some .int := rfl
theorem nl_417 : fi_nl 417 = 2 := rfl
theorem ow_417 : fi_ow 417 = 0 := rfl
theorem cl_417 : fj_cutT.getD 417 [] = [] := rfl
theorem m_417 (d : Nat) (x1 : Int) {h : fi_H} (H : Shp h) : fj_run (d + 1) 417 h [(4, 303), (0, x1)] =
  if x1 = 0 then
    some (.inl (some (0, h 267 303 0)), h)
  else
    if x1 = 1 then
      some (.inl (some (0, h 268 303 0)), h)
    else
      some (.inl (some (0, (-1))), h) := by
  rw [fj_run_eq d (by decide) h [(4, 303), (0, x1)] (Nat.le_of_ble_eq_true (by rw [nl_417]; rfl))]
  show gG (fj_run d) 417 0 [(0, (4, 303)), (1, (0, x1))] [] h = _
  exact
    have D : fk_D 417 [(0, none, .iload_n 1, 1, 0, 0, 0), (1, none, .ifCond .ne 10, 3, 11, 0, 0), (4, none, .aload_n 0, 1, 0, 0, 0), (5, none, .getfield 451, 3, 267, 100, 10), (8, none, .goto 16, 3, 24, 0, 0)] := fq_of2 cd_417 ow_417 cl_417 rfl (pc := 0) (by decide +kernel)
    j_ildn (pc := 0) D rfl rfl rfl fun D =>
    j_ifne (pc := 1) D rfl (fun q D =>
      j_aldn (pc := 4) D rfl rfl rfl fun D =>
      j_gf (pc := 5) (a := 303) D rfl rfl (by decide) rfl (s0_303 H) rfl fun D =>
      j_goto (pc := 8) D rfl <|
      have D : fk_D 417 [(24, none, .ireturn, 1, 0, 0, 0)] := fq_of2 cd_417 ow_417 cl_417 rfl (pc := 24) (by decide +kernel)
      j_iret D rt_417) (fun q =>
      have D : fk_D 417 [(11, none, .iload_n 1, 1, 0, 0, 0), (12, none, .iconst 1, 1, 0, 1, 0), (13, none, .if_icmp .ne 10, 3, 23, 0, 0), (16, none, .aload_n 0, 1, 0, 0, 0), (17, none, .getfield 454, 3, 268, 100, 10), (20, none, .goto 4, 3, 24, 0, 0)] := fq_of2 cd_417 ow_417 cl_417 rfl (pc := 11) (by decide +kernel)
      j_ildn (pc := 11) D rfl rfl rfl fun D =>
      j_ic (pc := 12) D rfl fun D =>
      j_ine (pc := 13) D rfl (fun q D =>
        j_aldn (pc := 16) D rfl rfl rfl fun D =>
        j_gf (pc := 17) (a := 303) D rfl rfl (by decide) rfl (s0_303 H) rfl fun D =>
        j_goto (pc := 20) D rfl <|
        have D : fk_D 417 [(24, none, .ireturn, 1, 0, 0, 0)] := fq_of2 cd_417 ow_417 cl_417 rfl (pc := 24) (by decide +kernel)
        j_iret D rt_417) (fun q =>
        have D : fk_D 417 [(23, none, .iconst (-1), 1, 0, (-1), 0), (24, none, .ireturn, 1, 0, 0, 0)] := fq_of2 cd_417 ow_417 cl_417 rfl (pc := 23) (by decide +kernel)
        j_ic (pc := 23) D rfl fun D =>
        j_iret D rt_417))
/-! 418 StatuteHouse.name(II)I -/
theorem cd_418 : fi_code 418 = prog_1_method_67_code := rfl
theorem hx_418 : ∀ pc, fi_hat 418 pc = none := fun pc => by unfold fi_hat; rw [show fi_hh 418 = [] from rfl]; rfl
theorem rt_418 : fi_ret 418 = some .int := rfl
theorem nl_418 : fi_nl 418 = 4 := rfl
theorem ow_418 : fi_ow 418 = 0 := rfl
theorem cl_418 : fj_cutT.getD 418 [] = [] := rfl
theorem m_418 (d : Nat) (x1 x2 : Int) {h : fi_H} (H : Shp h) : fj_run (d + 1) 418 h [(4, 303), (0, x1), (0, x2)] =
  ca_ (fj_run d 3 h [(1, wI x1), (1, 0), (1, wJ ((wI (h 215 303 0)) - 1))]) 0
    (fun v2 h1 =>
    if v2 = 0 then
      some (.inl (some (0, (-1))), h1)
    else
      if 0 ≤ x1 ∧ x1 < 40 then
      if x2 = 0 then
        if h1 0 (h1 12 320 x1.toNat).toNat 0 = 124 then
        if h1 322 (h1 12 320 x1.toNat).toNat 0 = 0 then
          if h1 323 (h1 12 320 x1.toNat).toNat 0 = 0 then
            if h1 330 (h1 12 320 x1.toNat).toNat 0 = 0 then
              some (.inl (some (0, 0)), h1)
            else
              some (.inl (some (0, 3)), h1)
          else
            some (.inl (some (0, 2)), h1)
        else
          some (.inl (some (0, 1)), h1)
        else none
      else if x2 = 1 then
        if h1 0 (h1 12 320 x1.toNat).toNat 0 = 124 then
        dv_ (fi_vt 111 (h1 0 (h1 324 (h1 12 320 x1.toNat).toNat 0).toNat 0)) fun m10 => ca_ (fj_run d m10 h1 [(4, h1 324 (h1 12 320 x1.toNat).toNat 0)]) 0
          (fun v8 h7 =>
          some (.inl (some (0, v8)), h7))
          (fun q9 h7 => tx_ q9 h7)
        else none
      else if x2 = 2 then
        if h1 0 (h1 12 320 x1.toNat).toNat 0 = 124 then
        dv_ (fi_vt 173 (h1 0 (h1 325 (h1 12 320 x1.toNat).toNat 0).toNat 0)) fun m15 => ca_ (fj_run d m15 h1 [(4, h1 325 (h1 12 320 x1.toNat).toNat 0)]) 0
          (fun v13 h12 =>
          some (.inl (some (0, v13)), h12))
          (fun q14 h12 => tx_ q14 h12)
        else none
      else if x2 = 3 then
        if h1 0 (h1 12 320 x1.toNat).toNat 0 = 124 then
        dv_ (fi_vt 174 (h1 0 (h1 321 (h1 12 320 x1.toNat).toNat 0).toNat 0)) fun m20 => ca_ (fj_run d m20 h1 [(4, h1 321 (h1 12 320 x1.toNat).toNat 0)]) 0
          (fun v18 h17 =>
          some (.inl (some (0, v18)), h17))
          (fun q19 h17 => tx_ q19 h17)
        else none
      else 
        if h1 0 (h1 12 320 x1.toNat).toNat 0 = 124 then
        dv_ (fi_vt 174 (h1 0 (h1 321 (h1 12 320 x1.toNat).toNat 0).toNat 0)) fun m25 => ca_ (fj_run d m25 h1 [(4, h1 321 (h1 12 320 x1.toNat).toNat 0)]) 0
          (fun v23 h22 =>
          ca_ (fj_run d 3 h22 [(1, wI x2), (1, 10), (1, wJ (9 + (wI v23)))]) 0
            (fun v27 h26 =>
            if v27 = 0 then
              some (.inl (some (0, (-1))), h26)
            else
              dv_ (fi_vt 175 (h26 0 (h26 321 (h1 12 320 x1.toNat).toNat 0).toNat 0)) fun m32 => ca_ (fj_run d m32 h26 [(4, h26 321 (h1 12 320 x1.toNat).toNat 0), (0, wI (x2 - 10))]) 0
                (fun v30 h29 =>
                some (.inl (some (0, v30)), h29))
                (fun q31 h29 => tx_ q31 h29))
            (fun q28 h26 => tx_ q28 h26))
          (fun q24 h22 => tx_ q24 h22)
        else none
      else none)
    (fun q3 h1 => tx_ q3 h1) := by
  rw [fj_run_eq d (by decide) h [(4, 303), (0, x1), (0, x2)] (Nat.le_of_ble_eq_true (by rw [nl_418]; rfl))]
  show gG (fj_run d) 418 0 [(0, (4, 303)), (1, (0, x1)), (2, (0, x2))] [] h = _
  exact
    have D : fk_D 418 [(0, none, .iload_n 1, 1, 0, 0, 0), (1, none, .i2l, 1, 0, 0, 0), (2, none, .lconst 0, 1, 0, 0, 0), (3, none, .aload_n 0, 1, 0, 0, 0), (4, none, .getfield 252, 3, 215, 100, 10), (7, none, .i2l, 1, 0, 0, 0), (8, none, .lconst 1, 1, 0, 0, 0), (9, none, .lsub, 1, 0, 0, 0), (10, none, .invokestatic 46, 3, 3, 3, 1), (13, none, .ifCond .ne 5, 3, 18, 0, 0), (16, none, .iconst (-1), 1, 0, (-1), 0), (17, none, .ireturn, 1, 0, 0, 0)] := fq_of2 cd_418 ow_418 cl_418 rfl (pc := 0) (by decide +kernel)
    j_ildn (pc := 0) D rfl rfl rfl fun D =>
    j_i2l (pc := 1) D rfl fun D =>
    j_c0 (pc := 2) (v := (1, 0)) D rfl rfl (by decide +kernel) fun D =>
    j_aldn (pc := 3) D rfl rfl rfl fun D =>
    j_gf (pc := 4) (a := 303) D rfl rfl (by decide) rfl (s0_303 H) rfl fun D =>
    j_i2l (pc := 7) D rfl fun D =>
    j_c0 (pc := 8) (v := (1, 1)) D rfl rfl (by decide +kernel) fun D =>
    j_lsub (pc := 9) D rfl fun D =>
    j_is (pc := 10) (m := 3) (a := [(1, wI x1), (1, 0), (1, wJ ((wI (h 215 303 0)) - 1))]) (rest := []) D rfl rfl rfl rfl (fun v2 h1 e1 D =>
      have T := fj_run_ok _ _ _ _ _ _ H.1 e1
      have H := shp_st H T
      j_ifne (pc := 13) D rfl (fun q D =>
        j_ic (pc := 16) D rfl fun D =>
        j_iret D rt_418) (fun q =>
        have D : fk_D 418 [(18, none, .aload_n 0, 1, 0, 0, 0), (19, none, .getfield 255, 3, 214, 100, 12), (22, none, .iload_n 1, 1, 0, 0, 0), (23, none, .aaload, 1, 0, 0, 0), (24, none, .astore_n 3, 1, 0, 0, 0), (25, none, .iload_n 2, 1, 0, 0, 0), (26, none, .tableswitch 89 0 3 #[30, 65, 73, 81], 30, 0, 0, 0)] := fq_of3 cd_418 ow_418 cl_418 rfl (pc := 18) (by decide +kernel)
        j_aldn (pc := 18) D rfl rfl rfl fun D =>
        j_gfc (pc := 19) (a := 303) D rfl rfl (by decide) rfl (s0_303 H) rfl (sf_214_303 H) fun D =>
        j_ildn (pc := 22) D rfl rfl rfl fun D =>
        j_al (pc := 23) (a := 320) (e := 12) D rfl rfl rfl (by decide) (s0_320 H) (s1_320 H) ⟨rfl, rfl, rfl⟩ rfl gn fun qb4 D =>
        j_astn (pc := 24) (L' := [(3, (4, h1 12 320 x1.toNat)), (0, (4, 303)), (1, (0, x1)), (2, (0, x2))]) D rfl nl_418 rfl rfl fun D =>
        j_ildn (pc := 25) D rfl rfl rfl fun D =>
        have N : fk_ni (x2) [] := trivial
        j_tc (pc := 26) 0 (t := 56) D N rfl (by decide +kernel) (fun q =>
          have D : fk_D 418 [(56, none, .aload_n 3, 1, 0, 0, 0), (57, none, .getfield 610, 3, 322, (-124), 4), (60, none, .ifCond .eq 7, 3, 67, 0, 0), (63, none, .iconst 1, 1, 0, 1, 0), (64, none, .goto 26, 3, 90, 0, 0)] := fq_of2 cd_418 ow_418 cl_418 rfl (pc := 56) (by decide +kernel)
          j_aldn (pc := 56) D rfl rfl rfl fun D =>
          j_gfo (pc := 57) H.2.1 D rfl rfl rfl rfl fun kc5 D =>
          j_ifeq (pc := 60) D rfl (fun q =>
            have D : fk_D 418 [(67, none, .aload_n 3, 1, 0, 0, 0), (68, none, .getfield 897, 3, 323, 124, 4), (71, none, .ifCond .eq 7, 3, 78, 0, 0), (74, none, .iconst 2, 1, 0, 2, 0), (75, none, .goto 15, 3, 90, 0, 0)] := fq_of2 cd_418 ow_418 cl_418 rfl (pc := 67) (by decide +kernel)
            j_aldn (pc := 67) D rfl rfl rfl fun D =>
            j_gf (pc := 68) (a := (h1 12 320 x1.toNat).toNat) D rfl rfl (nz_cls H.2.1 kc5 (by decide)) rfl kc5 rfl fun D =>
            j_ifeq (pc := 71) D rfl (fun q =>
              have D : fk_D 418 [(78, none, .aload_n 3, 1, 0, 0, 0), (79, none, .getfield 259, 3, 330, 124, 4), (82, none, .ifCond .eq 7, 3, 89, 0, 0), (85, none, .iconst 3, 1, 0, 3, 0), (86, none, .goto 4, 3, 90, 0, 0)] := fq_of2 cd_418 ow_418 cl_418 rfl (pc := 78) (by decide +kernel)
              j_aldn (pc := 78) D rfl rfl rfl fun D =>
              j_gf (pc := 79) (a := (h1 12 320 x1.toNat).toNat) D rfl rfl (nz_cls H.2.1 kc5 (by decide)) rfl kc5 rfl fun D =>
              j_ifeq (pc := 82) D rfl (fun q =>
                have D : fk_D 418 [(89, none, .iconst 0, 1, 0, 0, 0), (90, none, .ireturn, 1, 0, 0, 0)] := fq_of2 cd_418 ow_418 cl_418 rfl (pc := 89) (by decide +kernel)
                j_ic (pc := 89) D rfl fun D =>
                j_iret D rt_418) (fun q D =>
                j_ic (pc := 85) D rfl fun D =>
                j_goto (pc := 86) D rfl <|
                have D : fk_D 418 [(90, none, .ireturn, 1, 0, 0, 0)] := fq_of2 cd_418 ow_418 cl_418 rfl (pc := 90) (by decide +kernel)
                j_iret D rt_418)) (fun q D =>
              j_ic (pc := 74) D rfl fun D =>
              j_goto (pc := 75) D rfl <|
              have D : fk_D 418 [(90, none, .ireturn, 1, 0, 0, 0)] := fq_of2 cd_418 ow_418 cl_418 rfl (pc := 90) (by decide +kernel)
              j_iret D rt_418)) (fun q D =>
            j_ic (pc := 63) D rfl fun D =>
            j_goto (pc := 64) D rfl <|
            have D : fk_D 418 [(90, none, .ireturn, 1, 0, 0, 0)] := fq_of2 cd_418 ow_418 cl_418 rfl (pc := 90) (by decide +kernel)
            j_iret D rt_418)) (fun N =>
          j_tc 1 (t := 91) D N rfl (by decide +kernel) (fun q =>
            have D : fk_D 418 [(91, none, .aload_n 3, 1, 0, 0, 0), (92, none, .getfield 283, 3, 324, (-124), 12), (95, none, .invokevirtual 50, 3, 0, 111, 1), (98, none, .ireturn, 1, 0, 0, 0)] := fq_of2 cd_418 ow_418 cl_418 rfl (pc := 91) (by decide +kernel)
            j_aldn (pc := 91) D rfl rfl rfl fun D =>
            j_gfo (pc := 92) H.2.1 D rfl rfl rfl rfl fun kc6 D =>
            j_ivu (pc := 95) (dd := 111) (a := []) (rest := []) H.2.1 D rfl rfl rfl rfl rfl (fun m10 v8 h7 e1 D =>
              have T := fj_run_ok _ _ _ _ _ _ H.1 e1
              have kc6 := cls_st H.1 T.2 kc6 (by decide)
              have H := shp_st H T
              j_iret D rt_418) (fun m10 q9 h7 e1 =>
              j_tx (hx_418 _))) (fun N =>
            j_tc 2 (t := 99) D N rfl (by decide +kernel) (fun q =>
              have D : fk_D 418 [(99, none, .aload_n 3, 1, 0, 0, 0), (100, none, .getfield 405, 3, 325, (-124), 12), (103, none, .invokevirtual 900, 3, 0, 173, 1), (106, none, .ireturn, 1, 0, 0, 0)] := fq_of2 cd_418 ow_418 cl_418 rfl (pc := 99) (by decide +kernel)
              j_aldn (pc := 99) D rfl rfl rfl fun D =>
              j_gfo (pc := 100) H.2.1 D rfl rfl rfl rfl fun kc11 D =>
              j_ivu (pc := 103) (dd := 173) (a := []) (rest := []) H.2.1 D rfl rfl rfl rfl rfl (fun m15 v13 h12 e1 D =>
                have T := fj_run_ok _ _ _ _ _ _ H.1 e1
                have kc11 := cls_st H.1 T.2 kc11 (by decide)
                have H := shp_st H T
                j_iret D rt_418) (fun m15 q14 h12 e1 =>
                j_tx (hx_418 _))) (fun N =>
              j_tc 3 (t := 107) D N rfl (by decide +kernel) (fun q =>
                have D : fk_D 418 [(107, none, .aload_n 3, 1, 0, 0, 0), (108, none, .getfield 469, 3, 321, (-124), 12), (111, none, .invokevirtual 901, 3, 0, 174, 1), (114, none, .ireturn, 1, 0, 0, 0)] := fq_of2 cd_418 ow_418 cl_418 rfl (pc := 107) (by decide +kernel)
                j_aldn (pc := 107) D rfl rfl rfl fun D =>
                j_gfo (pc := 108) H.2.1 D rfl rfl rfl rfl fun kc16 D =>
                j_ivu (pc := 111) (dd := 174) (a := []) (rest := []) H.2.1 D rfl rfl rfl rfl rfl (fun m20 v18 h17 e1 D =>
                  have T := fj_run_ok _ _ _ _ _ _ H.1 e1
                  have kc16 := cls_st H.1 T.2 kc16 (by decide)
                  have H := shp_st H T
                  j_iret D rt_418) (fun m20 q19 h17 e1 =>
                  j_tx (hx_418 _))) (fun N =>
                j_td (t := 115) D N rfl (by decide +kernel) (by decide +kernel) <|
                have D : fk_D 418 [(115, none, .iload_n 2, 1, 0, 0, 0), (116, none, .i2l, 1, 0, 0, 0), (117, none, .ldc2_w 906, 3, 1, 10, 0), (120, none, .ldc2_w 908, 3, 1, 9, 0), (123, none, .aload_n 3, 1, 0, 0, 0), (124, none, .getfield 469, 3, 321, (-124), 12), (127, none, .invokevirtual 901, 3, 0, 174, 1), (130, none, .i2l, 1, 0, 0, 0), (131, none, .ladd, 1, 0, 0, 0), (132, none, .invokestatic 46, 3, 3, 3, 1), (135, none, .ifCond .eq 17, 3, 152, 0, 0), (138, none, .aload_n 3, 1, 0, 0, 0), (139, none, .getfield 469, 3, 321, 124, 12), (142, none, .iload_n 2, 1, 0, 0, 0), (143, none, .bipush 10, 2, 0, 10, 0), (145, none, .isub, 1, 0, 0, 0), (146, none, .invokevirtual 910, 3, 1, 175, 1), (149, none, .goto 4, 3, 153, 0, 0)] := fq_of2 cd_418 ow_418 cl_418 rfl (pc := 115) (by decide +kernel)
                j_ildn (pc := 115) D rfl rfl rfl fun D =>
                j_i2l (pc := 116) D rfl fun D =>
                j_ldc2 (pc := 117) D rfl fun D =>
                j_ldc2 (pc := 120) D rfl fun D =>
                j_aldn (pc := 123) D rfl rfl rfl fun D =>
                j_gfo (pc := 124) H.2.1 D rfl rfl rfl rfl fun kc21 D =>
                j_ivu (pc := 127) (dd := 174) (a := []) (rest := [(1, 9), (1, 10), (1, wI x2)]) H.2.1 D rfl rfl rfl rfl rfl (fun m25 v23 h22 e1 D =>
                  have T := fj_run_ok _ _ _ _ _ _ H.1 e1
                  have kc21 := cls_st H.1 T.2 kc21 (by decide)
                  have H := shp_st H T
                  j_i2l (pc := 130) D rfl fun D =>
                  j_ladd (pc := 131) D rfl fun D =>
                  j_is (pc := 132) (m := 3) (a := [(1, wI x2), (1, 10), (1, wJ (9 + (wI v23)))]) (rest := []) D rfl rfl rfl rfl (fun v27 h26 e1 D =>
                    have T := fj_run_ok _ _ _ _ _ _ H.1 e1
                    have kc21 := cls_st H.1 T.2 kc21 (by decide)
                    have H := shp_st H T
                    j_ifeq (pc := 135) D rfl (fun q =>
                      have D : fk_D 418 [(152, none, .iconst (-1), 1, 0, (-1), 0), (153, none, .ireturn, 1, 0, 0, 0)] := fq_of2 cd_418 ow_418 cl_418 rfl (pc := 152) (by decide +kernel)
                      j_ic (pc := 152) D rfl fun D =>
                      j_iret D rt_418) (fun q D =>
                      j_aldn (pc := 138) D rfl rfl rfl fun D =>
                      j_gf (pc := 139) (a := (h1 12 320 x1.toNat).toNat) D rfl rfl (nz_cls H.2.1 kc21 (by decide)) rfl kc21 rfl fun D =>
                      j_ildn (pc := 142) D rfl rfl rfl fun D =>
                      j_bp (pc := 143) D rfl fun D =>
                      j_isub (pc := 145) D rfl fun D =>
                      j_ivu (pc := 146) (dd := 175) (a := [(0, wI (x2 - 10))]) (rest := []) H.2.1 D rfl rfl rfl rfl rfl (fun m32 v30 h29 e1 D =>
                        have T := fj_run_ok _ _ _ _ _ _ H.1 e1
                        have kc21 := cls_st H.1 T.2 kc21 (by decide)
                        have H := shp_st H T
                        j_goto (pc := 149) D rfl <|
                        have D : fk_D 418 [(153, none, .ireturn, 1, 0, 0, 0)] := fq_of2 cd_418 ow_418 cl_418 rfl (pc := 153) (by decide +kernel)
                        j_iret D rt_418) (fun m32 q31 h29 e1 =>
                        j_tx (hx_418 _)))) (fun q28 h26 e1 =>
                    j_tx (hx_418 _))) (fun m25 q24 h22 e1 =>
                  j_tx (hx_418 _)))))))) (fun q3 h1 e1 =>
      j_tx (hx_418 _))
