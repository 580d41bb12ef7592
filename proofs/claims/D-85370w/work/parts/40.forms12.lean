/-! forms of methods 344..371, printed by gen/forms.py -/
set_option maxRecDepth 100000
/-! 344 StatuteHouse.over(ILStatuteHouse$Kind;)J -/
theorem cd_344 : fi_code 344 = prog_1_method_15_code := rfl
theorem hx_344 : ∀ pc, fi_hat 344 pc = none := fun pc => by unfold fi_hat; rw [show fi_hh 344 = [] from rfl]; rfl
theorem rt_344 : fi_ret 344 = some .long := rfl
theorem nl_344 : fi_nl 344 = 3 := rfl
theorem ow_344 : fi_ow 344 = 0 := rfl
theorem cl_344 : fj_cutT.getD 344 [] = [] := rfl
theorem m_344 (d : Nat) (x1 x2 : Int) {h : fi_H} (H : Shp h) : fj_run (d + 1) 344 h [(4, 303), (0, x1), (4, x2)] =
  if x2 = 3 then
    if 0 ≤ x1 ∧ x1 < 700 then
    some (.inl (some (1, wI (h 10 311 x1.toNat))), h)
    else none
  else
    if 0 ≤ x1 ∧ x1 < 700 then
    some (.inl (some (1, wI (h 10 312 x1.toNat))), h)
    else none := by
  rw [fj_run_eq d (by decide) h [(4, 303), (0, x1), (4, x2)] (Nat.le_of_ble_eq_true (by rw [nl_344]; rfl))]
  show gG (fj_run d) 344 0 [(0, (4, 303)), (1, (0, x1)), (2, (4, x2))] [] h = _
  exact
    have D : fk_D 344 [(0, none, .aload_n 2, 1, 0, 0, 0), (1, none, .getstatic 142, 3, 4, 3, 0), (4, none, .if_acmp .ne 16, 3, 20, 0, 0), (7, none, .aload_n 0, 1, 0, 0, 0), (8, none, .getfield 113, 3, 213, 100, 12), (11, none, .getfield 62, 3, 115, 119, 12), (14, none, .iload_n 1, 1, 0, 0, 0), (15, none, .iaload, 1, 0, 0, 0), (16, none, .i2l, 1, 0, 0, 0), (17, none, .goto 13, 3, 30, 0, 0)] := fq_of2 cd_344 ow_344 cl_344 rfl (pc := 0) (by decide +kernel)
    j_aldn (pc := 0) D rfl rfl rfl fun D =>
    j_gs (pc := 1) D rfl fun D =>
    j_ane (pc := 4) D rfl (fun q D =>
      j_aldn (pc := 7) D rfl rfl rfl fun D =>
      j_gfc (pc := 8) (a := 303) D rfl rfl (by decide) rfl (s0_303 H) rfl (sf_213_303 H) fun D =>
      j_gfc (pc := 11) (a := 309) D rfl rfl (by decide) rfl (s0_309 H) rfl (sf_115_309 H) fun D =>
      j_ildn (pc := 14) D rfl rfl rfl fun D =>
      j_al (pc := 15) (a := 311) (e := 10) D rfl rfl rfl (by decide) (s0_311 H) (s1_311 H) ⟨rfl, rfl, rfl⟩ rfl gn fun qb1 D =>
      j_i2l (pc := 16) D rfl fun D =>
      j_goto (pc := 17) D rfl <|
      have D : fk_D 344 [(30, none, .lreturn, 1, 0, 0, 0)] := fq_of2 cd_344 ow_344 cl_344 rfl (pc := 30) (by decide +kernel)
      j_lret D rt_344) (fun q =>
      have D : fk_D 344 [(20, none, .aload_n 0, 1, 0, 0, 0), (21, none, .getfield 113, 3, 213, 100, 12), (24, none, .getfield 70, 3, 116, 119, 12), (27, none, .iload_n 1, 1, 0, 0, 0), (28, none, .iaload, 1, 0, 0, 0), (29, none, .i2l, 1, 0, 0, 0), (30, none, .lreturn, 1, 0, 0, 0)] := fq_of2 cd_344 ow_344 cl_344 rfl (pc := 20) (by decide +kernel)
      j_aldn (pc := 20) D rfl rfl rfl fun D =>
      j_gfc (pc := 21) (a := 303) D rfl rfl (by decide) rfl (s0_303 H) rfl (sf_213_303 H) fun D =>
      j_gfc (pc := 24) (a := 309) D rfl rfl (by decide) rfl (s0_309 H) rfl (sf_116_309 H) fun D =>
      j_ildn (pc := 27) D rfl rfl rfl fun D =>
      j_al (pc := 28) (a := 312) (e := 10) D rfl rfl rfl (by decide) (s0_312 H) (s1_312 H) ⟨rfl, rfl, rfl⟩ rfl gn fun qb2 D =>
      j_i2l (pc := 29) D rfl fun D =>
      j_lret D rt_344)
/-! 345 StatuteHouse.under(ILStatuteHouse$Kind;)J -/
theorem cd_345 : fi_code 345 = prog_1_method_16_code := rfl
theorem hx_345 : ∀ pc, fi_hat 345 pc = none := fun pc => by unfold fi_hat; rw [show fi_hh 345 = [] from rfl]; rfl
theorem rt_345 : fi_ret 345 = some .long := rfl
theorem nl_345 : fi_nl 345 = 3 := rfl
theorem ow_345 : fi_ow 345 = 0 := rfl
theorem cl_345 : fj_cutT.getD 345 [] = [] := rfl
theorem m_345 (d : Nat) (x1 x2 : Int) {h : fi_H} (H : Shp h) : fj_run (d + 1) 345 h [(4, 303), (0, x1), (4, x2)] =
  if x2 = 3 then
    some (.inl (some (1, 1)), h)
  else
    if 0 ≤ x1 ∧ x1 < 700 then
    some (.inl (some (1, wI (h 10 313 x1.toNat))), h)
    else none := by
  rw [fj_run_eq d (by decide) h [(4, 303), (0, x1), (4, x2)] (Nat.le_of_ble_eq_true (by rw [nl_345]; rfl))]
  show gG (fj_run d) 345 0 [(0, (4, 303)), (1, (0, x1)), (2, (4, x2))] [] h = _
  exact
    have D : fk_D 345 [(0, none, .aload_n 2, 1, 0, 0, 0), (1, none, .getstatic 142, 3, 4, 3, 0), (4, none, .if_acmp .ne 7, 3, 11, 0, 0), (7, none, .lconst 1, 1, 0, 0, 0), (8, none, .goto 13, 3, 21, 0, 0)] := fq_of2 cd_345 ow_345 cl_345 rfl (pc := 0) (by decide +kernel)
    j_aldn (pc := 0) D rfl rfl rfl fun D =>
    j_gs (pc := 1) D rfl fun D =>
    j_ane (pc := 4) D rfl (fun q D =>
      j_c0 (pc := 7) (v := (1, 1)) D rfl rfl (by decide +kernel) fun D =>
      j_goto (pc := 8) D rfl <|
      have D : fk_D 345 [(21, none, .lreturn, 1, 0, 0, 0)] := fq_of2 cd_345 ow_345 cl_345 rfl (pc := 21) (by decide +kernel)
      j_lret D rt_345) (fun q =>
      have D : fk_D 345 [(11, none, .aload_n 0, 1, 0, 0, 0), (12, none, .getfield 113, 3, 213, 100, 12), (15, none, .getfield 73, 3, 117, 119, 12), (18, none, .iload_n 1, 1, 0, 0, 0), (19, none, .iaload, 1, 0, 0, 0), (20, none, .i2l, 1, 0, 0, 0), (21, none, .lreturn, 1, 0, 0, 0)] := fq_of2 cd_345 ow_345 cl_345 rfl (pc := 11) (by decide +kernel)
      j_aldn (pc := 11) D rfl rfl rfl fun D =>
      j_gfc (pc := 12) (a := 303) D rfl rfl (by decide) rfl (s0_303 H) rfl (sf_213_303 H) fun D =>
      j_gfc (pc := 15) (a := 309) D rfl rfl (by decide) rfl (s0_309 H) rfl (sf_117_309 H) fun D =>
      j_ildn (pc := 18) D rfl rfl rfl fun D =>
      j_al (pc := 19) (a := 313) (e := 10) D rfl rfl rfl (by decide) (s0_313 H) (s1_313 H) ⟨rfl, rfl, rfl⟩ rfl gn fun qb1 D =>
      j_i2l (pc := 20) D rfl fun D =>
      j_lret D rt_345)
/-! 346 StatuteHouse.add(ILStatuteHouse$Kind;LStatuteHouse$Kind;I)V -/
theorem cd_346 : fi_code 346 = prog_1_method_19_code := rfl
theorem hx_346 : ∀ pc, fi_hat 346 pc = none := fun pc => by unfold fi_hat; rw [show fi_hh 346 = [] from rfl]; rfl
theorem rt_346 : fi_ret 346 = none := rfl
theorem nl_346 : fi_nl 346 = 6 := rfl
theorem ow_346 : fi_ow 346 = 0 := rfl
theorem cl_346 : fj_cutT.getD 346 [] = [(124, []), (182, []), (267, []), (314, [0, 1, 2, 3, 4, 5]), (366, [])] := rfl
theorem cut_346_124 : fj_cut 346 124 = some [] := by decide +kernel
noncomputable def c_346_124 (d : Nat) (s0 s1 s2 : Int) (h : fi_H) : fk_R := gG (fj_run d) 346 124 [] [(3, s2), (0, s1), (4, s0)] h
theorem cut_346_182 : fj_cut 346 182 = some [] := by decide +kernel
noncomputable def c_346_182 (d : Nat) (h : fi_H) : fk_R := gG (fj_run d) 346 182 [] [] h
theorem cut_346_267 : fj_cut 346 267 = some [] := by decide +kernel
noncomputable def c_346_267 (d : Nat) (h : fi_H) : fk_R := gG (fj_run d) 346 267 [] [] h
theorem cut_346_314 : fj_cut 346 314 = some [0, 1, 2, 3, 4, 5] := by decide +kernel
noncomputable def c_346_314 (d : Nat) (x1 x2 x3 x4 x5 : Int) (h : fi_H) : fk_R := gG (fj_run d) 346 314 [(0, (4, 303)), (1, (0, x1)), (2, (4, x2)), (3, (4, x3)), (4, (0, x4)), (5, (0, x5))] [] h
theorem cut_346_366 : fj_cut 346 366 = some [] := by decide +kernel
noncomputable def c_346_366 (d : Nat) (h : fi_H) : fk_R := gG (fj_run d) 346 366 [] [] h
theorem e_346_124 (d : Nat) (s0 s1 s2 : Int) {h : fi_H} (H : Shp h) : c_346_124 d s0 s1 s2 h =
  dv_ (fi_vt 117 (h 0 s0.toNat 0)) fun m4 => cv_ (fj_run d m4 h [(4, s0), (0, s1), (3, s2)])
    (fun h1 =>
    some (.inl none, h1))
    (fun q3 h1 => tx_ q3 h1) := by
  unfold c_346_124
  exact
    have D : fk_D 346 [(124, some [], .invokevirtual 158, 3, 2, 117, 0), (127, none, .return_, 1, 0, 0, 0)] := fq_of2 cd_346 ow_346 cl_346 rfl (pc := 124) (by decide +kernel)
    j_ivuv (pc := 124) (dd := 117) (a := [(0, s1), (3, s2)]) (rest := []) H.2.1 D rfl rfl rfl rfl rfl (fun m4 h1 e1 D =>
      have T := fj_run_ok _ _ _ _ _ _ H.1 e1
      have H := shp_st H T
      j_vret D rt_346) (fun m4 q3 h1 e1 =>
      j_tx (hx_346 _))
theorem e_346_182 (d : Nat) {h : fi_H} (H : Shp h) : c_346_182 d h =
  some (.inl none, h) := by
  unfold c_346_182
  exact
    have D : fk_D 346 [(182, some [], .return_, 1, 0, 0, 0)] := fq_of2 cd_346 ow_346 cl_346 rfl (pc := 182) (by decide +kernel)
    j_vret D rt_346
theorem e_346_267 (d : Nat) {h : fi_H} (H : Shp h) : c_346_267 d h =
  some (.inl none, h) := by
  unfold c_346_267
  exact
    have D : fk_D 346 [(267, some [], .return_, 1, 0, 0, 0)] := fq_of2 cd_346 ow_346 cl_346 rfl (pc := 267) (by decide +kernel)
    j_vret D rt_346
theorem e_346_314 (d : Nat) (x1 x2 x3 x4 x5 : Int) {h : fi_H} (H : Shp h) : c_346_314 d x1 x2 x3 x4 x5 h =
  ca_ (fj_run d 344 h [(4, 303), (0, x1), (4, x2)]) 1
    (fun v2 h1 =>
    ca_ (fj_run d 345 h1 [(4, 303), (0, x5), (4, x3)]) 1
      (fun v5 h4 =>
      ca_ (fj_run d 344 h4 [(4, 303), (0, x5), (4, x3)]) 1
        (fun v8 h7 =>
        ca_ (fj_run d 345 h7 [(4, 303), (0, x1), (4, x2)]) 1
          (fun v11 h10 =>
          ca_ (fj_run d 345 h10 [(4, 303), (0, x1), (4, x2)]) 1
            (fun v14 h13 =>
            ca_ (fj_run d 345 h13 [(4, 303), (0, x5), (4, x3)]) 1
              (fun v17 h16 =>
              cv_ (fj_run d 354 h16 [(4, 303), (0, x1), (1, wJ ((wJ (v2 * v5)) + (wJ ((wJ ((wI x4) * v8)) * v11)))), (1, wJ (v14 * v17))])
                (fun h19 =>
                c_346_366 d h19)
                (fun q21 h19 => tx_ q21 h19))
              (fun q18 h16 => tx_ q18 h16))
            (fun q15 h13 => tx_ q15 h13))
          (fun q12 h10 => tx_ q12 h10))
        (fun q9 h7 => tx_ q9 h7))
      (fun q6 h4 => tx_ q6 h4))
    (fun q3 h1 => tx_ q3 h1) := by
  unfold c_346_314
  exact
    have D : fk_D 346 [(314, some [0, 1, 2, 3, 4, 5], .aload_n 0, 1, 0, 0, 0), (315, none, .iload_n 1, 1, 0, 0, 0), (316, none, .aload_n 0, 1, 0, 0, 0), (317, none, .iload_n 1, 1, 0, 0, 0), (318, none, .aload_n 2, 1, 0, 0, 0), (319, none, .invokevirtual 150, 3, 2, 114, 2), (322, none, .aload_n 0, 1, 0, 0, 0), (323, none, .iload 5, 2, 0, 0, 0), (325, none, .aload_n 3, 1, 0, 0, 0), (326, none, .invokevirtual 153, 3, 2, 115, 2), (329, none, .lmul, 1, 0, 0, 0), (330, none, .iload 4, 2, 0, 0, 0), (332, none, .i2l, 1, 0, 0, 0), (333, none, .aload_n 0, 1, 0, 0, 0), (334, none, .iload 5, 2, 0, 0, 0), (336, none, .aload_n 3, 1, 0, 0, 0), (337, none, .invokevirtual 150, 3, 2, 114, 2), (340, none, .lmul, 1, 0, 0, 0), (341, none, .aload_n 0, 1, 0, 0, 0), (342, none, .iload_n 1, 1, 0, 0, 0)] := fq_of2 cd_346 ow_346 cl_346 rfl (pc := 314) (by decide +kernel)
    j_aldn (pc := 314) D rfl rfl rfl fun D =>
    j_ildn (pc := 315) D rfl rfl rfl fun D =>
    j_aldn (pc := 316) D rfl rfl rfl fun D =>
    j_ildn (pc := 317) D rfl rfl rfl fun D =>
    j_aldn (pc := 318) D rfl rfl rfl fun D =>
    j_iv (pc := 319) (m := 344) (dd := 114) (a := [(0, x1), (4, x2)]) (rest := [(0, x1), (4, 303)]) D rfl rfl rfl rfl rfl (by decide) (s0_303 H) (by decide +kernel) (fun v2 h1 e1 D =>
      have T := fj_run_ok _ _ _ _ _ _ H.1 e1
      have H := shp_st H T
      j_aldn (pc := 322) D rfl rfl rfl fun D =>
      j_ild (pc := 323) D rfl rfl rfl fun D =>
      j_aldn (pc := 325) D rfl rfl rfl fun D =>
      j_iv (pc := 326) (m := 345) (dd := 115) (a := [(0, x5), (4, x3)]) (rest := [(1, v2), (0, x1), (4, 303)]) D rfl rfl rfl rfl rfl (by decide) (s0_303 H) (by decide +kernel) (fun v5 h4 e1 D =>
        have T := fj_run_ok _ _ _ _ _ _ H.1 e1
        have H := shp_st H T
        j_lmul (pc := 329) D rfl fun D =>
        j_ild (pc := 330) D rfl rfl rfl fun D =>
        j_i2l (pc := 332) D rfl fun D =>
        j_aldn (pc := 333) D rfl rfl rfl fun D =>
        j_ild (pc := 334) D rfl rfl rfl fun D =>
        j_aldn (pc := 336) D rfl rfl rfl fun D =>
        j_iv (pc := 337) (m := 344) (dd := 114) (a := [(0, x5), (4, x3)]) (rest := [(1, wI x4), (1, wJ (v2 * v5)), (0, x1), (4, 303)]) D rfl rfl rfl rfl rfl (by decide) (s0_303 H) (by decide +kernel) (fun v8 h7 e1 D =>
          have T := fj_run_ok _ _ _ _ _ _ H.1 e1
          have H := shp_st H T
          j_lmul (pc := 340) D rfl fun D =>
          j_aldn (pc := 341) D rfl rfl rfl fun D =>
          j_ildn (pc := 342) D rfl rfl rfl fun D =>
          have D : fk_D 346 [(343, none, .aload_n 2, 1, 0, 0, 0), (344, none, .invokevirtual 153, 3, 2, 115, 2), (347, none, .lmul, 1, 0, 0, 0), (348, none, .ladd, 1, 0, 0, 0), (349, none, .aload_n 0, 1, 0, 0, 0), (350, none, .iload_n 1, 1, 0, 0, 0), (351, none, .aload_n 2, 1, 0, 0, 0), (352, none, .invokevirtual 153, 3, 2, 115, 2), (355, none, .aload_n 0, 1, 0, 0, 0), (356, none, .iload 5, 2, 0, 0, 0), (358, none, .aload_n 3, 1, 0, 0, 0), (359, none, .invokevirtual 153, 3, 2, 115, 2), (362, none, .lmul, 1, 0, 0, 0), (363, none, .invokevirtual 178, 3, 3, 122, 0)] := fq_of2 cd_346 ow_346 cl_346 rfl (pc := 343) (by decide +kernel)
          j_aldn (pc := 343) D rfl rfl rfl fun D =>
          j_iv (pc := 344) (m := 345) (dd := 115) (a := [(0, x1), (4, x2)]) (rest := [(1, wJ ((wI x4) * v8)), (1, wJ (v2 * v5)), (0, x1), (4, 303)]) D rfl rfl rfl rfl rfl (by decide) (s0_303 H) (by decide +kernel) (fun v11 h10 e1 D =>
            have T := fj_run_ok _ _ _ _ _ _ H.1 e1
            have H := shp_st H T
            j_lmul (pc := 347) D rfl fun D =>
            j_ladd (pc := 348) D rfl fun D =>
            j_aldn (pc := 349) D rfl rfl rfl fun D =>
            j_ildn (pc := 350) D rfl rfl rfl fun D =>
            j_aldn (pc := 351) D rfl rfl rfl fun D =>
            j_iv (pc := 352) (m := 345) (dd := 115) (a := [(0, x1), (4, x2)]) (rest := [(1, wJ ((wJ (v2 * v5)) + (wJ ((wJ ((wI x4) * v8)) * v11)))), (0, x1), (4, 303)]) D rfl rfl rfl rfl rfl (by decide) (s0_303 H) (by decide +kernel) (fun v14 h13 e1 D =>
              have T := fj_run_ok _ _ _ _ _ _ H.1 e1
              have H := shp_st H T
              j_aldn (pc := 355) D rfl rfl rfl fun D =>
              j_ild (pc := 356) D rfl rfl rfl fun D =>
              j_aldn (pc := 358) D rfl rfl rfl fun D =>
              j_iv (pc := 359) (m := 345) (dd := 115) (a := [(0, x5), (4, x3)]) (rest := [(1, v14), (1, wJ ((wJ (v2 * v5)) + (wJ ((wJ ((wI x4) * v8)) * v11)))), (0, x1), (4, 303)]) D rfl rfl rfl rfl rfl (by decide) (s0_303 H) (by decide +kernel) (fun v17 h16 e1 D =>
                have T := fj_run_ok _ _ _ _ _ _ H.1 e1
                have H := shp_st H T
                j_lmul (pc := 362) D rfl fun D =>
                j_ivv (pc := 363) (m := 354) (dd := 122) (a := [(0, x1), (1, wJ ((wJ (v2 * v5)) + (wJ ((wJ ((wI x4) * v8)) * v11)))), (1, wJ (v14 * v17))]) (rest := []) D rfl rfl rfl rfl rfl (by decide) (s0_303 H) (by decide +kernel) (fun h19 e1 D =>
                  have T := fj_run_ok _ _ _ _ _ _ H.1 e1
                  have H := shp_st H T
                  fk_jump cut_346_366 rfl rfl) (fun q21 h19 e1 =>
                  j_tx (hx_346 _))) (fun q18 h16 e1 =>
                j_tx (hx_346 _))) (fun q15 h13 e1 =>
              j_tx (hx_346 _))) (fun q12 h10 e1 =>
            j_tx (hx_346 _))) (fun q9 h7 e1 =>
          j_tx (hx_346 _))) (fun q6 h4 e1 =>
        j_tx (hx_346 _))) (fun q3 h1 e1 =>
      j_tx (hx_346 _))
theorem e_346_366 (d : Nat) {h : fi_H} (H : Shp h) : c_346_366 d h =
  some (.inl none, h) := by
  unfold c_346_366
  exact
    have D : fk_D 346 [(366, some [], .return_, 1, 0, 0, 0)] := fq_of2 cd_346 ow_346 cl_346 rfl (pc := 366) (by decide +kernel)
    j_vret D rt_346
theorem m_346 (d : Nat) (x1 x2 x3 x4 : Int) {h : fi_H} (H : Shp h) : fj_run (d + 1) 346 h [(4, 303), (0, x1), (4, x2), (4, x3), (0, x4)] =
  dv_ (fi_vt 111 (h 0 x2.toNat 0)) fun m4 => ca_ (fj_run d m4 h [(4, x2)]) 0
    (fun v2 h1 =>
    if v2 = 2 then
      if 0 ≤ x1 ∧ x1 < 700 then
      if 0 ≤ wI (x1 + 1) ∧ wI (x1 + 1) < 700 then
      cv_ (fj_run d 347 h1 [(4, 303), (0, x1), (1, wJ ((h1 11 315 x1.toNat) + (wJ ((wI x4) * (h1 11 315 (wI (x1 + 1)).toNat)))))])
        (fun h7 =>
        some (.inl none, h7))
        (fun q9 h7 => tx_ q9 h7)
      else none
      else none
    else if v2 = 4 then
      if x3 = 7 then
        if 0 ≤ x1 ∧ x1 < 700 then
        if 0 ≤ wI (x1 + 1) ∧ wI (x1 + 1) < 700 then
        ca_ (fj_run d 350 h1 [(4, 306), (0, h1 5 316 x1.toNat), (0, wI (x4 * (h1 9 317 (wI (x1 + 1)).toNat))), (0, wI (x4 * (h1 10 314 (wI (x1 + 1)).toNat)))]) 0
          (fun v13 h12 =>
          cv_ (fj_run d 352 h12 [(4, 303), (0, x1), (0, v13)])
            (fun h15 =>
            c_346_267 d h15)
            (fun q17 h15 => tx_ q17 h15))
          (fun q14 h12 => tx_ q14 h12)
        else none
        else none
      else
        if 0 ≤ x1 ∧ x1 < 700 then
        if 0 ≤ wI (x1 + 1) ∧ wI (x1 + 1) < 700 then
        cv_ (fj_run d 349 h1 [(4, 303), (0, x1), (1, 0), (1, wI (wI ((h1 5 316 x1.toNat) - (h1 5 316 (wI (x1 + 1)).toNat))))])
          (fun h20 =>
          c_346_267 d h20)
          (fun q22 h20 => tx_ q22 h20)
        else none
        else none
    else if v2 = 5 then
      if 0 ≤ x1 ∧ x1 < 700 then
      if 0 ≤ wI (x1 + 1) ∧ wI (x1 + 1) < 700 then
      cv_ (fj_run d 349 h1 [(4, 303), (0, x1), (1, wI (wI ((h1 9 317 x1.toNat) + (wI (x4 * (h1 9 317 (wI (x1 + 1)).toNat)))))), (1, wJ ((wI (h1 10 314 x1.toNat)) + (wI (wI (x4 * (h1 10 314 (wI (x1 + 1)).toNat))))))])
        (fun h25 =>
        c_346_182 d h25)
        (fun q27 h25 => tx_ q27 h25)
      else none
      else none
    else if v2 = 6 then
      if 0 < x4 then
        if 0 ≤ x1 ∧ x1 < 700 then
        if 0 ≤ wI (x1 + 1) ∧ wI (x1 + 1) < 700 then
        dn_ (FP.dadd (fi_D (h1 7 318 x1.toNat)) (fi_D (h1 7 318 (wI (x1 + 1)).toNat))) fun v30 =>
        c_346_124 d 303 x1 v30 h1
        else none
        else none
      else
        if 0 ≤ x1 ∧ x1 < 700 then
        if 0 ≤ wI (x1 + 1) ∧ wI (x1 + 1) < 700 then
        dn_ (FP.dsub (fi_D (h1 7 318 x1.toNat)) (fi_D (h1 7 318 (wI (x1 + 1)).toNat))) fun v33 =>
        c_346_124 d 303 x1 v33 h1
        else none
        else none
    else 
      if x2 = 3 then
        if x3 = x2 then
          if 0 ≤ x1 ∧ x1 < 700 then
          if 0 ≤ wI (x1 + 1) ∧ wI (x1 + 1) < 700 then
          cv_ (fj_run d 353 h1 [(4, 303), (0, x1), (1, wJ ((wI (h1 10 311 x1.toNat)) + (wJ ((wI x4) * (wI (h1 10 311 (wI (x1 + 1)).toNat))))))])
            (fun h36 =>
            c_346_366 d h36)
            (fun q38 h36 => tx_ q38 h36)
          else none
          else none
        else
          c_346_314 d x1 x2 x3 x4 (wI (x1 + 1)) h1
      else
        c_346_314 d x1 x2 x3 x4 (wI (x1 + 1)) h1)
    (fun q3 h1 => tx_ q3 h1) := by
  rw [fj_run_eq d (by decide) h [(4, 303), (0, x1), (4, x2), (4, x3), (0, x4)] (Nat.le_of_ble_eq_true (by rw [nl_346]; rfl))]
  show gG (fj_run d) 346 0 [(0, (4, 303)), (1, (0, x1)), (2, (4, x2)), (3, (4, x3)), (4, (0, x4))] [] h = _
  exact
    have D : fk_D 346 [(0, none, .iload_n 1, 1, 0, 0, 0), (1, none, .iconst 1, 1, 0, 1, 0), (2, none, .iadd, 1, 0, 0, 0), (3, none, .istore 5, 2, 0, 0, 0), (5, none, .aload_n 2, 1, 0, 0, 0), (6, none, .invokevirtual 50, 3, 0, 111, 1), (9, none, .tableswitch 259 2 6 #[35, 259, 174, 119, 65], 35, 0, 0, 0)] := fq_of3 cd_346 ow_346 cl_346 rfl (pc := 0) (by decide +kernel)
    j_ildn (pc := 0) D rfl rfl rfl fun D =>
    j_ic (pc := 1) D rfl fun D =>
    j_iadd (pc := 2) D rfl fun D =>
    j_ist (pc := 3) (L' := [(5, (0, wI (x1 + 1))), (0, (4, 303)), (1, (0, x1)), (2, (4, x2)), (3, (4, x3)), (4, (0, x4))]) D rfl nl_346 rfl rfl fun D =>
    j_aldn (pc := 5) D rfl rfl rfl fun D =>
    j_ivu (pc := 6) (dd := 111) (a := []) (rest := []) H.2.1 D rfl rfl rfl rfl rfl (fun m4 v2 h1 e1 D =>
      have T := fj_run_ok _ _ _ _ _ _ H.1 e1
      have H := shp_st H T
      have N : fk_ni (v2) [] := trivial
      j_tc (pc := 9) 2 (t := 44) D N rfl (by decide +kernel) (fun q =>
        have D : fk_D 346 [(44, none, .aload_n 0, 1, 0, 0, 0), (45, none, .iload_n 1, 1, 0, 0, 0), (46, none, .aload_n 0, 1, 0, 0, 0), (47, none, .getfield 113, 3, 213, 100, 12), (50, none, .getfield 66, 3, 119, 119, 12), (53, none, .iload_n 1, 1, 0, 0, 0), (54, none, .laload, 1, 0, 0, 0), (55, none, .iload 4, 2, 0, 0, 0), (57, none, .i2l, 1, 0, 0, 0), (58, none, .aload_n 0, 1, 0, 0, 0), (59, none, .getfield 113, 3, 213, 100, 12), (62, none, .getfield 66, 3, 119, 119, 12), (65, none, .iload 5, 2, 0, 0, 0), (67, none, .laload, 1, 0, 0, 0), (68, none, .lmul, 1, 0, 0, 0), (69, none, .ladd, 1, 0, 0, 0), (70, none, .invokevirtual 155, 3, 2, 116, 0), (73, none, .return_, 1, 0, 0, 0)] := fq_of2 cd_346 ow_346 cl_346 rfl (pc := 44) (by decide +kernel)
        j_aldn (pc := 44) D rfl rfl rfl fun D =>
        j_ildn (pc := 45) D rfl rfl rfl fun D =>
        j_aldn (pc := 46) D rfl rfl rfl fun D =>
        j_gfc (pc := 47) (a := 303) D rfl rfl (by decide) rfl (s0_303 H) rfl (sf_213_303 H) fun D =>
        j_gfc (pc := 50) (a := 309) D rfl rfl (by decide) rfl (s0_309 H) rfl (sf_119_309 H) fun D =>
        j_ildn (pc := 53) D rfl rfl rfl fun D =>
        j_al (pc := 54) (a := 315) (e := 11) D rfl rfl rfl (by decide) (s0_315 H) (s1_315 H) ⟨rfl, rfl, rfl⟩ rfl gn fun qb5 D =>
        j_ild (pc := 55) D rfl rfl rfl fun D =>
        j_i2l (pc := 57) D rfl fun D =>
        j_aldn (pc := 58) D rfl rfl rfl fun D =>
        j_gfc (pc := 59) (a := 303) D rfl rfl (by decide) rfl (s0_303 H) rfl (sf_213_303 H) fun D =>
        j_gfc (pc := 62) (a := 309) D rfl rfl (by decide) rfl (s0_309 H) rfl (sf_119_309 H) fun D =>
        j_ild (pc := 65) D rfl rfl rfl fun D =>
        j_al (pc := 67) (a := 315) (e := 11) D rfl rfl rfl (by decide) (s0_315 H) (s1_315 H) ⟨rfl, rfl, rfl⟩ rfl gn fun qb6 D =>
        j_lmul (pc := 68) D rfl fun D =>
        j_ladd (pc := 69) D rfl fun D =>
        j_ivv (pc := 70) (m := 347) (dd := 116) (a := [(0, x1), (1, wJ ((h1 11 315 x1.toNat) + (wJ ((wI x4) * (h1 11 315 (wI (x1 + 1)).toNat)))))]) (rest := []) D rfl rfl rfl rfl rfl (by decide) (s0_303 H) (by decide +kernel) (fun h7 e1 D =>
          have T := fj_run_ok _ _ _ _ _ _ H.1 e1
          have H := shp_st H T
          j_vret D rt_346) (fun q9 h7 e1 =>
          j_tx (hx_346 _))) (fun N =>
        j_tc 4 (t := 183) D N rfl (by decide +kernel) (fun q =>
          have D : fk_D 346 [(183, none, .aload_n 3, 1, 0, 0, 0), (184, none, .getstatic 165, 3, 4, 7, 0), (187, none, .if_acmp .ne 53, 3, 240, 0, 0), (190, none, .aload_n 0, 1, 0, 0, 0), (191, none, .iload_n 1, 1, 0, 0, 0), (192, none, .aload_n 0, 1, 0, 0, 0), (193, none, .getfield 16, 3, 209, 100, 12), (196, none, .aload_n 0, 1, 0, 0, 0), (197, none, .getfield 113, 3, 213, 100, 12), (200, none, .getfield 76, 3, 120, 119, 12), (203, none, .iload_n 1, 1, 0, 0, 0), (204, none, .caload, 1, 0, 0, 0), (205, none, .iload 4, 2, 0, 0, 0), (207, none, .aload_n 0, 1, 0, 0, 0), (208, none, .getfield 113, 3, 213, 100, 12), (211, none, .getfield 80, 3, 121, 119, 12), (214, none, .iload 5, 2, 0, 0, 0), (216, none, .saload, 1, 0, 0, 0), (217, none, .imul, 1, 0, 0, 0), (218, none, .iload 4, 2, 0, 0, 0)] := fq_of2 cd_346 ow_346 cl_346 rfl (pc := 183) (by decide +kernel)
          j_aldn (pc := 183) D rfl rfl rfl fun D =>
          j_gs (pc := 184) D rfl fun D =>
          j_ane (pc := 187) D rfl (fun q D =>
            j_aldn (pc := 190) D rfl rfl rfl fun D =>
            j_ildn (pc := 191) D rfl rfl rfl fun D =>
            j_aldn (pc := 192) D rfl rfl rfl fun D =>
            j_gfc (pc := 193) (a := 303) D rfl rfl (by decide) rfl (s0_303 H) rfl (sf_209_303 H) fun D =>
            j_aldn (pc := 196) D rfl rfl rfl fun D =>
            j_gfc (pc := 197) (a := 303) D rfl rfl (by decide) rfl (s0_303 H) rfl (sf_213_303 H) fun D =>
            j_gfc (pc := 200) (a := 309) D rfl rfl (by decide) rfl (s0_309 H) rfl (sf_120_309 H) fun D =>
            j_ildn (pc := 203) D rfl rfl rfl fun D =>
            j_al (pc := 204) (a := 316) (e := 5) D rfl rfl rfl (by decide) (s0_316 H) (s1_316 H) ⟨rfl, rfl, rfl⟩ rfl gn fun qb10 D =>
            j_ild (pc := 205) D rfl rfl rfl fun D =>
            j_aldn (pc := 207) D rfl rfl rfl fun D =>
            j_gfc (pc := 208) (a := 303) D rfl rfl (by decide) rfl (s0_303 H) rfl (sf_213_303 H) fun D =>
            j_gfc (pc := 211) (a := 309) D rfl rfl (by decide) rfl (s0_309 H) rfl (sf_121_309 H) fun D =>
            j_ild (pc := 214) D rfl rfl rfl fun D =>
            j_al (pc := 216) (a := 317) (e := 9) D rfl rfl rfl (by decide) (s0_317 H) (s1_317 H) ⟨rfl, rfl, rfl⟩ rfl gn fun qb11 D =>
            j_imul (pc := 217) D rfl fun D =>
            j_ild (pc := 218) D rfl rfl rfl fun D =>
            have D : fk_D 346 [(220, none, .aload_n 0, 1, 0, 0, 0), (221, none, .getfield 113, 3, 213, 100, 12), (224, none, .getfield 84, 3, 118, 119, 12), (227, none, .iload 5, 2, 0, 0, 0), (229, none, .iaload, 1, 0, 0, 0), (230, none, .imul, 1, 0, 0, 0), (231, none, .invokevirtual 168, 3, 3, 119, 1), (234, none, .invokevirtual 172, 3, 2, 120, 0), (237, none, .goto 30, 3, 267, 0, 0)] := fq_of2 cd_346 ow_346 cl_346 rfl (pc := 220) (by decide +kernel)
            j_aldn (pc := 220) D rfl rfl rfl fun D =>
            j_gfc (pc := 221) (a := 303) D rfl rfl (by decide) rfl (s0_303 H) rfl (sf_213_303 H) fun D =>
            j_gfc (pc := 224) (a := 309) D rfl rfl (by decide) rfl (s0_309 H) rfl (sf_118_309 H) fun D =>
            j_ild (pc := 227) D rfl rfl rfl fun D =>
            j_al (pc := 229) (a := 314) (e := 10) D rfl rfl rfl (by decide) (s0_314 H) (s1_314 H) ⟨rfl, rfl, rfl⟩ rfl (gy qb11) fun q D =>
            j_imul (pc := 230) D rfl fun D =>
            j_iv (pc := 231) (m := 350) (dd := 119) (a := [(0, h1 5 316 x1.toNat), (0, wI (x4 * (h1 9 317 (wI (x1 + 1)).toNat))), (0, wI (x4 * (h1 10 314 (wI (x1 + 1)).toNat)))]) (rest := [(0, x1), (4, 303)]) D rfl rfl rfl rfl rfl (by decide) (s0_306 H) (by decide +kernel) (fun v13 h12 e1 D =>
              have T := fj_run_ok _ _ _ _ _ _ H.1 e1
              have H := shp_st H T
              j_ivv (pc := 234) (m := 352) (dd := 120) (a := [(0, x1), (0, v13)]) (rest := []) D rfl rfl rfl rfl rfl (by decide) (s0_303 H) (by decide +kernel) (fun h15 e1 D =>
                have T := fj_run_ok _ _ _ _ _ _ H.1 e1
                have H := shp_st H T
                j_goto (pc := 237) D rfl <|
                fk_jump cut_346_267 rfl rfl) (fun q17 h15 e1 =>
                j_tx (hx_346 _))) (fun q14 h12 e1 =>
              j_tx (hx_346 _))) (fun q =>
            have D : fk_D 346 [(240, none, .aload_n 0, 1, 0, 0, 0), (241, none, .iload_n 1, 1, 0, 0, 0), (242, none, .lconst 0, 1, 0, 0, 0), (243, none, .aload_n 0, 1, 0, 0, 0), (244, none, .getfield 113, 3, 213, 100, 12), (247, none, .getfield 76, 3, 120, 119, 12), (250, none, .iload_n 1, 1, 0, 0, 0), (251, none, .caload, 1, 0, 0, 0), (252, none, .aload_n 0, 1, 0, 0, 0), (253, none, .getfield 113, 3, 213, 100, 12), (256, none, .getfield 76, 3, 120, 119, 12), (259, none, .iload 5, 2, 0, 0, 0), (261, none, .caload, 1, 0, 0, 0), (262, none, .isub, 1, 0, 0, 0), (263, none, .i2l, 1, 0, 0, 0), (264, none, .invokevirtual 161, 3, 3, 118, 0)] := fq_of2 cd_346 ow_346 cl_346 rfl (pc := 240) (by decide +kernel)
            j_aldn (pc := 240) D rfl rfl rfl fun D =>
            j_ildn (pc := 241) D rfl rfl rfl fun D =>
            j_c0 (pc := 242) (v := (1, 0)) D rfl rfl (by decide +kernel) fun D =>
            j_aldn (pc := 243) D rfl rfl rfl fun D =>
            j_gfc (pc := 244) (a := 303) D rfl rfl (by decide) rfl (s0_303 H) rfl (sf_213_303 H) fun D =>
            j_gfc (pc := 247) (a := 309) D rfl rfl (by decide) rfl (s0_309 H) rfl (sf_120_309 H) fun D =>
            j_ildn (pc := 250) D rfl rfl rfl fun D =>
            j_al (pc := 251) (a := 316) (e := 5) D rfl rfl rfl (by decide) (s0_316 H) (s1_316 H) ⟨rfl, rfl, rfl⟩ rfl gn fun qb18 D =>
            j_aldn (pc := 252) D rfl rfl rfl fun D =>
            j_gfc (pc := 253) (a := 303) D rfl rfl (by decide) rfl (s0_303 H) rfl (sf_213_303 H) fun D =>
            j_gfc (pc := 256) (a := 309) D rfl rfl (by decide) rfl (s0_309 H) rfl (sf_120_309 H) fun D =>
            j_ild (pc := 259) D rfl rfl rfl fun D =>
            j_al (pc := 261) (a := 316) (e := 5) D rfl rfl rfl (by decide) (s0_316 H) (s1_316 H) ⟨rfl, rfl, rfl⟩ rfl gn fun qb19 D =>
            j_isub (pc := 262) D rfl fun D =>
            j_i2l (pc := 263) D rfl fun D =>
            j_ivv (pc := 264) (m := 349) (dd := 118) (a := [(0, x1), (1, 0), (1, wI (wI ((h1 5 316 x1.toNat) - (h1 5 316 (wI (x1 + 1)).toNat))))]) (rest := []) D rfl rfl rfl rfl rfl (by decide) (s0_303 H) (by decide +kernel) (fun h20 e1 D =>
              have T := fj_run_ok _ _ _ _ _ _ H.1 e1
              have H := shp_st H T
              fk_jump cut_346_267 rfl rfl) (fun q22 h20 e1 =>
              j_tx (hx_346 _)))) (fun N =>
          j_tc 5 (t := 128) D N rfl (by decide +kernel) (fun q =>
            have D : fk_D 346 [(128, none, .aload_n 0, 1, 0, 0, 0), (129, none, .iload_n 1, 1, 0, 0, 0), (130, none, .aload_n 0, 1, 0, 0, 0), (131, none, .getfield 113, 3, 213, 100, 12), (134, none, .getfield 80, 3, 121, 119, 12), (137, none, .iload_n 1, 1, 0, 0, 0), (138, none, .saload, 1, 0, 0, 0), (139, none, .iload 4, 2, 0, 0, 0), (141, none, .aload_n 0, 1, 0, 0, 0), (142, none, .getfield 113, 3, 213, 100, 12), (145, none, .getfield 80, 3, 121, 119, 12), (148, none, .iload 5, 2, 0, 0, 0), (150, none, .saload, 1, 0, 0, 0), (151, none, .imul, 1, 0, 0, 0), (152, none, .iadd, 1, 0, 0, 0), (153, none, .i2l, 1, 0, 0, 0), (154, none, .aload_n 0, 1, 0, 0, 0), (155, none, .getfield 113, 3, 213, 100, 12), (158, none, .getfield 84, 3, 118, 119, 12), (161, none, .iload_n 1, 1, 0, 0, 0)] := fq_of2 cd_346 ow_346 cl_346 rfl (pc := 128) (by decide +kernel)
            j_aldn (pc := 128) D rfl rfl rfl fun D =>
            j_ildn (pc := 129) D rfl rfl rfl fun D =>
            j_aldn (pc := 130) D rfl rfl rfl fun D =>
            j_gfc (pc := 131) (a := 303) D rfl rfl (by decide) rfl (s0_303 H) rfl (sf_213_303 H) fun D =>
            j_gfc (pc := 134) (a := 309) D rfl rfl (by decide) rfl (s0_309 H) rfl (sf_121_309 H) fun D =>
            j_ildn (pc := 137) D rfl rfl rfl fun D =>
            j_al (pc := 138) (a := 317) (e := 9) D rfl rfl rfl (by decide) (s0_317 H) (s1_317 H) ⟨rfl, rfl, rfl⟩ rfl gn fun qb23 D =>
            j_ild (pc := 139) D rfl rfl rfl fun D =>
            j_aldn (pc := 141) D rfl rfl rfl fun D =>
            j_gfc (pc := 142) (a := 303) D rfl rfl (by decide) rfl (s0_303 H) rfl (sf_213_303 H) fun D =>
            j_gfc (pc := 145) (a := 309) D rfl rfl (by decide) rfl (s0_309 H) rfl (sf_121_309 H) fun D =>
            j_ild (pc := 148) D rfl rfl rfl fun D =>
            j_al (pc := 150) (a := 317) (e := 9) D rfl rfl rfl (by decide) (s0_317 H) (s1_317 H) ⟨rfl, rfl, rfl⟩ rfl gn fun qb24 D =>
            j_imul (pc := 151) D rfl fun D =>
            j_iadd (pc := 152) D rfl fun D =>
            j_i2l (pc := 153) D rfl fun D =>
            j_aldn (pc := 154) D rfl rfl rfl fun D =>
            j_gfc (pc := 155) (a := 303) D rfl rfl (by decide) rfl (s0_303 H) rfl (sf_213_303 H) fun D =>
            j_gfc (pc := 158) (a := 309) D rfl rfl (by decide) rfl (s0_309 H) rfl (sf_118_309 H) fun D =>
            j_ildn (pc := 161) D rfl rfl rfl fun D =>
            have D : fk_D 346 [(162, none, .iaload, 1, 0, 0, 0), (163, none, .i2l, 1, 0, 0, 0), (164, none, .iload 4, 2, 0, 0, 0), (166, none, .aload_n 0, 1, 0, 0, 0), (167, none, .getfield 113, 3, 213, 100, 12), (170, none, .getfield 84, 3, 118, 119, 12), (173, none, .iload 5, 2, 0, 0, 0), (175, none, .iaload, 1, 0, 0, 0), (176, none, .imul, 1, 0, 0, 0), (177, none, .i2l, 1, 0, 0, 0), (178, none, .ladd, 1, 0, 0, 0), (179, none, .invokevirtual 161, 3, 3, 118, 0)] := fq_of2 cd_346 ow_346 cl_346 rfl (pc := 162) (by decide +kernel)
            j_al (pc := 162) (a := 314) (e := 10) D rfl rfl rfl (by decide) (s0_314 H) (s1_314 H) ⟨rfl, rfl, rfl⟩ rfl (gy qb23) fun q D =>
            j_i2l (pc := 163) D rfl fun D =>
            j_ild (pc := 164) D rfl rfl rfl fun D =>
            j_aldn (pc := 166) D rfl rfl rfl fun D =>
            j_gfc (pc := 167) (a := 303) D rfl rfl (by decide) rfl (s0_303 H) rfl (sf_213_303 H) fun D =>
            j_gfc (pc := 170) (a := 309) D rfl rfl (by decide) rfl (s0_309 H) rfl (sf_118_309 H) fun D =>
            j_ild (pc := 173) D rfl rfl rfl fun D =>
            j_al (pc := 175) (a := 314) (e := 10) D rfl rfl rfl (by decide) (s0_314 H) (s1_314 H) ⟨rfl, rfl, rfl⟩ rfl (gy qb24) fun q D =>
            j_imul (pc := 176) D rfl fun D =>
            j_i2l (pc := 177) D rfl fun D =>
            j_ladd (pc := 178) D rfl fun D =>
            j_ivv (pc := 179) (m := 349) (dd := 118) (a := [(0, x1), (1, wI (wI ((h1 9 317 x1.toNat) + (wI (x4 * (h1 9 317 (wI (x1 + 1)).toNat)))))), (1, wJ ((wI (h1 10 314 x1.toNat)) + (wI (wI (x4 * (h1 10 314 (wI (x1 + 1)).toNat))))))]) (rest := []) D rfl rfl rfl rfl rfl (by decide) (s0_303 H) (by decide +kernel) (fun h25 e1 D =>
              have T := fj_run_ok _ _ _ _ _ _ H.1 e1
              have H := shp_st H T
              fk_jump cut_346_182 rfl rfl) (fun q27 h25 e1 =>
              j_tx (hx_346 _))) (fun N =>
            j_tc 6 (t := 74) D N rfl (by decide +kernel) (fun q =>
              have D : fk_D 346 [(74, none, .aload_n 0, 1, 0, 0, 0), (75, none, .iload_n 1, 1, 0, 0, 0), (76, none, .iload 4, 2, 0, 0, 0), (78, none, .ifCond .le 26, 3, 104, 0, 0), (81, none, .aload_n 0, 1, 0, 0, 0), (82, none, .getfield 113, 3, 213, 100, 12), (85, none, .getfield 87, 3, 122, 119, 12), (88, none, .iload_n 1, 1, 0, 0, 0), (89, none, .daload, 1, 0, 0, 0), (90, none, .aload_n 0, 1, 0, 0, 0), (91, none, .getfield 113, 3, 213, 100, 12), (94, none, .getfield 87, 3, 122, 119, 12), (97, none, .iload 5, 2, 0, 0, 0), (99, none, .daload, 1, 0, 0, 0), (100, none, .dadd, 1, 0, 0, 0), (101, none, .goto 23, 3, 124, 0, 0)] := fq_of2 cd_346 ow_346 cl_346 rfl (pc := 74) (by decide +kernel)
              j_aldn (pc := 74) D rfl rfl rfl fun D =>
              j_ildn (pc := 75) D rfl rfl rfl fun D =>
              j_ild (pc := 76) D rfl rfl rfl fun D =>
              j_ifle (pc := 78) D rfl (fun q D =>
                j_aldn (pc := 81) D rfl rfl rfl fun D =>
                j_gfc (pc := 82) (a := 303) D rfl rfl (by decide) rfl (s0_303 H) rfl (sf_213_303 H) fun D =>
                j_gfc (pc := 85) (a := 309) D rfl rfl (by decide) rfl (s0_309 H) rfl (sf_122_309 H) fun D =>
                j_ildn (pc := 88) D rfl rfl rfl fun D =>
                j_al (pc := 89) (a := 318) (e := 7) D rfl rfl rfl (by decide) (s0_318 H) (s1_318 H) ⟨rfl, rfl, rfl⟩ rfl gn fun qb28 D =>
                j_aldn (pc := 90) D rfl rfl rfl fun D =>
                j_gfc (pc := 91) (a := 303) D rfl rfl (by decide) rfl (s0_303 H) rfl (sf_213_303 H) fun D =>
                j_gfc (pc := 94) (a := 309) D rfl rfl (by decide) rfl (s0_309 H) rfl (sf_122_309 H) fun D =>
                j_ild (pc := 97) D rfl rfl rfl fun D =>
                j_al (pc := 99) (a := 318) (e := 7) D rfl rfl rfl (by decide) (s0_318 H) (s1_318 H) ⟨rfl, rfl, rfl⟩ rfl gn fun qb29 D =>
                j_dop (pc := 100) (u := FP.dadd (fi_D (h1 7 318 x1.toNat)) (fi_D (h1 7 318 (wI (x1 + 1)).toNat))) D rfl rfl rfl fun D v30 =>
                j_goto (pc := 101) D rfl <|
                fk_jump cut_346_124 rfl rfl) (fun q =>
                have D : fk_D 346 [(104, none, .aload_n 0, 1, 0, 0, 0), (105, none, .getfield 113, 3, 213, 100, 12), (108, none, .getfield 87, 3, 122, 119, 12), (111, none, .iload_n 1, 1, 0, 0, 0), (112, none, .daload, 1, 0, 0, 0), (113, none, .aload_n 0, 1, 0, 0, 0), (114, none, .getfield 113, 3, 213, 100, 12), (117, none, .getfield 87, 3, 122, 119, 12), (120, none, .iload 5, 2, 0, 0, 0), (122, none, .daload, 1, 0, 0, 0), (123, none, .dsub, 1, 0, 0, 0)] := fq_of2 cd_346 ow_346 cl_346 rfl (pc := 104) (by decide +kernel)
                j_aldn (pc := 104) D rfl rfl rfl fun D =>
                j_gfc (pc := 105) (a := 303) D rfl rfl (by decide) rfl (s0_303 H) rfl (sf_213_303 H) fun D =>
                j_gfc (pc := 108) (a := 309) D rfl rfl (by decide) rfl (s0_309 H) rfl (sf_122_309 H) fun D =>
                j_ildn (pc := 111) D rfl rfl rfl fun D =>
                j_al (pc := 112) (a := 318) (e := 7) D rfl rfl rfl (by decide) (s0_318 H) (s1_318 H) ⟨rfl, rfl, rfl⟩ rfl gn fun qb31 D =>
                j_aldn (pc := 113) D rfl rfl rfl fun D =>
                j_gfc (pc := 114) (a := 303) D rfl rfl (by decide) rfl (s0_303 H) rfl (sf_213_303 H) fun D =>
                j_gfc (pc := 117) (a := 309) D rfl rfl (by decide) rfl (s0_309 H) rfl (sf_122_309 H) fun D =>
                j_ild (pc := 120) D rfl rfl rfl fun D =>
                j_al (pc := 122) (a := 318) (e := 7) D rfl rfl rfl (by decide) (s0_318 H) (s1_318 H) ⟨rfl, rfl, rfl⟩ rfl gn fun qb32 D =>
                j_dop (pc := 123) (u := FP.dsub (fi_D (h1 7 318 x1.toNat)) (fi_D (h1 7 318 (wI (x1 + 1)).toNat))) D rfl rfl rfl fun D v33 =>
                fk_jump cut_346_124 rfl rfl)) (fun N =>
              j_td (t := 268) D N rfl (by decide +kernel) (by decide +kernel) <|
              have D : fk_D 346 [(268, none, .aload_n 2, 1, 0, 0, 0), (269, none, .getstatic 142, 3, 4, 3, 0), (272, none, .if_acmp .ne 42, 3, 314, 0, 0), (275, none, .aload_n 3, 1, 0, 0, 0), (276, none, .aload_n 2, 1, 0, 0, 0), (277, none, .if_acmp .ne 37, 3, 314, 0, 0), (280, none, .aload_n 0, 1, 0, 0, 0), (281, none, .iload_n 1, 1, 0, 0, 0), (282, none, .aload_n 0, 1, 0, 0, 0), (283, none, .getfield 113, 3, 213, 100, 12), (286, none, .getfield 62, 3, 115, 119, 12), (289, none, .iload_n 1, 1, 0, 0, 0), (290, none, .iaload, 1, 0, 0, 0), (291, none, .i2l, 1, 0, 0, 0), (292, none, .iload 4, 2, 0, 0, 0), (294, none, .i2l, 1, 0, 0, 0), (295, none, .aload_n 0, 1, 0, 0, 0), (296, none, .getfield 113, 3, 213, 100, 12), (299, none, .getfield 62, 3, 115, 119, 12), (302, none, .iload 5, 2, 0, 0, 0)] := fq_of2 cd_346 ow_346 cl_346 rfl (pc := 268) (by decide +kernel)
              j_aldn (pc := 268) D rfl rfl rfl fun D =>
              j_gs (pc := 269) D rfl fun D =>
              j_ane (pc := 272) D rfl (fun q D =>
                j_aldn (pc := 275) D rfl rfl rfl fun D =>
                j_aldn (pc := 276) D rfl rfl rfl fun D =>
                j_ane (pc := 277) D rfl (fun q D =>
                  j_aldn (pc := 280) D rfl rfl rfl fun D =>
                  j_ildn (pc := 281) D rfl rfl rfl fun D =>
                  j_aldn (pc := 282) D rfl rfl rfl fun D =>
                  j_gfc (pc := 283) (a := 303) D rfl rfl (by decide) rfl (s0_303 H) rfl (sf_213_303 H) fun D =>
                  j_gfc (pc := 286) (a := 309) D rfl rfl (by decide) rfl (s0_309 H) rfl (sf_115_309 H) fun D =>
                  j_ildn (pc := 289) D rfl rfl rfl fun D =>
                  j_al (pc := 290) (a := 311) (e := 10) D rfl rfl rfl (by decide) (s0_311 H) (s1_311 H) ⟨rfl, rfl, rfl⟩ rfl gn fun qb34 D =>
                  j_i2l (pc := 291) D rfl fun D =>
                  j_ild (pc := 292) D rfl rfl rfl fun D =>
                  j_i2l (pc := 294) D rfl fun D =>
                  j_aldn (pc := 295) D rfl rfl rfl fun D =>
                  j_gfc (pc := 296) (a := 303) D rfl rfl (by decide) rfl (s0_303 H) rfl (sf_213_303 H) fun D =>
                  j_gfc (pc := 299) (a := 309) D rfl rfl (by decide) rfl (s0_309 H) rfl (sf_115_309 H) fun D =>
                  j_ild (pc := 302) D rfl rfl rfl fun D =>
                  have D : fk_D 346 [(304, none, .iaload, 1, 0, 0, 0), (305, none, .i2l, 1, 0, 0, 0), (306, none, .lmul, 1, 0, 0, 0), (307, none, .ladd, 1, 0, 0, 0), (308, none, .invokevirtual 175, 3, 2, 121, 0), (311, none, .goto 55, 3, 366, 0, 0)] := fq_of2 cd_346 ow_346 cl_346 rfl (pc := 304) (by decide +kernel)
                  j_al (pc := 304) (a := 311) (e := 10) D rfl rfl rfl (by decide) (s0_311 H) (s1_311 H) ⟨rfl, rfl, rfl⟩ rfl gn fun qb35 D =>
                  j_i2l (pc := 305) D rfl fun D =>
                  j_lmul (pc := 306) D rfl fun D =>
                  j_ladd (pc := 307) D rfl fun D =>
                  j_ivv (pc := 308) (m := 353) (dd := 121) (a := [(0, x1), (1, wJ ((wI (h1 10 311 x1.toNat)) + (wJ ((wI x4) * (wI (h1 10 311 (wI (x1 + 1)).toNat))))))]) (rest := []) D rfl rfl rfl rfl rfl (by decide) (s0_303 H) (by decide +kernel) (fun h36 e1 D =>
                    have T := fj_run_ok _ _ _ _ _ _ H.1 e1
                    have H := shp_st H T
                    j_goto (pc := 311) D rfl <|
                    fk_jump cut_346_366 rfl rfl) (fun q38 h36 e1 =>
                    j_tx (hx_346 _))) (fun q =>
                  fk_jump cut_346_314 rfl rfl)) (fun q =>
                fk_jump cut_346_314 rfl rfl)))))) (fun m4 q3 h1 e1 =>
      j_tx (hx_346 _))
/-! 347 StatuteHouse.money(IJ)V -/
theorem cd_347 : fi_code 347 = prog_1_method_10_code := rfl
theorem hx_347 : ∀ pc, fi_hat 347 pc = none := fun pc => by unfold fi_hat; rw [show fi_hh 347 = [] from rfl]; rfl
theorem rt_347 : fi_ret 347 = none := rfl
theorem nl_347 : fi_nl 347 = 4 := rfl
theorem ow_347 : fi_ow 347 = 0 := rfl
theorem cl_347 : fj_cutT.getD 347 [] = [] := rfl
theorem m_347 (d : Nat) (x1 x2 : Int) {h : fi_H} (H : Shp h) : fj_run (d + 1) 347 h [(4, 303), (0, x1), (1, x2)] =
  ca_ (fj_run d 3 h [(1, x2), (1, (-1000000000000)), (1, 1000000000000)]) 0
    (fun v2 h1 =>
    if v2 = 0 then
      ca_ (fj_run d 310 h1 [(4, 303), (0, 8)]) 4
        (fun v5 h4 =>
        if v5 ≠ 0 then
        tx_ v5.toNat h4
        else none)
        (fun q6 h4 => tx_ q6 h4)
    else
      if 0 ≤ x1 ∧ x1 < 700 then
      lt_ (fi_upd h1 11 315 x1.toNat x2) fun h7 =>
      some (.inl none, h7)
      else none)
    (fun q3 h1 => tx_ q3 h1) := by
  rw [fj_run_eq d (by decide) h [(4, 303), (0, x1), (1, x2)] (Nat.le_of_ble_eq_true (by rw [nl_347]; rfl))]
  show gG (fj_run d) 347 0 [(0, (4, 303)), (1, (0, x1)), (2, (1, x2))] [] h = _
  exact
    have D : fk_D 347 [(0, none, .lload_n 2, 1, 0, 0, 0), (1, none, .ldc2_w 117, 3, 1, (-1000000000000), 0), (4, none, .ldc2_w 119, 3, 1, 1000000000000, 0), (7, none, .invokestatic 46, 3, 3, 3, 1), (10, none, .ifCond .ne 10, 3, 20, 0, 0), (13, none, .aload_n 0, 1, 0, 0, 0), (14, none, .bipush 8, 2, 0, 8, 0), (16, none, .invokevirtual 109, 3, 1, 112, 5), (19, none, .athrow, 1, 0, 0, 0)] := fq_of2 cd_347 ow_347 cl_347 rfl (pc := 0) (by decide +kernel)
    j_lldn (pc := 0) D rfl rfl rfl fun D =>
    j_ldc2 (pc := 1) D rfl fun D =>
    j_ldc2 (pc := 4) D rfl fun D =>
    j_is (pc := 7) (m := 3) (a := [(1, x2), (1, (-1000000000000)), (1, 1000000000000)]) (rest := []) D rfl rfl rfl rfl (fun v2 h1 e1 D =>
      have T := fj_run_ok _ _ _ _ _ _ H.1 e1
      have H := shp_st H T
      j_ifne (pc := 10) D rfl (fun q D =>
        j_aldn (pc := 13) D rfl rfl rfl fun D =>
        j_bp (pc := 14) D rfl fun D =>
        j_iv (pc := 16) (m := 310) (dd := 112) (a := [(0, 8)]) (rest := []) D rfl rfl rfl rfl rfl (by decide) (s0_303 H) (by decide +kernel) (fun v5 h4 e1 D =>
          have T := fj_run_ok _ _ _ _ _ _ H.1 e1
          have H := shp_st H T
          j_at (pc := 19) D gn <|
          j_tx (hx_347 _)) (fun q6 h4 e1 =>
          j_tx (hx_347 _))) (fun q =>
        have D : fk_D 347 [(20, none, .aload_n 0, 1, 0, 0, 0), (21, none, .getfield 113, 3, 213, 100, 12), (24, none, .getfield 66, 3, 119, 119, 12), (27, none, .iload_n 1, 1, 0, 0, 0), (28, none, .lload_n 2, 1, 0, 0, 0), (29, none, .lastore, 1, 0, 0, 0), (30, none, .return_, 1, 0, 0, 0)] := fq_of2 cd_347 ow_347 cl_347 rfl (pc := 20) (by decide +kernel)
        j_aldn (pc := 20) D rfl rfl rfl fun D =>
        j_gfc (pc := 21) (a := 303) D rfl rfl (by decide) rfl (s0_303 H) rfl (sf_213_303 H) fun D =>
        j_gfc (pc := 24) (a := 309) D rfl rfl (by decide) rfl (s0_309 H) rfl (sf_119_309 H) fun D =>
        j_ildn (pc := 27) D rfl rfl rfl fun D =>
        j_lldn (pc := 28) D rfl rfl rfl fun D =>
        j_as (pc := 29) (a := 315) (e := 11) D rfl ⟨rfl, rfl⟩ rfl (by decide) (s0_315 H) (s1_315 H) ⟨rfl, rfl, rfl⟩ rfl gn (gy rfl) fun h7 eh7 S qb8 D =>
        have T := fj_hs_ok H.1 S
        have H := shp_st H T
        j_vret D rt_347)) (fun q3 h1 e1 =>
      j_tx (hx_347 _))
/-! 348 StatuteHouse.real(ID)V -/
theorem cd_348 : fi_code 348 = prog_1_method_13_code := rfl
theorem hx_348 : ∀ pc, fi_hat 348 pc = none := fun pc => by unfold fi_hat; rw [show fi_hh 348 = [] from rfl]; rfl
theorem rt_348 : fi_ret 348 = none := rfl
theorem nl_348 : fi_nl 348 = 4 := rfl
theorem ow_348 : fi_ow 348 = 0 := rfl
theorem cl_348 : fj_cutT.getD 348 [] = [(22, [0])] := rfl
theorem cut_348_22 : fj_cut 348 22 = some [0] := by decide +kernel
noncomputable def c_348_22 (d : Nat) (h : fi_H) : fk_R := gG (fj_run d) 348 22 [(0, (4, 303))] [] h
theorem e_348_22 (d : Nat) {h : fi_H} (H : Shp h) : c_348_22 d h =
  ca_ (fj_run d 310 h [(4, 303), (0, 9)]) 4
    (fun v2 h1 =>
    if v2 ≠ 0 then
    tx_ v2.toNat h1
    else none)
    (fun q3 h1 => tx_ q3 h1) := by
  unfold c_348_22
  exact
    have D : fk_D 348 [(22, some [0], .aload_n 0, 1, 0, 0, 0), (23, none, .bipush 9, 2, 0, 9, 0), (25, none, .invokevirtual 109, 3, 1, 112, 5), (28, none, .athrow, 1, 0, 0, 0)] := fq_of2 cd_348 ow_348 cl_348 rfl (pc := 22) (by decide +kernel)
    j_aldn (pc := 22) D rfl rfl rfl fun D =>
    j_bp (pc := 23) D rfl fun D =>
    j_iv (pc := 25) (m := 310) (dd := 112) (a := [(0, 9)]) (rest := []) D rfl rfl rfl rfl rfl (by decide) (s0_303 H) (by decide +kernel) (fun v2 h1 e1 D =>
      have T := fj_run_ok _ _ _ _ _ _ H.1 e1
      have H := shp_st H T
      j_at (pc := 28) D gn <|
      j_tx (hx_348 _)) (fun q3 h1 e1 =>
      j_tx (hx_348 _))
theorem m_348 (d : Nat) (x1 x2 : Int) {h : fi_H} (H : Shp h) : fj_run (d + 1) 348 h [(4, 303), (0, x1), (3, x2)] =
  if dl_ x2 x2 = 0 then
    if dl_ x2 9218868437227405312 = 0 then
      c_348_22 d h
    else
      if dl_ x2 18442240474082181120 = 0 then
        c_348_22 d h
      else
        if 0 ≤ x1 ∧ x1 < 700 then
        lt_ (fi_upd h 7 318 x1.toNat x2) fun h1 =>
        some (.inl none, h1)
        else none
  else
    c_348_22 d h := by
  rw [fj_run_eq d (by decide) h [(4, 303), (0, x1), (3, x2)] (Nat.le_of_ble_eq_true (by rw [nl_348]; rfl))]
  show gG (fj_run d) 348 0 [(0, (4, 303)), (1, (0, x1)), (2, (3, x2))] [] h = _
  exact
    have D : fk_D 348 [(0, none, .dload_n 2, 1, 0, 0, 0), (1, none, .dload_n 2, 1, 0, 0, 0), (2, none, .dcmp .l, 1, 0, 0, 0), (3, none, .ifCond .ne 19, 3, 22, 0, 0), (6, none, .dload_n 2, 1, 0, 0, 0), (7, none, .ldc2_w 130, 3, 3, 9218868437227405312, 0), (10, none, .dcmp .l, 1, 0, 0, 0), (11, none, .ifCond .eq 11, 3, 22, 0, 0), (14, none, .dload_n 2, 1, 0, 0, 0), (15, none, .ldc2_w 132, 3, 3, 18442240474082181120, 0), (18, none, .dcmp .l, 1, 0, 0, 0), (19, none, .ifCond .ne 10, 3, 29, 0, 0)] := fq_of2 cd_348 ow_348 cl_348 rfl (pc := 0) (by decide +kernel)
    j_dldn (pc := 0) D rfl rfl rfl fun D =>
    j_dldn (pc := 1) D rfl rfl rfl fun D =>
    j_dcmpl (pc := 2) D rfl fun D =>
    j_ifne (pc := 3) D rfl (fun q D =>
      j_dldn (pc := 6) D rfl rfl rfl fun D =>
      j_ldc2 (pc := 7) D rfl fun D =>
      j_dcmpl (pc := 10) D rfl fun D =>
      j_ifeq (pc := 11) D rfl (fun q =>
        fk_jump cut_348_22 rfl rfl) (fun q D =>
        j_dldn (pc := 14) D rfl rfl rfl fun D =>
        j_ldc2 (pc := 15) D rfl fun D =>
        j_dcmpl (pc := 18) D rfl fun D =>
        j_ifne (pc := 19) D rfl (fun q D =>
          fk_jump cut_348_22 rfl rfl) (fun q =>
          have D : fk_D 348 [(29, none, .aload_n 0, 1, 0, 0, 0), (30, none, .getfield 113, 3, 213, 100, 12), (33, none, .getfield 87, 3, 122, 119, 12), (36, none, .iload_n 1, 1, 0, 0, 0), (37, none, .dload_n 2, 1, 0, 0, 0), (38, none, .dastore, 1, 0, 0, 0), (39, none, .return_, 1, 0, 0, 0)] := fq_of2 cd_348 ow_348 cl_348 rfl (pc := 29) (by decide +kernel)
          j_aldn (pc := 29) D rfl rfl rfl fun D =>
          j_gfc (pc := 30) (a := 303) D rfl rfl (by decide) rfl (s0_303 H) rfl (sf_213_303 H) fun D =>
          j_gfc (pc := 33) (a := 309) D rfl rfl (by decide) rfl (s0_309 H) rfl (sf_122_309 H) fun D =>
          j_ildn (pc := 36) D rfl rfl rfl fun D =>
          j_dldn (pc := 37) D rfl rfl rfl fun D =>
          j_as (pc := 38) (a := 318) (e := 7) D rfl ⟨rfl, rfl⟩ rfl (by decide) (s0_318 H) (s1_318 H) ⟨rfl, rfl, rfl⟩ rfl gn (gy rfl) fun h1 eh1 S qb2 D =>
          have T := fj_hs_ok H.1 S
          have H := shp_st H T
          j_vret D rt_348))) (fun q =>
      fk_jump cut_348_22 rfl rfl)
/-! 349 StatuteHouse.span(IJJ)V -/
theorem cd_349 : fi_code 349 = prog_1_method_12_code := rfl
theorem hx_349 : ∀ pc, fi_hat 349 pc = none := fun pc => by unfold fi_hat; rw [show fi_hh 349 = [] from rfl]; rfl
theorem rt_349 : fi_ret 349 = none := rfl
theorem nl_349 : fi_nl 349 = 6 := rfl
theorem ow_349 : fi_ow 349 = 0 := rfl
theorem cl_349 : fj_cutT.getD 349 [] = [(27, [0])] := rfl
theorem cut_349_27 : fj_cut 349 27 = some [0] := by decide +kernel
noncomputable def c_349_27 (d : Nat) (h : fi_H) : fk_R := gG (fj_run d) 349 27 [(0, (4, 303))] [] h
theorem e_349_27 (d : Nat) {h : fi_H} (H : Shp h) : c_349_27 d h =
  ca_ (fj_run d 310 h [(4, 303), (0, 8)]) 4
    (fun v2 h1 =>
    if v2 ≠ 0 then
    tx_ v2.toNat h1
    else none)
    (fun q3 h1 => tx_ q3 h1) := by
  unfold c_349_27
  exact
    have D : fk_D 349 [(27, some [0], .aload_n 0, 1, 0, 0, 0), (28, none, .bipush 8, 2, 0, 8, 0), (30, none, .invokevirtual 109, 3, 1, 112, 5), (33, none, .athrow, 1, 0, 0, 0)] := fq_of2 cd_349 ow_349 cl_349 rfl (pc := 27) (by decide +kernel)
    j_aldn (pc := 27) D rfl rfl rfl fun D =>
    j_bp (pc := 28) D rfl fun D =>
    j_iv (pc := 30) (m := 310) (dd := 112) (a := [(0, 8)]) (rest := []) D rfl rfl rfl rfl rfl (by decide) (s0_303 H) (by decide +kernel) (fun v2 h1 e1 D =>
      have T := fj_run_ok _ _ _ _ _ _ H.1 e1
      have H := shp_st H T
      j_at (pc := 33) D gn <|
      j_tx (hx_349 _)) (fun q3 h1 e1 =>
      j_tx (hx_349 _))
theorem m_349 (d : Nat) (x1 x2 x4 : Int) {h : fi_H} (H : Shp h) : fj_run (d + 1) 349 h [(4, 303), (0, x1), (1, x2), (1, x4)] =
  ca_ (fj_run d 3 h [(1, x2), (1, (-2400)), (1, 2400)]) 0
    (fun v2 h1 =>
    if v2 = 0 then
      c_349_27 d h1
    else
      ca_ (fj_run d 3 h1 [(1, x4), (1, (-65535)), (1, 65535)]) 0
        (fun v5 h4 =>
        if v5 = 0 then
          c_349_27 d h4
        else
          if 0 ≤ x1 ∧ x1 < 700 then
          lt_ (fi_upd h4 9 317 x1.toNat (wS (wI x2))) fun h7 =>
          lt_ (fi_upd h7 10 314 x1.toNat (wI x4)) fun h9 =>
          some (.inl none, h9)
          else none)
        (fun q6 h4 => tx_ q6 h4))
    (fun q3 h1 => tx_ q3 h1) := by
  rw [fj_run_eq d (by decide) h [(4, 303), (0, x1), (1, x2), (1, x4)] (Nat.le_of_ble_eq_true (by rw [nl_349]; rfl))]
  show gG (fj_run d) 349 0 [(0, (4, 303)), (1, (0, x1)), (2, (1, x2)), (4, (1, x4))] [] h = _
  exact
    have D : fk_D 349 [(0, none, .lload_n 2, 1, 0, 0, 0), (1, none, .ldc2_w 124, 3, 1, (-2400), 0), (4, none, .ldc2_w 126, 3, 1, 2400, 0), (7, none, .invokestatic 46, 3, 3, 3, 1), (10, none, .ifCond .eq 17, 3, 27, 0, 0), (13, none, .lload 4, 2, 0, 0, 0), (15, none, .ldc2_w 128, 3, 1, (-65535), 0), (18, none, .ldc2_w 44, 3, 1, 65535, 0), (21, none, .invokestatic 46, 3, 3, 3, 1), (24, none, .ifCond .ne 10, 3, 34, 0, 0)] := fq_of2 cd_349 ow_349 cl_349 rfl (pc := 0) (by decide +kernel)
    j_lldn (pc := 0) D rfl rfl rfl fun D =>
    j_ldc2 (pc := 1) D rfl fun D =>
    j_ldc2 (pc := 4) D rfl fun D =>
    j_is (pc := 7) (m := 3) (a := [(1, x2), (1, (-2400)), (1, 2400)]) (rest := []) D rfl rfl rfl rfl (fun v2 h1 e1 D =>
      have T := fj_run_ok _ _ _ _ _ _ H.1 e1
      have H := shp_st H T
      j_ifeq (pc := 10) D rfl (fun q =>
        fk_jump cut_349_27 rfl rfl) (fun q D =>
        j_lld (pc := 13) D rfl rfl rfl fun D =>
        j_ldc2 (pc := 15) D rfl fun D =>
        j_ldc2 (pc := 18) D rfl fun D =>
        j_is (pc := 21) (m := 3) (a := [(1, x4), (1, (-65535)), (1, 65535)]) (rest := []) D rfl rfl rfl rfl (fun v5 h4 e1 D =>
          have T := fj_run_ok _ _ _ _ _ _ H.1 e1
          have H := shp_st H T
          j_ifne (pc := 24) D rfl (fun q D =>
            fk_jump cut_349_27 rfl rfl) (fun q =>
            have D : fk_D 349 [(34, none, .aload_n 0, 1, 0, 0, 0), (35, none, .getfield 113, 3, 213, 100, 12), (38, none, .getfield 80, 3, 121, 119, 12), (41, none, .iload_n 1, 1, 0, 0, 0), (42, none, .lload_n 2, 1, 0, 0, 0), (43, none, .l2i, 1, 0, 0, 0), (44, none, .i2s, 1, 0, 0, 0), (45, none, .sastore, 1, 0, 0, 0), (46, none, .aload_n 0, 1, 0, 0, 0), (47, none, .getfield 113, 3, 213, 100, 12), (50, none, .getfield 84, 3, 118, 119, 12), (53, none, .iload_n 1, 1, 0, 0, 0), (54, none, .lload 4, 2, 0, 0, 0), (56, none, .l2i, 1, 0, 0, 0), (57, none, .iastore, 1, 0, 0, 0), (58, none, .return_, 1, 0, 0, 0)] := fq_of2 cd_349 ow_349 cl_349 rfl (pc := 34) (by decide +kernel)
            j_aldn (pc := 34) D rfl rfl rfl fun D =>
            j_gfc (pc := 35) (a := 303) D rfl rfl (by decide) rfl (s0_303 H) rfl (sf_213_303 H) fun D =>
            j_gfc (pc := 38) (a := 309) D rfl rfl (by decide) rfl (s0_309 H) rfl (sf_121_309 H) fun D =>
            j_ildn (pc := 41) D rfl rfl rfl fun D =>
            j_lldn (pc := 42) D rfl rfl rfl fun D =>
            j_l2i (pc := 43) D rfl fun D =>
            j_i2s (pc := 44) D rfl fun D =>
            j_as (pc := 45) (a := 317) (e := 9) D rfl ⟨rfl, rfl⟩ rfl (by decide) (s0_317 H) (s1_317 H) ⟨rfl, rfl, rfl⟩ rfl gn (gy (fk_rgS _)) fun h7 eh7 S qb8 D =>
            have T := fj_hs_ok H.1 S
            have H := shp_st H T
            j_aldn (pc := 46) D rfl rfl rfl fun D =>
            j_gfc (pc := 47) (a := 303) D rfl rfl (by decide) rfl (s0_303 H) rfl (sf_213_303 H) fun D =>
            j_gfc (pc := 50) (a := 309) D rfl rfl (by decide) rfl (s0_309 H) rfl (sf_118_309 H) fun D =>
            j_ildn (pc := 53) D rfl rfl rfl fun D =>
            j_lld (pc := 54) D rfl rfl rfl fun D =>
            j_l2i (pc := 56) D rfl fun D =>
            j_as (pc := 57) (a := 314) (e := 10) D rfl ⟨rfl, rfl⟩ rfl (by decide) (s0_314 H) (s1_314 H) ⟨rfl, rfl, rfl⟩ rfl (gy qb8) (gy rfl) fun h9 eh9 S q D =>
            have T := fj_hs_ok H.1 S
            have H := shp_st H T
            j_vret D rt_349)) (fun q6 h4 e1 =>
          j_tx (hx_349 _)))) (fun q3 h1 e1 =>
      j_tx (hx_349 _))
/-! 350 StatuteHouse$Calendar.moved(III)I -/
theorem cd_350 : fi_code 350 = prog_3_method_7_code := rfl
theorem hx_350 : ∀ pc, fi_hat 350 pc = none := fun pc => by unfold fi_hat; rw [show fi_hh 350 = [] from rfl]; rfl
theorem rt_350 : fi_ret 350 = some .int := rfl
theorem nl_350 : fi_nl 350 = 8 := rfl
theorem ow_350 : fi_ow 350 = 1 := rfl
theorem cl_350 : fj_cutT.getD 350 [] = [] := rfl
theorem m_350 (d : Nat) (x0 x1 x2 x3 : Int) {h : fi_H} (H : Shp h) (hk : h 0 x0.toNat 0 = 101) : fj_run (d + 1) 350 h [(4, x0), (0, x1), (0, x2), (0, x3)] =
  cv_ (fj_run d 40 h [(4, x0), (0, x1)])
    (fun h1 =>
    lt_ (wI ((wI ((wI ((wI (12 * (h1 111 x0.toNat 0))) + (h1 112 x0.toNat 0))) - 1)) + x2)) fun y4 =>
    ca_ (fj_run d 351 h1 [(0, y4), (0, 12)]) 0
      (fun v6 h5 =>
      if v6 < 1800 then
        some (.inl (some (0, (-1))), h5)
      else
        if 2200 < v6 then
          some (.inl (some (0, (-1))), h5)
        else
          ca_ (fj_run d 157 h5 [(0, v6), (0, wI ((wI (y4 - (wI (12 * v6)))) + 1))]) 0
            (fun v9 h8 =>
            ca_ (fj_run d 7 h8 [(0, h5 113 x0.toNat 0), (0, v9)]) 0
              (fun v12 h11 =>
              ca_ (fj_run d 159 h11 [(0, v6), (0, wI ((wI (y4 - (wI (12 * v6)))) + 1)), (0, v12)]) 0
                (fun v15 h14 =>
                if wI (v15 + x3) < 0 then
                  some (.inl (some (0, (-1))), h14)
                else
                  if 65535 < wI (v15 + x3) then
                    some (.inl (some (0, (-1))), h14)
                  else
                    some (.inl (some (0, wI (v15 + x3))), h14))
                (fun q16 h14 => tx_ q16 h14))
              (fun q13 h11 => tx_ q13 h11))
            (fun q10 h8 => tx_ q10 h8))
      (fun q7 h5 => tx_ q7 h5))
    (fun q3 h1 => tx_ q3 h1) := by
  rw [fj_run_eq d (by decide) h [(4, x0), (0, x1), (0, x2), (0, x3)] (Nat.le_of_ble_eq_true (by rw [nl_350]; rfl))]
  show gG (fj_run d) 350 0 [(0, (4, x0)), (1, (0, x1)), (2, (0, x2)), (3, (0, x3))] [] h = _
  exact
    have D : fk_D 350 [(0, none, .aload_n 0, 1, 0, 0, 0), (1, none, .iload_n 1, 1, 0, 0, 0), (2, none, .invokevirtual 44, 3, 1, 108, 0), (5, none, .bipush 12, 2, 0, 12, 0), (7, none, .aload_n 0, 1, 0, 0, 0), (8, none, .getfield 22, 3, 111, 101, 10), (11, none, .imul, 1, 0, 0, 0), (12, none, .aload_n 0, 1, 0, 0, 0), (13, none, .getfield 19, 3, 112, 101, 10), (16, none, .iadd, 1, 0, 0, 0), (17, none, .iconst 1, 1, 0, 1, 0), (18, none, .isub, 1, 0, 0, 0), (19, none, .iload_n 2, 1, 0, 0, 0), (20, none, .iadd, 1, 0, 0, 0), (21, none, .istore 4, 2, 0, 0, 0), (23, none, .iload 4, 2, 0, 0, 0), (25, none, .bipush 12, 2, 0, 12, 0), (27, none, .invokestatic 48, 3, 2, 351, 1), (30, none, .istore 5, 2, 0, 0, 0), (32, none, .iload 4, 2, 0, 0, 0)] := fq_of2 cd_350 ow_350 cl_350 rfl (pc := 0) (by decide +kernel)
    j_aldn (pc := 0) D rfl rfl rfl fun D =>
    j_ildn (pc := 1) D rfl rfl rfl fun D =>
    j_ivv (pc := 2) (m := 40) (dd := 108) (a := [(0, x1)]) (rest := []) D rfl rfl rfl rfl rfl (nz_cls H.2.1 hk (by decide)) hk (by decide +kernel) (fun h1 e1 D =>
      have T := fj_run_ok _ _ _ _ _ _ H.1 e1
      have hk := cls_st H.1 T.2 hk (by decide)
      have H := shp_st H T
      j_bp (pc := 5) D rfl fun D =>
      j_aldn (pc := 7) D rfl rfl rfl fun D =>
      j_gf (pc := 8) (a := x0.toNat) D rfl rfl (nz_cls H.2.1 hk (by decide)) rfl hk rfl fun D =>
      j_imul (pc := 11) D rfl fun D =>
      j_aldn (pc := 12) D rfl rfl rfl fun D =>
      j_gf (pc := 13) (a := x0.toNat) D rfl rfl (nz_cls H.2.1 hk (by decide)) rfl hk rfl fun D =>
      j_iadd (pc := 16) D rfl fun D =>
      j_ic (pc := 17) D rfl fun D =>
      j_isub (pc := 18) D rfl fun D =>
      j_ildn (pc := 19) D rfl rfl rfl fun D =>
      j_iadd (pc := 20) D rfl fun D =>
      j_stl (pc := 21) (L' := fun y4 => [(4, (0, y4)), (0, (4, x0)), (1, (0, x1)), (2, (0, x2)), (3, (0, x3))]) D rfl ⟨rfl, rfl, rfl, rfl⟩ nl_350 rfl (fun _ => rfl) fun y4 ey4 D =>
      j_ild (pc := 23) D rfl rfl rfl fun D =>
      j_bp (pc := 25) D rfl fun D =>
      j_is (pc := 27) (m := 351) (a := [(0, y4), (0, 12)]) (rest := []) D rfl rfl rfl rfl (fun v6 h5 e1 D =>
        have T := fj_run_ok _ _ _ _ _ _ H.1 e1
        have hk := cls_st H.1 T.2 hk (by decide)
        have H := shp_st H T
        j_ist (pc := 30) (L' := [(5, (0, v6)), (4, (0, y4)), (0, (4, x0)), (1, (0, x1)), (2, (0, x2)), (3, (0, x3))]) D rfl nl_350 rfl rfl fun D =>
        j_ild (pc := 32) D rfl rfl rfl fun D =>
        have D : fk_D 350 [(34, none, .bipush 12, 2, 0, 12, 0), (36, none, .iload 5, 2, 0, 0, 0), (38, none, .imul, 1, 0, 0, 0), (39, none, .isub, 1, 0, 0, 0), (40, none, .iconst 1, 1, 0, 1, 0), (41, none, .iadd, 1, 0, 0, 0), (42, none, .istore 6, 2, 0, 0, 0), (44, none, .iload 5, 2, 0, 0, 0), (46, none, .sipush 1800, 3, 0, 1800, 0), (49, none, .if_icmp .lt 11, 3, 60, 0, 0), (52, none, .iload 5, 2, 0, 0, 0), (54, none, .sipush 2200, 3, 0, 2200, 0), (57, none, .if_icmp .le 5, 3, 62, 0, 0), (60, none, .iconst (-1), 1, 0, (-1), 0), (61, none, .ireturn, 1, 0, 0, 0)] := fq_of2 cd_350 ow_350 cl_350 rfl (pc := 34) (by decide +kernel)
        j_bp (pc := 34) D rfl fun D =>
        j_ild (pc := 36) D rfl rfl rfl fun D =>
        j_imul (pc := 38) D rfl fun D =>
        j_isub (pc := 39) D rfl fun D =>
        j_ic (pc := 40) D rfl fun D =>
        j_iadd (pc := 41) D rfl fun D =>
        j_ist (pc := 42) (L' := [(6, (0, wI ((wI (y4 - (wI (12 * v6)))) + 1))), (5, (0, v6)), (4, (0, y4)), (0, (4, x0)), (1, (0, x1)), (2, (0, x2)), (3, (0, x3))]) D rfl nl_350 rfl rfl fun D =>
        j_ild (pc := 44) D rfl rfl rfl fun D =>
        j_sp (pc := 46) D rfl fun D =>
        j_ilt (pc := 49) D rfl (fun q =>
          have D : fk_D 350 [(60, none, .iconst (-1), 1, 0, (-1), 0), (61, none, .ireturn, 1, 0, 0, 0)] := fq_of2 cd_350 ow_350 cl_350 rfl (pc := 60) (by decide +kernel)
          j_ic (pc := 60) D rfl fun D =>
          j_iret D rt_350) (fun q D =>
          j_ild (pc := 52) D rfl rfl rfl fun D =>
          j_sp (pc := 54) D rfl fun D =>
          j_ile (pc := 57) D rfl (fun q D =>
            j_ic (pc := 60) D rfl fun D =>
            j_iret D rt_350) (fun q =>
            have D : fk_D 350 [(62, none, .iload 5, 2, 0, 0, 0), (64, none, .iload 6, 2, 0, 0, 0), (66, none, .aload_n 0, 1, 0, 0, 0), (67, none, .getfield 15, 3, 113, 101, 10), (70, none, .iload 5, 2, 0, 0, 0), (72, none, .iload 6, 2, 0, 0, 0), (74, none, .invokestatic 35, 3, 2, 157, 1), (77, none, .invokestatic 53, 3, 2, 7, 1), (80, none, .invokestatic 39, 3, 3, 159, 1), (83, none, .iload_n 3, 1, 0, 0, 0), (84, none, .iadd, 1, 0, 0, 0), (85, none, .istore 7, 2, 0, 0, 0), (87, none, .iload 7, 2, 0, 0, 0), (89, none, .ifCond .lt 10, 3, 99, 0, 0), (92, none, .iload 7, 2, 0, 0, 0), (94, none, .ldc 43, 2, 0, 65535, 0), (96, none, .if_icmp .le 7, 3, 103, 0, 0), (99, none, .iconst (-1), 1, 0, (-1), 0), (100, none, .goto 5, 3, 105, 0, 0)] := fq_of2 cd_350 ow_350 cl_350 rfl (pc := 62) (by decide +kernel)
            j_ild (pc := 62) D rfl rfl rfl fun D =>
            j_ild (pc := 64) D rfl rfl rfl fun D =>
            j_aldn (pc := 66) D rfl rfl rfl fun D =>
            j_gf (pc := 67) (a := x0.toNat) D rfl rfl (nz_cls H.2.1 hk (by decide)) rfl hk rfl fun D =>
            j_ild (pc := 70) D rfl rfl rfl fun D =>
            j_ild (pc := 72) D rfl rfl rfl fun D =>
            j_is (pc := 74) (m := 157) (a := [(0, v6), (0, wI ((wI (y4 - (wI (12 * v6)))) + 1))]) (rest := [(0, h5 113 x0.toNat 0), (0, wI ((wI (y4 - (wI (12 * v6)))) + 1)), (0, v6)]) D rfl rfl rfl rfl (fun v9 h8 e1 D =>
              have T := fj_run_ok _ _ _ _ _ _ H.1 e1
              have hk := cls_st H.1 T.2 hk (by decide)
              have H := shp_st H T
              j_is (pc := 77) (m := 7) (a := [(0, h5 113 x0.toNat 0), (0, v9)]) (rest := [(0, wI ((wI (y4 - (wI (12 * v6)))) + 1)), (0, v6)]) D rfl rfl rfl rfl (fun v12 h11 e1 D =>
                have T := fj_run_ok _ _ _ _ _ _ H.1 e1
                have hk := cls_st H.1 T.2 hk (by decide)
                have H := shp_st H T
                j_is (pc := 80) (m := 159) (a := [(0, v6), (0, wI ((wI (y4 - (wI (12 * v6)))) + 1)), (0, v12)]) (rest := []) D rfl rfl rfl rfl (fun v15 h14 e1 D =>
                  have T := fj_run_ok _ _ _ _ _ _ H.1 e1
                  have hk := cls_st H.1 T.2 hk (by decide)
                  have H := shp_st H T
                  j_ildn (pc := 83) D rfl rfl rfl fun D =>
                  j_iadd (pc := 84) D rfl fun D =>
                  j_ist (pc := 85) (L' := [(7, (0, wI (v15 + x3))), (6, (0, wI ((wI (y4 - (wI (12 * v6)))) + 1))), (5, (0, v6)), (4, (0, y4)), (0, (4, x0)), (1, (0, x1)), (2, (0, x2)), (3, (0, x3))]) D rfl nl_350 rfl rfl fun D =>
                  j_ild (pc := 87) D rfl rfl rfl fun D =>
                  j_iflt (pc := 89) D rfl (fun q =>
                    have D : fk_D 350 [(99, none, .iconst (-1), 1, 0, (-1), 0), (100, none, .goto 5, 3, 105, 0, 0)] := fq_of2 cd_350 ow_350 cl_350 rfl (pc := 99) (by decide +kernel)
                    j_ic (pc := 99) D rfl fun D =>
                    j_goto (pc := 100) D rfl <|
                    have D : fk_D 350 [(105, none, .ireturn, 1, 0, 0, 0)] := fq_of2 cd_350 ow_350 cl_350 rfl (pc := 105) (by decide +kernel)
                    j_iret D rt_350) (fun q D =>
                    j_ild (pc := 92) D rfl rfl rfl fun D =>
                    j_ldc (pc := 94) D rfl fun D =>
                    j_ile (pc := 96) D rfl (fun q D =>
                      j_ic (pc := 99) D rfl fun D =>
                      j_goto (pc := 100) D rfl <|
                      have D : fk_D 350 [(105, none, .ireturn, 1, 0, 0, 0)] := fq_of2 cd_350 ow_350 cl_350 rfl (pc := 105) (by decide +kernel)
                      j_iret D rt_350) (fun q =>
                      have D : fk_D 350 [(103, none, .iload 7, 2, 0, 0, 0), (105, none, .ireturn, 1, 0, 0, 0)] := fq_of2 cd_350 ow_350 cl_350 rfl (pc := 103) (by decide +kernel)
                      j_ild (pc := 103) D rfl rfl rfl fun D =>
                      j_iret D rt_350))) (fun q16 h14 e1 =>
                  j_tx (hx_350 _))) (fun q13 h11 e1 =>
                j_tx (hx_350 _))) (fun q10 h8 e1 =>
              j_tx (hx_350 _))))) (fun q7 h5 e1 =>
        j_tx (hx_350 _))) (fun q3 h1 e1 =>
      j_tx (hx_350 _))
/-! 351 java/lang/Math.floorDiv(II)I -/
theorem cd_351 : fi_code 351 = prog_82_method_47_code := rfl
theorem hx_351 : ∀ pc, fi_hat 351 pc = none := fun pc => by unfold fi_hat; rw [show fi_hh 351 = [] from rfl]; rfl
theorem rt_351 : fi_ret 351 = some .int := rfl
theorem nl_351 : fi_nl 351 = 3 := rfl
theorem ow_351 : fi_ow 351 = 75 := rfl
theorem cl_351 : fj_cutT.getD 351 [] = [] := rfl
theorem m_351 (d : Nat) (x0 x1 : Int) {h : fi_H} (H : Shp h) : fj_run (d + 1) 351 h [(0, x0), (0, x1)] =
  if x1 = 0 then none else
  if ix_ x0 x1 < 0 then
    if wI ((iq_ x0 x1) * x1) = x0 then
      some (.inl (some (0, iq_ x0 x1)), h)
    else
      some (.inl (some (0, wI ((iq_ x0 x1) - 1))), h)
  else
    some (.inl (some (0, iq_ x0 x1)), h) := by
  rw [fj_run_eq d (by decide) h [(0, x0), (0, x1)] (Nat.le_of_ble_eq_true (by rw [nl_351]; rfl))]
  show gG (fj_run d) 351 0 [(0, (0, x0)), (1, (0, x1))] [] h = _
  exact
    have D : fk_D 351 [(0, none, .iload_n 0, 1, 0, 0, 0), (1, none, .iload_n 1, 1, 0, 0, 0), (2, none, .idiv, 1, 0, 0, 0), (3, none, .istore_n 2, 1, 0, 0, 0), (4, none, .iload_n 0, 1, 0, 0, 0), (5, none, .iload_n 1, 1, 0, 0, 0), (6, none, .ixor, 1, 0, 0, 0), (7, none, .ifCond .ge 14, 3, 21, 0, 0), (10, none, .iload_n 2, 1, 0, 0, 0), (11, none, .iload_n 1, 1, 0, 0, 0), (12, none, .imul, 1, 0, 0, 0), (13, none, .iload_n 0, 1, 0, 0, 0), (14, none, .if_icmp .eq 7, 3, 21, 0, 0), (17, none, .iload_n 2, 1, 0, 0, 0), (18, none, .iconst 1, 1, 0, 1, 0), (19, none, .isub, 1, 0, 0, 0), (20, none, .ireturn, 1, 0, 0, 0)] := fq_of2 cd_351 ow_351 cl_351 rfl (pc := 0) (by decide +kernel)
    j_ildn (pc := 0) D rfl rfl rfl fun D =>
    j_ildn (pc := 1) D rfl rfl rfl fun D =>
    j_idiv (pc := 2) D rfl fun q D =>
    j_istn (pc := 3) (L' := [(2, (0, iq_ x0 x1)), (0, (0, x0)), (1, (0, x1))]) D rfl nl_351 rfl rfl fun D =>
    j_ildn (pc := 4) D rfl rfl rfl fun D =>
    j_ildn (pc := 5) D rfl rfl rfl fun D =>
    j_ixor (pc := 6) D rfl fun D =>
    j_ifge (pc := 7) D rfl (fun q D =>
      j_ildn (pc := 10) D rfl rfl rfl fun D =>
      j_ildn (pc := 11) D rfl rfl rfl fun D =>
      j_imul (pc := 12) D rfl fun D =>
      j_ildn (pc := 13) D rfl rfl rfl fun D =>
      j_ieq (pc := 14) D rfl (fun q =>
        have D : fk_D 351 [(21, none, .iload_n 2, 1, 0, 0, 0), (22, none, .ireturn, 1, 0, 0, 0)] := fq_of2 cd_351 ow_351 cl_351 rfl (pc := 21) (by decide +kernel)
        j_ildn (pc := 21) D rfl rfl rfl fun D =>
        j_iret D rt_351) (fun q D =>
        j_ildn (pc := 17) D rfl rfl rfl fun D =>
        j_ic (pc := 18) D rfl fun D =>
        j_isub (pc := 19) D rfl fun D =>
        j_iret D rt_351)) (fun q =>
      have D : fk_D 351 [(21, none, .iload_n 2, 1, 0, 0, 0), (22, none, .ireturn, 1, 0, 0, 0)] := fq_of2 cd_351 ow_351 cl_351 rfl (pc := 21) (by decide +kernel)
      j_ildn (pc := 21) D rfl rfl rfl fun D =>
      j_iret D rt_351)
/-! 352 StatuteHouse.date(II)V -/
theorem cd_352 : fi_code 352 = prog_1_method_11_code := rfl
theorem hx_352 : ∀ pc, fi_hat 352 pc = none := fun pc => by unfold fi_hat; rw [show fi_hh 352 = [] from rfl]; rfl
theorem rt_352 : fi_ret 352 = none := rfl
theorem nl_352 : fi_nl 352 = 3 := rfl
theorem ow_352 : fi_ow 352 = 0 := rfl
theorem cl_352 : fj_cutT.getD 352 [] = [] := rfl
theorem m_352 (d : Nat) (x1 x2 : Int) {h : fi_H} (H : Shp h) : fj_run (d + 1) 352 h [(4, 303), (0, x1), (0, x2)] =
  ca_ (fj_run d 2 h [(4, 303), (0, x2)]) 0
    (fun v2 h1 =>
    if v2 = 0 then
      ca_ (fj_run d 310 h1 [(4, 303), (0, 8)]) 4
        (fun v5 h4 =>
        if v5 ≠ 0 then
        tx_ v5.toNat h4
        else none)
        (fun q6 h4 => tx_ q6 h4)
    else
      if 0 ≤ x1 ∧ x1 < 700 then
      lt_ (fi_upd h1 5 316 x1.toNat (wC x2)) fun h7 =>
      some (.inl none, h7)
      else none)
    (fun q3 h1 => tx_ q3 h1) := by
  rw [fj_run_eq d (by decide) h [(4, 303), (0, x1), (0, x2)] (Nat.le_of_ble_eq_true (by rw [nl_352]; rfl))]
  show gG (fj_run d) 352 0 [(0, (4, 303)), (1, (0, x1)), (2, (0, x2))] [] h = _
  exact
    have D : fk_D 352 [(0, none, .aload_n 0, 1, 0, 0, 0), (1, none, .iload_n 2, 1, 0, 0, 0), (2, none, .invokevirtual 121, 3, 1, 113, 1), (5, none, .ifCond .ne 10, 3, 15, 0, 0), (8, none, .aload_n 0, 1, 0, 0, 0), (9, none, .bipush 8, 2, 0, 8, 0), (11, none, .invokevirtual 109, 3, 1, 112, 5), (14, none, .athrow, 1, 0, 0, 0)] := fq_of2 cd_352 ow_352 cl_352 rfl (pc := 0) (by decide +kernel)
    j_aldn (pc := 0) D rfl rfl rfl fun D =>
    j_ildn (pc := 1) D rfl rfl rfl fun D =>
    j_iv (pc := 2) (m := 2) (dd := 113) (a := [(0, x2)]) (rest := []) D rfl rfl rfl rfl rfl (by decide) (s0_303 H) (by decide +kernel) (fun v2 h1 e1 D =>
      have T := fj_run_ok _ _ _ _ _ _ H.1 e1
      have H := shp_st H T
      j_ifne (pc := 5) D rfl (fun q D =>
        j_aldn (pc := 8) D rfl rfl rfl fun D =>
        j_bp (pc := 9) D rfl fun D =>
        j_iv (pc := 11) (m := 310) (dd := 112) (a := [(0, 8)]) (rest := []) D rfl rfl rfl rfl rfl (by decide) (s0_303 H) (by decide +kernel) (fun v5 h4 e1 D =>
          have T := fj_run_ok _ _ _ _ _ _ H.1 e1
          have H := shp_st H T
          j_at (pc := 14) D gn <|
          j_tx (hx_352 _)) (fun q6 h4 e1 =>
          j_tx (hx_352 _))) (fun q =>
        have D : fk_D 352 [(15, none, .aload_n 0, 1, 0, 0, 0), (16, none, .getfield 113, 3, 213, 100, 12), (19, none, .getfield 76, 3, 120, 119, 12), (22, none, .iload_n 1, 1, 0, 0, 0), (23, none, .iload_n 2, 1, 0, 0, 0), (24, none, .i2c, 1, 0, 0, 0), (25, none, .castore, 1, 0, 0, 0), (26, none, .return_, 1, 0, 0, 0)] := fq_of2 cd_352 ow_352 cl_352 rfl (pc := 15) (by decide +kernel)
        j_aldn (pc := 15) D rfl rfl rfl fun D =>
        j_gfc (pc := 16) (a := 303) D rfl rfl (by decide) rfl (s0_303 H) rfl (sf_213_303 H) fun D =>
        j_gfc (pc := 19) (a := 309) D rfl rfl (by decide) rfl (s0_309 H) rfl (sf_120_309 H) fun D =>
        j_ildn (pc := 22) D rfl rfl rfl fun D =>
        j_ildn (pc := 23) D rfl rfl rfl fun D =>
        j_i2c (pc := 24) D rfl fun D =>
        j_as (pc := 25) (a := 316) (e := 5) D rfl ⟨rfl, rfl⟩ rfl (by decide) (s0_316 H) (s1_316 H) ⟨rfl, rfl, rfl⟩ rfl gn (gy (fk_rgC _)) fun h7 eh7 S qb8 D =>
        have T := fj_hs_ok H.1 S
        have H := shp_st H T
        j_vret D rt_352)) (fun q3 h1 e1 =>
      j_tx (hx_352 _))
/-! 353 StatuteHouse.counted(IJ)V -/
theorem cd_353 : fi_code 353 = prog_1_method_9_code := rfl
theorem hx_353 : ∀ pc, fi_hat 353 pc = none := fun pc => by unfold fi_hat; rw [show fi_hh 353 = [] from rfl]; rfl
theorem rt_353 : fi_ret 353 = none := rfl
theorem nl_353 : fi_nl 353 = 4 := rfl
theorem ow_353 : fi_ow 353 = 0 := rfl
theorem cl_353 : fj_cutT.getD 353 [] = [] := rfl
theorem m_353 (d : Nat) (x1 x2 : Int) {h : fi_H} (H : Shp h) : fj_run (d + 1) 353 h [(4, 303), (0, x1), (1, x2)] =
  if lc_ (wI (wI x2)) x2 = 0 then
    if 0 ≤ x1 ∧ x1 < 700 then
    lt_ (fi_upd h 10 311 x1.toNat (wI x2)) fun h1 =>
    some (.inl none, h1)
    else none
  else
    ca_ (fj_run d 310 h [(4, 303), (0, 8)]) 4
      (fun v4 h3 =>
      if v4 ≠ 0 then
      tx_ v4.toNat h3
      else none)
      (fun q5 h3 => tx_ q5 h3) := by
  rw [fj_run_eq d (by decide) h [(4, 303), (0, x1), (1, x2)] (Nat.le_of_ble_eq_true (by rw [nl_353]; rfl))]
  show gG (fj_run d) 353 0 [(0, (4, 303)), (1, (0, x1)), (2, (1, x2))] [] h = _
  exact
    have D : fk_D 353 [(0, none, .lload_n 2, 1, 0, 0, 0), (1, none, .l2i, 1, 0, 0, 0), (2, none, .i2l, 1, 0, 0, 0), (3, none, .lload_n 2, 1, 0, 0, 0), (4, none, .lcmp, 1, 0, 0, 0), (5, none, .ifCond .eq 10, 3, 15, 0, 0), (8, none, .aload_n 0, 1, 0, 0, 0), (9, none, .bipush 8, 2, 0, 8, 0), (11, none, .invokevirtual 109, 3, 1, 112, 5), (14, none, .athrow, 1, 0, 0, 0)] := fq_of2 cd_353 ow_353 cl_353 rfl (pc := 0) (by decide +kernel)
    j_lldn (pc := 0) D rfl rfl rfl fun D =>
    j_l2i (pc := 1) D rfl fun D =>
    j_i2l (pc := 2) D rfl fun D =>
    j_lldn (pc := 3) D rfl rfl rfl fun D =>
    j_lcmp (pc := 4) D rfl fun D =>
    j_ifeq (pc := 5) D rfl (fun q =>
      have D : fk_D 353 [(15, none, .aload_n 0, 1, 0, 0, 0), (16, none, .getfield 113, 3, 213, 100, 12), (19, none, .getfield 62, 3, 115, 119, 12), (22, none, .iload_n 1, 1, 0, 0, 0), (23, none, .lload_n 2, 1, 0, 0, 0), (24, none, .l2i, 1, 0, 0, 0), (25, none, .iastore, 1, 0, 0, 0), (26, none, .return_, 1, 0, 0, 0)] := fq_of2 cd_353 ow_353 cl_353 rfl (pc := 15) (by decide +kernel)
      j_aldn (pc := 15) D rfl rfl rfl fun D =>
      j_gfc (pc := 16) (a := 303) D rfl rfl (by decide) rfl (s0_303 H) rfl (sf_213_303 H) fun D =>
      j_gfc (pc := 19) (a := 309) D rfl rfl (by decide) rfl (s0_309 H) rfl (sf_115_309 H) fun D =>
      j_ildn (pc := 22) D rfl rfl rfl fun D =>
      j_lldn (pc := 23) D rfl rfl rfl fun D =>
      j_l2i (pc := 24) D rfl fun D =>
      j_as (pc := 25) (a := 311) (e := 10) D rfl ⟨rfl, rfl⟩ rfl (by decide) (s0_311 H) (s1_311 H) ⟨rfl, rfl, rfl⟩ rfl gn (gy rfl) fun h1 eh1 S qb2 D =>
      have T := fj_hs_ok H.1 S
      have H := shp_st H T
      j_vret D rt_353) (fun q D =>
      j_aldn (pc := 8) D rfl rfl rfl fun D =>
      j_bp (pc := 9) D rfl fun D =>
      j_iv (pc := 11) (m := 310) (dd := 112) (a := [(0, 8)]) (rest := []) D rfl rfl rfl rfl rfl (by decide) (s0_303 H) (by decide +kernel) (fun v4 h3 e1 D =>
        have T := fj_run_ok _ _ _ _ _ _ H.1 e1
        have H := shp_st H T
        j_at (pc := 14) D gn <|
        j_tx (hx_353 _)) (fun q5 h3 e1 =>
        j_tx (hx_353 _)))
/-! 354 StatuteHouse.rate(IJJ)V -/
theorem cd_354 : fi_code 354 = prog_1_method_14_code := rfl
theorem hx_354 : ∀ pc, fi_hat 354 pc = none := fun pc => by unfold fi_hat; rw [show fi_hh 354 = [] from rfl]; rfl
theorem rt_354 : fi_ret 354 = none := rfl
theorem nl_354 : fi_nl 354 = 12 := rfl
theorem ow_354 : fi_ow 354 = 0 := rfl
theorem cl_354 : fj_cutT.getD 354 [] = [(12, [0, 1, 2, 4]), (27, [0, 1, 2, 4]), (51, [0, 1, 4, 6]), (74, [0, 1, 8]), (99, [0])] := rfl
theorem cut_354_12 : fj_cut 354 12 = some [0, 1, 2, 4] := by decide +kernel
noncomputable def c_354_12 (d : Nat) (x1 x2 x4 s0 : Int) (h : fi_H) : fk_R := gG (fj_run d) 354 12 [(0, (4, 303)), (1, (0, x1)), (2, (1, x2)), (4, (1, x4))] [(1, s0)] h
theorem cut_354_27 : fj_cut 354 27 = some [0, 1, 2, 4] := by decide +kernel
noncomputable def c_354_27 (d : Nat) (x1 x2 x4 s0 s1 : Int) (h : fi_H) : fk_R := gG (fj_run d) 354 27 [(0, (4, 303)), (1, (0, x1)), (2, (1, x2)), (4, (1, x4))] [(1, s1), (1, s0)] h
theorem cut_354_51 : fj_cut 354 51 = some [0, 1, 4, 6] := by decide +kernel
noncomputable def c_354_51 (d : Nat) (x1 x4 x6 s0 : Int) (h : fi_H) : fk_R := gG (fj_run d) 354 51 [(0, (4, 303)), (1, (0, x1)), (4, (1, x4)), (6, (1, x6))] [(1, s0)] h
theorem cut_354_74 : fj_cut 354 74 = some [0, 1, 8] := by decide +kernel
noncomputable def c_354_74 (d : Nat) (x1 x8 s0 : Int) (h : fi_H) : fk_R := gG (fj_run d) 354 74 [(0, (4, 303)), (1, (0, x1)), (8, (1, x8))] [(1, s0)] h
theorem cut_354_99 : fj_cut 354 99 = some [0] := by decide +kernel
noncomputable def c_354_99 (d : Nat) (h : fi_H) : fk_R := gG (fj_run d) 354 99 [(0, (4, 303))] [] h
theorem e_354_12 (d : Nat) (x1 x2 x4 s0 : Int) {h : fi_H} (H : Shp h) : c_354_12 d x1 x2 x4 s0 h =
  if lc_ x4 0 < 0 then
    c_354_27 d x1 x2 x4 s0 (wJ (-x4)) h
  else
    c_354_27 d x1 x2 x4 s0 x4 h := by
  unfold c_354_12
  exact
    have D : fk_D 354 [(12, some [0, 1, 2, 4], .lload 4, 2, 0, 0, 0), (14, none, .lconst 0, 1, 0, 0, 0), (15, none, .lcmp, 1, 0, 0, 0), (16, none, .ifCond .ge 9, 3, 25, 0, 0), (19, none, .lload 4, 2, 0, 0, 0), (21, none, .lneg, 1, 0, 0, 0), (22, none, .goto 5, 3, 27, 0, 0)] := fq_of2 cd_354 ow_354 cl_354 rfl (pc := 12) (by decide +kernel)
    j_lld (pc := 12) D rfl rfl rfl fun D =>
    j_c0 (pc := 14) (v := (1, 0)) D rfl rfl (by decide +kernel) fun D =>
    j_lcmp (pc := 15) D rfl fun D =>
    j_ifge (pc := 16) D rfl (fun q D =>
      j_lld (pc := 19) D rfl rfl rfl fun D =>
      j_lneg (pc := 21) D rfl fun D =>
      j_goto (pc := 22) D rfl <|
      fk_jump cut_354_27 rfl rfl) (fun q =>
      have D : fk_D 354 [(25, none, .lload 4, 2, 0, 0, 0)] := fq_of2 cd_354 ow_354 cl_354 rfl (pc := 25) (by decide +kernel)
      j_lld (pc := 25) D rfl rfl rfl fun D =>
      fk_jump cut_354_27 rfl rfl)
theorem e_354_27 (d : Nat) (x1 x2 x4 s0 s1 : Int) {h : fi_H} (H : Shp h) : c_354_27 d x1 x2 x4 s0 s1 h =
  ca_ (fj_run d 194 h [(1, s0), (1, s1)]) 1
    (fun v2 h1 =>
    if lc_ x4 0 < 0 then
      if v2 = 0 then none else
      c_354_51 d x1 x4 v2 (lq_ (wJ (-x2)) v2) h1
    else
      if v2 = 0 then none else
      c_354_51 d x1 x4 v2 (lq_ x2 v2) h1)
    (fun q3 h1 => tx_ q3 h1) := by
  unfold c_354_27
  exact
    have D : fk_D 354 [(27, some [0, 1, 2, 4], .invokestatic 134, 3, 2, 194, 2), (30, none, .lstore 6, 2, 0, 0, 0), (32, none, .lload 4, 2, 0, 0, 0), (34, none, .lconst 0, 1, 0, 0, 0), (35, none, .lcmp, 1, 0, 0, 0), (36, none, .ifCond .ge 11, 3, 47, 0, 0), (39, none, .lload_n 2, 1, 0, 0, 0), (40, none, .lneg, 1, 0, 0, 0), (41, none, .lload 6, 2, 0, 0, 0), (43, none, .ldiv, 1, 0, 0, 0), (44, none, .goto 7, 3, 51, 0, 0)] := fq_of2 cd_354 ow_354 cl_354 rfl (pc := 27) (by decide +kernel)
    j_is (pc := 27) (m := 194) (a := [(1, s0), (1, s1)]) (rest := []) D rfl rfl rfl rfl (fun v2 h1 e1 D =>
      have T := fj_run_ok _ _ _ _ _ _ H.1 e1
      have H := shp_st H T
      j_lst (pc := 30) (L' := [(6, (1, v2)), (0, (4, 303)), (1, (0, x1)), (2, (1, x2)), (4, (1, x4))]) D rfl nl_354 rfl rfl fun D =>
      j_lld (pc := 32) D rfl rfl rfl fun D =>
      j_c0 (pc := 34) (v := (1, 0)) D rfl rfl (by decide +kernel) fun D =>
      j_lcmp (pc := 35) D rfl fun D =>
      j_ifge (pc := 36) D rfl (fun q D =>
        j_lldn (pc := 39) D rfl rfl rfl fun D =>
        j_lneg (pc := 40) D rfl fun D =>
        j_lld (pc := 41) D rfl rfl rfl fun D =>
        j_ldiv (pc := 43) D rfl fun q D =>
        j_goto (pc := 44) D rfl <|
        fk_jump cut_354_51 rfl rfl) (fun q =>
        have D : fk_D 354 [(47, none, .lload_n 2, 1, 0, 0, 0), (48, none, .lload 6, 2, 0, 0, 0), (50, none, .ldiv, 1, 0, 0, 0)] := fq_of2 cd_354 ow_354 cl_354 rfl (pc := 47) (by decide +kernel)
        j_lldn (pc := 47) D rfl rfl rfl fun D =>
        j_lld (pc := 48) D rfl rfl rfl fun D =>
        j_ldiv (pc := 50) D rfl fun q D =>
        fk_jump cut_354_51 rfl rfl)) (fun q3 h1 e1 =>
      j_tx (hx_354 _))
theorem e_354_51 (d : Nat) (x1 x4 x6 s0 : Int) {h : fi_H} (H : Shp h) : c_354_51 d x1 x4 x6 s0 h =
  if lc_ x4 0 < 0 then
    if x6 = 0 then none else
    c_354_74 d x1 s0 (lq_ (wJ (-x4)) x6) h
  else
    if x6 = 0 then none else
    c_354_74 d x1 s0 (lq_ x4 x6) h := by
  unfold c_354_51
  exact
    have D : fk_D 354 [(51, some [0, 1, 4, 6], .lstore 8, 2, 0, 0, 0), (53, none, .lload 4, 2, 0, 0, 0), (55, none, .lconst 0, 1, 0, 0, 0), (56, none, .lcmp, 1, 0, 0, 0), (57, none, .ifCond .ge 12, 3, 69, 0, 0), (60, none, .lload 4, 2, 0, 0, 0), (62, none, .lneg, 1, 0, 0, 0), (63, none, .lload 6, 2, 0, 0, 0), (65, none, .ldiv, 1, 0, 0, 0), (66, none, .goto 8, 3, 74, 0, 0)] := fq_of2 cd_354 ow_354 cl_354 rfl (pc := 51) (by decide +kernel)
    j_lst (pc := 51) (L' := [(8, (1, s0)), (0, (4, 303)), (1, (0, x1)), (4, (1, x4)), (6, (1, x6))]) D rfl nl_354 rfl rfl fun D =>
    j_lld (pc := 53) D rfl rfl rfl fun D =>
    j_c0 (pc := 55) (v := (1, 0)) D rfl rfl (by decide +kernel) fun D =>
    j_lcmp (pc := 56) D rfl fun D =>
    j_ifge (pc := 57) D rfl (fun q D =>
      j_lld (pc := 60) D rfl rfl rfl fun D =>
      j_lneg (pc := 62) D rfl fun D =>
      j_lld (pc := 63) D rfl rfl rfl fun D =>
      j_ldiv (pc := 65) D rfl fun q D =>
      j_goto (pc := 66) D rfl <|
      fk_jump cut_354_74 rfl rfl) (fun q =>
      have D : fk_D 354 [(69, none, .lload 4, 2, 0, 0, 0), (71, none, .lload 6, 2, 0, 0, 0), (73, none, .ldiv, 1, 0, 0, 0)] := fq_of2 cd_354 ow_354 cl_354 rfl (pc := 69) (by decide +kernel)
      j_lld (pc := 69) D rfl rfl rfl fun D =>
      j_lld (pc := 71) D rfl rfl rfl fun D =>
      j_ldiv (pc := 73) D rfl fun q D =>
      fk_jump cut_354_74 rfl rfl)
theorem e_354_74 (d : Nat) (x1 x8 s0 : Int) {h : fi_H} (H : Shp h) : c_354_74 d x1 x8 s0 h =
  ca_ (fj_run d 3 h [(1, x8), (1, (-1000000)), (1, 1000000)]) 0
    (fun v2 h1 =>
    if v2 = 0 then
      c_354_99 d h1
    else
      if 0 < lc_ s0 1000000 then
        c_354_99 d h1
      else
        if 0 ≤ x1 ∧ x1 < 700 then
        lt_ (fi_upd h1 10 312 x1.toNat (wI x8)) fun h4 =>
        lt_ (fi_upd h4 10 313 x1.toNat (wI s0)) fun h6 =>
        some (.inl none, h6)
        else none)
    (fun q3 h1 => tx_ q3 h1) := by
  unfold c_354_74
  exact
    have D : fk_D 354 [(74, some [0, 1, 8], .lstore 10, 2, 0, 0, 0), (76, none, .lload 8, 2, 0, 0, 0), (78, none, .ldc2_w 138, 3, 1, (-1000000), 0), (81, none, .ldc2_w 140, 3, 1, 1000000, 0), (84, none, .invokestatic 46, 3, 3, 3, 1), (87, none, .ifCond .eq 12, 3, 99, 0, 0), (90, none, .lload 10, 2, 0, 0, 0), (92, none, .ldc2_w 140, 3, 1, 1000000, 0), (95, none, .lcmp, 1, 0, 0, 0), (96, none, .ifCond .le 10, 3, 106, 0, 0)] := fq_of2 cd_354 ow_354 cl_354 rfl (pc := 74) (by decide +kernel)
    j_lst (pc := 74) (L' := [(10, (1, s0)), (0, (4, 303)), (1, (0, x1)), (8, (1, x8))]) D rfl nl_354 rfl rfl fun D =>
    j_lld (pc := 76) D rfl rfl rfl fun D =>
    j_ldc2 (pc := 78) D rfl fun D =>
    j_ldc2 (pc := 81) D rfl fun D =>
    j_is (pc := 84) (m := 3) (a := [(1, x8), (1, (-1000000)), (1, 1000000)]) (rest := []) D rfl rfl rfl rfl (fun v2 h1 e1 D =>
      have T := fj_run_ok _ _ _ _ _ _ H.1 e1
      have H := shp_st H T
      j_ifeq (pc := 87) D rfl (fun q =>
        fk_jump cut_354_99 rfl rfl) (fun q D =>
        j_lld (pc := 90) D rfl rfl rfl fun D =>
        j_ldc2 (pc := 92) D rfl fun D =>
        j_lcmp (pc := 95) D rfl fun D =>
        j_ifle (pc := 96) D rfl (fun q D =>
          fk_jump cut_354_99 rfl rfl) (fun q =>
          have D : fk_D 354 [(106, none, .aload_n 0, 1, 0, 0, 0), (107, none, .getfield 113, 3, 213, 100, 12), (110, none, .getfield 70, 3, 116, 119, 12), (113, none, .iload_n 1, 1, 0, 0, 0), (114, none, .lload 8, 2, 0, 0, 0), (116, none, .l2i, 1, 0, 0, 0), (117, none, .iastore, 1, 0, 0, 0), (118, none, .aload_n 0, 1, 0, 0, 0), (119, none, .getfield 113, 3, 213, 100, 12), (122, none, .getfield 73, 3, 117, 119, 12), (125, none, .iload_n 1, 1, 0, 0, 0), (126, none, .lload 10, 2, 0, 0, 0), (128, none, .l2i, 1, 0, 0, 0), (129, none, .iastore, 1, 0, 0, 0), (130, none, .return_, 1, 0, 0, 0)] := fq_of2 cd_354 ow_354 cl_354 rfl (pc := 106) (by decide +kernel)
          j_aldn (pc := 106) D rfl rfl rfl fun D =>
          j_gfc (pc := 107) (a := 303) D rfl rfl (by decide) rfl (s0_303 H) rfl (sf_213_303 H) fun D =>
          j_gfc (pc := 110) (a := 309) D rfl rfl (by decide) rfl (s0_309 H) rfl (sf_116_309 H) fun D =>
          j_ildn (pc := 113) D rfl rfl rfl fun D =>
          j_lld (pc := 114) D rfl rfl rfl fun D =>
          j_l2i (pc := 116) D rfl fun D =>
          j_as (pc := 117) (a := 312) (e := 10) D rfl ⟨rfl, rfl⟩ rfl (by decide) (s0_312 H) (s1_312 H) ⟨rfl, rfl, rfl⟩ rfl gn (gy rfl) fun h4 eh4 S qb5 D =>
          have T := fj_hs_ok H.1 S
          have H := shp_st H T
          j_aldn (pc := 118) D rfl rfl rfl fun D =>
          j_gfc (pc := 119) (a := 303) D rfl rfl (by decide) rfl (s0_303 H) rfl (sf_213_303 H) fun D =>
          j_gfc (pc := 122) (a := 309) D rfl rfl (by decide) rfl (s0_309 H) rfl (sf_117_309 H) fun D =>
          j_ildn (pc := 125) D rfl rfl rfl fun D =>
          j_lld (pc := 126) D rfl rfl rfl fun D =>
          j_l2i (pc := 128) D rfl fun D =>
          j_as (pc := 129) (a := 313) (e := 10) D rfl ⟨rfl, rfl⟩ rfl (by decide) (s0_313 H) (s1_313 H) ⟨rfl, rfl, rfl⟩ rfl (gy qb5) (gy rfl) fun h6 eh6 S q D =>
          have T := fj_hs_ok H.1 S
          have H := shp_st H T
          j_vret D rt_354))) (fun q3 h1 e1 =>
      j_tx (hx_354 _))
theorem e_354_99 (d : Nat) {h : fi_H} (H : Shp h) : c_354_99 d h =
  ca_ (fj_run d 310 h [(4, 303), (0, 8)]) 4
    (fun v2 h1 =>
    if v2 ≠ 0 then
    tx_ v2.toNat h1
    else none)
    (fun q3 h1 => tx_ q3 h1) := by
  unfold c_354_99
  exact
    have D : fk_D 354 [(99, some [0], .aload_n 0, 1, 0, 0, 0), (100, none, .bipush 8, 2, 0, 8, 0), (102, none, .invokevirtual 109, 3, 1, 112, 5), (105, none, .athrow, 1, 0, 0, 0)] := fq_of2 cd_354 ow_354 cl_354 rfl (pc := 99) (by decide +kernel)
    j_aldn (pc := 99) D rfl rfl rfl fun D =>
    j_bp (pc := 100) D rfl fun D =>
    j_iv (pc := 102) (m := 310) (dd := 112) (a := [(0, 8)]) (rest := []) D rfl rfl rfl rfl rfl (by decide) (s0_303 H) (by decide +kernel) (fun v2 h1 e1 D =>
      have T := fj_run_ok _ _ _ _ _ _ H.1 e1
      have H := shp_st H T
      j_at (pc := 105) D gn <|
      j_tx (hx_354 _)) (fun q3 h1 e1 =>
      j_tx (hx_354 _))
theorem m_354 (d : Nat) (x1 x2 x4 : Int) {h : fi_H} (H : Shp h) : fj_run (d + 1) 354 h [(4, 303), (0, x1), (1, x2), (1, x4)] =
  if lc_ x2 0 < 0 then
    c_354_12 d x1 x2 x4 (wJ (-x2)) h
  else
    c_354_12 d x1 x2 x4 x2 h := by
  rw [fj_run_eq d (by decide) h [(4, 303), (0, x1), (1, x2), (1, x4)] (Nat.le_of_ble_eq_true (by rw [nl_354]; rfl))]
  show gG (fj_run d) 354 0 [(0, (4, 303)), (1, (0, x1)), (2, (1, x2)), (4, (1, x4))] [] h = _
  exact
    have D : fk_D 354 [(0, none, .lload_n 2, 1, 0, 0, 0), (1, none, .lconst 0, 1, 0, 0, 0), (2, none, .lcmp, 1, 0, 0, 0), (3, none, .ifCond .ge 8, 3, 11, 0, 0), (6, none, .lload_n 2, 1, 0, 0, 0), (7, none, .lneg, 1, 0, 0, 0), (8, none, .goto 4, 3, 12, 0, 0)] := fq_of2 cd_354 ow_354 cl_354 rfl (pc := 0) (by decide +kernel)
    j_lldn (pc := 0) D rfl rfl rfl fun D =>
    j_c0 (pc := 1) (v := (1, 0)) D rfl rfl (by decide +kernel) fun D =>
    j_lcmp (pc := 2) D rfl fun D =>
    j_ifge (pc := 3) D rfl (fun q D =>
      j_lldn (pc := 6) D rfl rfl rfl fun D =>
      j_lneg (pc := 7) D rfl fun D =>
      j_goto (pc := 8) D rfl <|
      fk_jump cut_354_12 rfl rfl) (fun q =>
      have D : fk_D 354 [(11, none, .lload_n 2, 1, 0, 0, 0)] := fq_of2 cd_354 ow_354 cl_354 rfl (pc := 11) (by decide +kernel)
      j_lldn (pc := 11) D rfl rfl rfl fun D =>
      fk_jump cut_354_12 rfl rfl)
/-! 355 StatuteHouse.multiply(ILStatuteHouse$Kind;LStatuteHouse$Kind;)V -/
theorem cd_355 : fi_code 355 = prog_1_method_20_code := rfl
theorem hx_355 : ∀ pc, fi_hat 355 pc = none := fun pc => by unfold fi_hat; rw [show fi_hh 355 = [] from rfl]; rfl
theorem rt_355 : fi_ret 355 = none := rfl
theorem nl_355 : fi_nl 355 = 5 := rfl
theorem ow_355 : fi_ow 355 = 0 := rfl
theorem cl_355 : fj_cutT.getD 355 [] = [(275, [0, 1, 2, 3, 4])] := rfl
theorem cut_355_275 : fj_cut 355 275 = some [0, 1, 2, 3, 4] := by decide +kernel
noncomputable def c_355_275 (d : Nat) (x1 x2 x3 x4 : Int) (h : fi_H) : fk_R := gG (fj_run d) 355 275 [(0, (4, 303)), (1, (0, x1)), (2, (4, x2)), (3, (4, x3)), (4, (0, x4))] [] h
theorem e_355_275 (d : Nat) (x1 x2 x3 x4 : Int) {h : fi_H} (H : Shp h) : c_355_275 d x1 x2 x3 x4 h =
  ca_ (fj_run d 344 h [(4, 303), (0, x1), (4, x2)]) 1
    (fun v2 h1 =>
    ca_ (fj_run d 344 h1 [(4, 303), (0, x4), (4, x3)]) 1
      (fun v5 h4 =>
      ca_ (fj_run d 345 h4 [(4, 303), (0, x1), (4, x2)]) 1
        (fun v8 h7 =>
        ca_ (fj_run d 345 h7 [(4, 303), (0, x4), (4, x3)]) 1
          (fun v11 h10 =>
          cv_ (fj_run d 354 h10 [(4, 303), (0, x1), (1, wJ (v2 * v5)), (1, wJ (v8 * v11))])
            (fun h13 =>
            some (.inl none, h13))
            (fun q15 h13 => tx_ q15 h13))
          (fun q12 h10 => tx_ q12 h10))
        (fun q9 h7 => tx_ q9 h7))
      (fun q6 h4 => tx_ q6 h4))
    (fun q3 h1 => tx_ q3 h1) := by
  unfold c_355_275
  exact
    have D : fk_D 355 [(275, some [0, 1, 2, 3, 4], .aload_n 0, 1, 0, 0, 0), (276, none, .iload_n 1, 1, 0, 0, 0), (277, none, .aload_n 0, 1, 0, 0, 0), (278, none, .iload_n 1, 1, 0, 0, 0), (279, none, .aload_n 2, 1, 0, 0, 0), (280, none, .invokevirtual 150, 3, 2, 114, 2), (283, none, .aload_n 0, 1, 0, 0, 0), (284, none, .iload 4, 2, 0, 0, 0), (286, none, .aload_n 3, 1, 0, 0, 0), (287, none, .invokevirtual 150, 3, 2, 114, 2), (290, none, .lmul, 1, 0, 0, 0), (291, none, .aload_n 0, 1, 0, 0, 0), (292, none, .iload_n 1, 1, 0, 0, 0), (293, none, .aload_n 2, 1, 0, 0, 0), (294, none, .invokevirtual 153, 3, 2, 115, 2), (297, none, .aload_n 0, 1, 0, 0, 0), (298, none, .iload 4, 2, 0, 0, 0), (300, none, .aload_n 3, 1, 0, 0, 0), (301, none, .invokevirtual 153, 3, 2, 115, 2), (304, none, .lmul, 1, 0, 0, 0)] := fq_of2 cd_355 ow_355 cl_355 rfl (pc := 275) (by decide +kernel)
    j_aldn (pc := 275) D rfl rfl rfl fun D =>
    j_ildn (pc := 276) D rfl rfl rfl fun D =>
    j_aldn (pc := 277) D rfl rfl rfl fun D =>
    j_ildn (pc := 278) D rfl rfl rfl fun D =>
    j_aldn (pc := 279) D rfl rfl rfl fun D =>
    j_iv (pc := 280) (m := 344) (dd := 114) (a := [(0, x1), (4, x2)]) (rest := [(0, x1), (4, 303)]) D rfl rfl rfl rfl rfl (by decide) (s0_303 H) (by decide +kernel) (fun v2 h1 e1 D =>
      have T := fj_run_ok _ _ _ _ _ _ H.1 e1
      have H := shp_st H T
      j_aldn (pc := 283) D rfl rfl rfl fun D =>
      j_ild (pc := 284) D rfl rfl rfl fun D =>
      j_aldn (pc := 286) D rfl rfl rfl fun D =>
      j_iv (pc := 287) (m := 344) (dd := 114) (a := [(0, x4), (4, x3)]) (rest := [(1, v2), (0, x1), (4, 303)]) D rfl rfl rfl rfl rfl (by decide) (s0_303 H) (by decide +kernel) (fun v5 h4 e1 D =>
        have T := fj_run_ok _ _ _ _ _ _ H.1 e1
        have H := shp_st H T
        j_lmul (pc := 290) D rfl fun D =>
        j_aldn (pc := 291) D rfl rfl rfl fun D =>
        j_ildn (pc := 292) D rfl rfl rfl fun D =>
        j_aldn (pc := 293) D rfl rfl rfl fun D =>
        j_iv (pc := 294) (m := 345) (dd := 115) (a := [(0, x1), (4, x2)]) (rest := [(1, wJ (v2 * v5)), (0, x1), (4, 303)]) D rfl rfl rfl rfl rfl (by decide) (s0_303 H) (by decide +kernel) (fun v8 h7 e1 D =>
          have T := fj_run_ok _ _ _ _ _ _ H.1 e1
          have H := shp_st H T
          j_aldn (pc := 297) D rfl rfl rfl fun D =>
          j_ild (pc := 298) D rfl rfl rfl fun D =>
          j_aldn (pc := 300) D rfl rfl rfl fun D =>
          j_iv (pc := 301) (m := 345) (dd := 115) (a := [(0, x4), (4, x3)]) (rest := [(1, v8), (1, wJ (v2 * v5)), (0, x1), (4, 303)]) D rfl rfl rfl rfl rfl (by decide) (s0_303 H) (by decide +kernel) (fun v11 h10 e1 D =>
            have T := fj_run_ok _ _ _ _ _ _ H.1 e1
            have H := shp_st H T
            j_lmul (pc := 304) D rfl fun D =>
            have D : fk_D 355 [(305, none, .invokevirtual 178, 3, 3, 122, 0), (308, none, .return_, 1, 0, 0, 0)] := fq_of2 cd_355 ow_355 cl_355 rfl (pc := 305) (by decide +kernel)
            j_ivv (pc := 305) (m := 354) (dd := 122) (a := [(0, x1), (1, wJ (v2 * v5)), (1, wJ (v8 * v11))]) (rest := []) D rfl rfl rfl rfl rfl (by decide) (s0_303 H) (by decide +kernel) (fun h13 e1 D =>
              have T := fj_run_ok _ _ _ _ _ _ H.1 e1
              have H := shp_st H T
              j_vret D rt_355) (fun q15 h13 e1 =>
              j_tx (hx_355 _))) (fun q12 h10 e1 =>
            j_tx (hx_355 _))) (fun q9 h7 e1 =>
          j_tx (hx_355 _))) (fun q6 h4 e1 =>
        j_tx (hx_355 _))) (fun q3 h1 e1 =>
      j_tx (hx_355 _))
theorem m_355 (d : Nat) (x1 x2 x3 : Int) {h : fi_H} (H : Shp h) : fj_run (d + 1) 355 h [(4, 303), (0, x1), (4, x2), (4, x3)] =
  if x2 = 8 then
    if 0 ≤ x1 ∧ x1 < 700 then
    if 0 ≤ wI (x1 + 1) ∧ wI (x1 + 1) < 700 then
    dn_ (FP.dmul (fi_D (h 7 318 x1.toNat)) (fi_D (h 7 318 (wI (x1 + 1)).toNat))) fun v3 =>
    cv_ (fj_run d 348 h [(4, 303), (0, x1), (3, v3)])
      (fun h4 =>
      some (.inl none, h4))
      (fun q6 h4 => tx_ q6 h4)
    else none
    else none
  else
    if x2 = 4 then
      if 0 ≤ x1 ∧ x1 < 700 then
      ca_ (fj_run d 344 h [(4, 303), (0, wI (x1 + 1)), (4, x3)]) 1
        (fun v9 h8 =>
        ca_ (fj_run d 345 h8 [(4, 303), (0, wI (x1 + 1)), (4, x3)]) 1
          (fun v12 h11 =>
          cv_ (fj_run d 356 h11 [(4, 303), (0, x1), (1, h 11 315 x1.toNat), (1, v9), (1, v12)])
            (fun h14 =>
            some (.inl none, h14))
            (fun q16 h14 => tx_ q16 h14))
          (fun q13 h11 => tx_ q13 h11))
        (fun q10 h8 => tx_ q10 h8)
      else none
    else
      if x3 = 4 then
        if 0 ≤ wI (x1 + 1) ∧ wI (x1 + 1) < 700 then
        ca_ (fj_run d 344 h [(4, 303), (0, x1), (4, x2)]) 1
          (fun v19 h18 =>
          ca_ (fj_run d 345 h18 [(4, 303), (0, x1), (4, x2)]) 1
            (fun v22 h21 =>
            cv_ (fj_run d 356 h21 [(4, 303), (0, x1), (1, h 11 315 (wI (x1 + 1)).toNat), (1, v19), (1, v22)])
              (fun h24 =>
              some (.inl none, h24))
              (fun q26 h24 => tx_ q26 h24))
            (fun q23 h21 => tx_ q23 h21))
          (fun q20 h18 => tx_ q20 h18)
        else none
      else
        if x2 = 7 then
          if 0 ≤ x1 ∧ x1 < 700 then
          if 0 ≤ wI (x1 + 1) ∧ wI (x1 + 1) < 700 then
          cv_ (fj_run d 349 h [(4, 303), (0, x1), (1, wJ ((wI (h 9 317 x1.toNat)) * (wI (h 10 311 (wI (x1 + 1)).toNat)))), (1, wJ ((wI (h 10 314 x1.toNat)) * (wI (h 10 311 (wI (x1 + 1)).toNat))))])
            (fun h29 =>
            some (.inl none, h29))
            (fun q31 h29 => tx_ q31 h29)
          else none
          else none
        else
          if x3 = 7 then
            if 0 ≤ wI (x1 + 1) ∧ wI (x1 + 1) < 700 then
            if 0 ≤ x1 ∧ x1 < 700 then
            cv_ (fj_run d 349 h [(4, 303), (0, x1), (1, wJ ((wI (h 9 317 (wI (x1 + 1)).toNat)) * (wI (h 10 311 x1.toNat)))), (1, wJ ((wI (h 10 314 (wI (x1 + 1)).toNat)) * (wI (h 10 311 x1.toNat))))])
              (fun h34 =>
              some (.inl none, h34))
              (fun q36 h34 => tx_ q36 h34)
            else none
            else none
          else
            if x2 = 3 then
              if x3 = x2 then
                if 0 ≤ x1 ∧ x1 < 700 then
                if 0 ≤ wI (x1 + 1) ∧ wI (x1 + 1) < 700 then
                cv_ (fj_run d 353 h [(4, 303), (0, x1), (1, wJ ((wI (h 10 311 x1.toNat)) * (wI (h 10 311 (wI (x1 + 1)).toNat))))])
                  (fun h39 =>
                  some (.inl none, h39))
                  (fun q41 h39 => tx_ q41 h39)
                else none
                else none
              else
                c_355_275 d x1 x2 x3 (wI (x1 + 1)) h
            else
              c_355_275 d x1 x2 x3 (wI (x1 + 1)) h := by
  rw [fj_run_eq d (by decide) h [(4, 303), (0, x1), (4, x2), (4, x3)] (Nat.le_of_ble_eq_true (by rw [nl_355]; rfl))]
  show gG (fj_run d) 355 0 [(0, (4, 303)), (1, (0, x1)), (2, (4, x2)), (3, (4, x3))] [] h = _
  exact
    have D : fk_D 355 [(0, none, .iload_n 1, 1, 0, 0, 0), (1, none, .iconst 1, 1, 0, 1, 0), (2, none, .iadd, 1, 0, 0, 0), (3, none, .istore 4, 2, 0, 0, 0), (5, none, .aload_n 2, 1, 0, 0, 0), (6, none, .getstatic 181, 3, 4, 8, 0), (9, none, .if_acmp .ne 31, 3, 40, 0, 0), (12, none, .aload_n 0, 1, 0, 0, 0), (13, none, .iload_n 1, 1, 0, 0, 0), (14, none, .aload_n 0, 1, 0, 0, 0), (15, none, .getfield 113, 3, 213, 100, 12), (18, none, .getfield 87, 3, 122, 119, 12), (21, none, .iload_n 1, 1, 0, 0, 0), (22, none, .daload, 1, 0, 0, 0), (23, none, .aload_n 0, 1, 0, 0, 0), (24, none, .getfield 113, 3, 213, 100, 12), (27, none, .getfield 87, 3, 122, 119, 12), (30, none, .iload 4, 2, 0, 0, 0), (32, none, .daload, 1, 0, 0, 0), (33, none, .dmul, 1, 0, 0, 0)] := fq_of2 cd_355 ow_355 cl_355 rfl (pc := 0) (by decide +kernel)
    j_ildn (pc := 0) D rfl rfl rfl fun D =>
    j_ic (pc := 1) D rfl fun D =>
    j_iadd (pc := 2) D rfl fun D =>
    j_ist (pc := 3) (L' := [(4, (0, wI (x1 + 1))), (0, (4, 303)), (1, (0, x1)), (2, (4, x2)), (3, (4, x3))]) D rfl nl_355 rfl rfl fun D =>
    j_aldn (pc := 5) D rfl rfl rfl fun D =>
    j_gs (pc := 6) D rfl fun D =>
    j_ane (pc := 9) D rfl (fun q D =>
      j_aldn (pc := 12) D rfl rfl rfl fun D =>
      j_ildn (pc := 13) D rfl rfl rfl fun D =>
      j_aldn (pc := 14) D rfl rfl rfl fun D =>
      j_gfc (pc := 15) (a := 303) D rfl rfl (by decide) rfl (s0_303 H) rfl (sf_213_303 H) fun D =>
      j_gfc (pc := 18) (a := 309) D rfl rfl (by decide) rfl (s0_309 H) rfl (sf_122_309 H) fun D =>
      j_ildn (pc := 21) D rfl rfl rfl fun D =>
      j_al (pc := 22) (a := 318) (e := 7) D rfl rfl rfl (by decide) (s0_318 H) (s1_318 H) ⟨rfl, rfl, rfl⟩ rfl gn fun qb1 D =>
      j_aldn (pc := 23) D rfl rfl rfl fun D =>
      j_gfc (pc := 24) (a := 303) D rfl rfl (by decide) rfl (s0_303 H) rfl (sf_213_303 H) fun D =>
      j_gfc (pc := 27) (a := 309) D rfl rfl (by decide) rfl (s0_309 H) rfl (sf_122_309 H) fun D =>
      j_ild (pc := 30) D rfl rfl rfl fun D =>
      j_al (pc := 32) (a := 318) (e := 7) D rfl rfl rfl (by decide) (s0_318 H) (s1_318 H) ⟨rfl, rfl, rfl⟩ rfl gn fun qb2 D =>
      j_dop (pc := 33) (u := FP.dmul (fi_D (h 7 318 x1.toNat)) (fi_D (h 7 318 (wI (x1 + 1)).toNat))) D rfl rfl rfl fun D v3 =>
      have D : fk_D 355 [(34, none, .invokevirtual 158, 3, 2, 117, 0), (37, none, .goto 271, 3, 308, 0, 0)] := fq_of2 cd_355 ow_355 cl_355 rfl (pc := 34) (by decide +kernel)
      j_ivv (pc := 34) (m := 348) (dd := 117) (a := [(0, x1), (3, v3)]) (rest := []) D rfl rfl rfl rfl rfl (by decide) (s0_303 H) (by decide +kernel) (fun h4 e1 D =>
        have T := fj_run_ok _ _ _ _ _ _ H.1 e1
        have H := shp_st H T
        j_goto (pc := 37) D rfl <|
        have D : fk_D 355 [(308, none, .return_, 1, 0, 0, 0)] := fq_of2 cd_355 ow_355 cl_355 rfl (pc := 308) (by decide +kernel)
        j_vret D rt_355) (fun q6 h4 e1 =>
        j_tx (hx_355 _))) (fun q =>
      have D : fk_D 355 [(40, none, .aload_n 2, 1, 0, 0, 0), (41, none, .getstatic 184, 3, 4, 4, 0), (44, none, .if_acmp .ne 34, 3, 78, 0, 0), (47, none, .aload_n 0, 1, 0, 0, 0), (48, none, .iload_n 1, 1, 0, 0, 0), (49, none, .aload_n 0, 1, 0, 0, 0), (50, none, .getfield 113, 3, 213, 100, 12), (53, none, .getfield 66, 3, 119, 119, 12), (56, none, .iload_n 1, 1, 0, 0, 0), (57, none, .laload, 1, 0, 0, 0), (58, none, .aload_n 0, 1, 0, 0, 0), (59, none, .iload 4, 2, 0, 0, 0), (61, none, .aload_n 3, 1, 0, 0, 0), (62, none, .invokevirtual 150, 3, 2, 114, 2), (65, none, .aload_n 0, 1, 0, 0, 0), (66, none, .iload 4, 2, 0, 0, 0), (68, none, .aload_n 3, 1, 0, 0, 0), (69, none, .invokevirtual 153, 3, 2, 115, 2), (72, none, .invokevirtual 187, 3, 4, 123, 0), (75, none, .goto 233, 3, 308, 0, 0)] := fq_of2 cd_355 ow_355 cl_355 rfl (pc := 40) (by decide +kernel)
      j_aldn (pc := 40) D rfl rfl rfl fun D =>
      j_gs (pc := 41) D rfl fun D =>
      j_ane (pc := 44) D rfl (fun q D =>
        j_aldn (pc := 47) D rfl rfl rfl fun D =>
        j_ildn (pc := 48) D rfl rfl rfl fun D =>
        j_aldn (pc := 49) D rfl rfl rfl fun D =>
        j_gfc (pc := 50) (a := 303) D rfl rfl (by decide) rfl (s0_303 H) rfl (sf_213_303 H) fun D =>
        j_gfc (pc := 53) (a := 309) D rfl rfl (by decide) rfl (s0_309 H) rfl (sf_119_309 H) fun D =>
        j_ildn (pc := 56) D rfl rfl rfl fun D =>
        j_al (pc := 57) (a := 315) (e := 11) D rfl rfl rfl (by decide) (s0_315 H) (s1_315 H) ⟨rfl, rfl, rfl⟩ rfl gn fun qb7 D =>
        j_aldn (pc := 58) D rfl rfl rfl fun D =>
        j_ild (pc := 59) D rfl rfl rfl fun D =>
        j_aldn (pc := 61) D rfl rfl rfl fun D =>
        j_iv (pc := 62) (m := 344) (dd := 114) (a := [(0, wI (x1 + 1)), (4, x3)]) (rest := [(1, h 11 315 x1.toNat), (0, x1), (4, 303)]) D rfl rfl rfl rfl rfl (by decide) (s0_303 H) (by decide +kernel) (fun v9 h8 e1 D =>
          have T := fj_run_ok _ _ _ _ _ _ H.1 e1
          have H := shp_st H T
          j_aldn (pc := 65) D rfl rfl rfl fun D =>
          j_ild (pc := 66) D rfl rfl rfl fun D =>
          j_aldn (pc := 68) D rfl rfl rfl fun D =>
          j_iv (pc := 69) (m := 345) (dd := 115) (a := [(0, wI (x1 + 1)), (4, x3)]) (rest := [(1, v9), (1, h 11 315 x1.toNat), (0, x1), (4, 303)]) D rfl rfl rfl rfl rfl (by decide) (s0_303 H) (by decide +kernel) (fun v12 h11 e1 D =>
            have T := fj_run_ok _ _ _ _ _ _ H.1 e1
            have H := shp_st H T
            j_ivv (pc := 72) (m := 356) (dd := 123) (a := [(0, x1), (1, h 11 315 x1.toNat), (1, v9), (1, v12)]) (rest := []) D rfl rfl rfl rfl rfl (by decide) (s0_303 H) (by decide +kernel) (fun h14 e1 D =>
              have T := fj_run_ok _ _ _ _ _ _ H.1 e1
              have H := shp_st H T
              j_goto (pc := 75) D rfl <|
              have D : fk_D 355 [(308, none, .return_, 1, 0, 0, 0)] := fq_of2 cd_355 ow_355 cl_355 rfl (pc := 308) (by decide +kernel)
              j_vret D rt_355) (fun q16 h14 e1 =>
              j_tx (hx_355 _))) (fun q13 h11 e1 =>
            j_tx (hx_355 _))) (fun q10 h8 e1 =>
          j_tx (hx_355 _))) (fun q =>
        have D : fk_D 355 [(78, none, .aload_n 3, 1, 0, 0, 0), (79, none, .getstatic 184, 3, 4, 4, 0), (82, none, .if_acmp .ne 33, 3, 115, 0, 0), (85, none, .aload_n 0, 1, 0, 0, 0), (86, none, .iload_n 1, 1, 0, 0, 0), (87, none, .aload_n 0, 1, 0, 0, 0), (88, none, .getfield 113, 3, 213, 100, 12), (91, none, .getfield 66, 3, 119, 119, 12), (94, none, .iload 4, 2, 0, 0, 0), (96, none, .laload, 1, 0, 0, 0), (97, none, .aload_n 0, 1, 0, 0, 0), (98, none, .iload_n 1, 1, 0, 0, 0), (99, none, .aload_n 2, 1, 0, 0, 0), (100, none, .invokevirtual 150, 3, 2, 114, 2), (103, none, .aload_n 0, 1, 0, 0, 0), (104, none, .iload_n 1, 1, 0, 0, 0), (105, none, .aload_n 2, 1, 0, 0, 0), (106, none, .invokevirtual 153, 3, 2, 115, 2), (109, none, .invokevirtual 187, 3, 4, 123, 0), (112, none, .goto 196, 3, 308, 0, 0)] := fq_of2 cd_355 ow_355 cl_355 rfl (pc := 78) (by decide +kernel)
        j_aldn (pc := 78) D rfl rfl rfl fun D =>
        j_gs (pc := 79) D rfl fun D =>
        j_ane (pc := 82) D rfl (fun q D =>
          j_aldn (pc := 85) D rfl rfl rfl fun D =>
          j_ildn (pc := 86) D rfl rfl rfl fun D =>
          j_aldn (pc := 87) D rfl rfl rfl fun D =>
          j_gfc (pc := 88) (a := 303) D rfl rfl (by decide) rfl (s0_303 H) rfl (sf_213_303 H) fun D =>
          j_gfc (pc := 91) (a := 309) D rfl rfl (by decide) rfl (s0_309 H) rfl (sf_119_309 H) fun D =>
          j_ild (pc := 94) D rfl rfl rfl fun D =>
          j_al (pc := 96) (a := 315) (e := 11) D rfl rfl rfl (by decide) (s0_315 H) (s1_315 H) ⟨rfl, rfl, rfl⟩ rfl gn fun qb17 D =>
          j_aldn (pc := 97) D rfl rfl rfl fun D =>
          j_ildn (pc := 98) D rfl rfl rfl fun D =>
          j_aldn (pc := 99) D rfl rfl rfl fun D =>
          j_iv (pc := 100) (m := 344) (dd := 114) (a := [(0, x1), (4, x2)]) (rest := [(1, h 11 315 (wI (x1 + 1)).toNat), (0, x1), (4, 303)]) D rfl rfl rfl rfl rfl (by decide) (s0_303 H) (by decide +kernel) (fun v19 h18 e1 D =>
            have T := fj_run_ok _ _ _ _ _ _ H.1 e1
            have H := shp_st H T
            j_aldn (pc := 103) D rfl rfl rfl fun D =>
            j_ildn (pc := 104) D rfl rfl rfl fun D =>
            j_aldn (pc := 105) D rfl rfl rfl fun D =>
            j_iv (pc := 106) (m := 345) (dd := 115) (a := [(0, x1), (4, x2)]) (rest := [(1, v19), (1, h 11 315 (wI (x1 + 1)).toNat), (0, x1), (4, 303)]) D rfl rfl rfl rfl rfl (by decide) (s0_303 H) (by decide +kernel) (fun v22 h21 e1 D =>
              have T := fj_run_ok _ _ _ _ _ _ H.1 e1
              have H := shp_st H T
              j_ivv (pc := 109) (m := 356) (dd := 123) (a := [(0, x1), (1, h 11 315 (wI (x1 + 1)).toNat), (1, v19), (1, v22)]) (rest := []) D rfl rfl rfl rfl rfl (by decide) (s0_303 H) (by decide +kernel) (fun h24 e1 D =>
                have T := fj_run_ok _ _ _ _ _ _ H.1 e1
                have H := shp_st H T
                j_goto (pc := 112) D rfl <|
                have D : fk_D 355 [(308, none, .return_, 1, 0, 0, 0)] := fq_of2 cd_355 ow_355 cl_355 rfl (pc := 308) (by decide +kernel)
                j_vret D rt_355) (fun q26 h24 e1 =>
                j_tx (hx_355 _))) (fun q23 h21 e1 =>
              j_tx (hx_355 _))) (fun q20 h18 e1 =>
            j_tx (hx_355 _))) (fun q =>
          have D : fk_D 355 [(115, none, .aload_n 2, 1, 0, 0, 0), (116, none, .getstatic 165, 3, 4, 7, 0), (119, none, .if_acmp .ne 55, 3, 174, 0, 0), (122, none, .aload_n 0, 1, 0, 0, 0), (123, none, .iload_n 1, 1, 0, 0, 0), (124, none, .aload_n 0, 1, 0, 0, 0), (125, none, .getfield 113, 3, 213, 100, 12), (128, none, .getfield 80, 3, 121, 119, 12), (131, none, .iload_n 1, 1, 0, 0, 0), (132, none, .saload, 1, 0, 0, 0), (133, none, .i2l, 1, 0, 0, 0), (134, none, .aload_n 0, 1, 0, 0, 0), (135, none, .getfield 113, 3, 213, 100, 12), (138, none, .getfield 62, 3, 115, 119, 12), (141, none, .iload 4, 2, 0, 0, 0), (143, none, .iaload, 1, 0, 0, 0), (144, none, .i2l, 1, 0, 0, 0), (145, none, .lmul, 1, 0, 0, 0), (146, none, .aload_n 0, 1, 0, 0, 0), (147, none, .getfield 113, 3, 213, 100, 12)] := fq_of2 cd_355 ow_355 cl_355 rfl (pc := 115) (by decide +kernel)
          j_aldn (pc := 115) D rfl rfl rfl fun D =>
          j_gs (pc := 116) D rfl fun D =>
          j_ane (pc := 119) D rfl (fun q D =>
            j_aldn (pc := 122) D rfl rfl rfl fun D =>
            j_ildn (pc := 123) D rfl rfl rfl fun D =>
            j_aldn (pc := 124) D rfl rfl rfl fun D =>
            j_gfc (pc := 125) (a := 303) D rfl rfl (by decide) rfl (s0_303 H) rfl (sf_213_303 H) fun D =>
            j_gfc (pc := 128) (a := 309) D rfl rfl (by decide) rfl (s0_309 H) rfl (sf_121_309 H) fun D =>
            j_ildn (pc := 131) D rfl rfl rfl fun D =>
            j_al (pc := 132) (a := 317) (e := 9) D rfl rfl rfl (by decide) (s0_317 H) (s1_317 H) ⟨rfl, rfl, rfl⟩ rfl gn fun qb27 D =>
            j_i2l (pc := 133) D rfl fun D =>
            j_aldn (pc := 134) D rfl rfl rfl fun D =>
            j_gfc (pc := 135) (a := 303) D rfl rfl (by decide) rfl (s0_303 H) rfl (sf_213_303 H) fun D =>
            j_gfc (pc := 138) (a := 309) D rfl rfl (by decide) rfl (s0_309 H) rfl (sf_115_309 H) fun D =>
            j_ild (pc := 141) D rfl rfl rfl fun D =>
            j_al (pc := 143) (a := 311) (e := 10) D rfl rfl rfl (by decide) (s0_311 H) (s1_311 H) ⟨rfl, rfl, rfl⟩ rfl gn fun qb28 D =>
            j_i2l (pc := 144) D rfl fun D =>
            j_lmul (pc := 145) D rfl fun D =>
            j_aldn (pc := 146) D rfl rfl rfl fun D =>
            j_gfc (pc := 147) (a := 303) D rfl rfl (by decide) rfl (s0_303 H) rfl (sf_213_303 H) fun D =>
            have D : fk_D 355 [(150, none, .getfield 84, 3, 118, 119, 12), (153, none, .iload_n 1, 1, 0, 0, 0), (154, none, .iaload, 1, 0, 0, 0), (155, none, .i2l, 1, 0, 0, 0), (156, none, .aload_n 0, 1, 0, 0, 0), (157, none, .getfield 113, 3, 213, 100, 12), (160, none, .getfield 62, 3, 115, 119, 12), (163, none, .iload 4, 2, 0, 0, 0), (165, none, .iaload, 1, 0, 0, 0), (166, none, .i2l, 1, 0, 0, 0), (167, none, .lmul, 1, 0, 0, 0), (168, none, .invokevirtual 161, 3, 3, 118, 0), (171, none, .goto 137, 3, 308, 0, 0)] := fq_of2 cd_355 ow_355 cl_355 rfl (pc := 150) (by decide +kernel)
            j_gfc (pc := 150) (a := 309) D rfl rfl (by decide) rfl (s0_309 H) rfl (sf_118_309 H) fun D =>
            j_ildn (pc := 153) D rfl rfl rfl fun D =>
            j_al (pc := 154) (a := 314) (e := 10) D rfl rfl rfl (by decide) (s0_314 H) (s1_314 H) ⟨rfl, rfl, rfl⟩ rfl (gy qb27) fun q D =>
            j_i2l (pc := 155) D rfl fun D =>
            j_aldn (pc := 156) D rfl rfl rfl fun D =>
            j_gfc (pc := 157) (a := 303) D rfl rfl (by decide) rfl (s0_303 H) rfl (sf_213_303 H) fun D =>
            j_gfc (pc := 160) (a := 309) D rfl rfl (by decide) rfl (s0_309 H) rfl (sf_115_309 H) fun D =>
            j_ild (pc := 163) D rfl rfl rfl fun D =>
            j_al (pc := 165) (a := 311) (e := 10) D rfl rfl rfl (by decide) (s0_311 H) (s1_311 H) ⟨rfl, rfl, rfl⟩ rfl (gy qb28) fun q D =>
            j_i2l (pc := 166) D rfl fun D =>
            j_lmul (pc := 167) D rfl fun D =>
            j_ivv (pc := 168) (m := 349) (dd := 118) (a := [(0, x1), (1, wJ ((wI (h 9 317 x1.toNat)) * (wI (h 10 311 (wI (x1 + 1)).toNat)))), (1, wJ ((wI (h 10 314 x1.toNat)) * (wI (h 10 311 (wI (x1 + 1)).toNat))))]) (rest := []) D rfl rfl rfl rfl rfl (by decide) (s0_303 H) (by decide +kernel) (fun h29 e1 D =>
              have T := fj_run_ok _ _ _ _ _ _ H.1 e1
              have H := shp_st H T
              j_goto (pc := 171) D rfl <|
              have D : fk_D 355 [(308, none, .return_, 1, 0, 0, 0)] := fq_of2 cd_355 ow_355 cl_355 rfl (pc := 308) (by decide +kernel)
              j_vret D rt_355) (fun q31 h29 e1 =>
              j_tx (hx_355 _))) (fun q =>
            have D : fk_D 355 [(174, none, .aload_n 3, 1, 0, 0, 0), (175, none, .getstatic 165, 3, 4, 7, 0), (178, none, .if_acmp .ne 55, 3, 233, 0, 0), (181, none, .aload_n 0, 1, 0, 0, 0), (182, none, .iload_n 1, 1, 0, 0, 0), (183, none, .aload_n 0, 1, 0, 0, 0), (184, none, .getfield 113, 3, 213, 100, 12), (187, none, .getfield 80, 3, 121, 119, 12), (190, none, .iload 4, 2, 0, 0, 0), (192, none, .saload, 1, 0, 0, 0), (193, none, .i2l, 1, 0, 0, 0), (194, none, .aload_n 0, 1, 0, 0, 0), (195, none, .getfield 113, 3, 213, 100, 12), (198, none, .getfield 62, 3, 115, 119, 12), (201, none, .iload_n 1, 1, 0, 0, 0), (202, none, .iaload, 1, 0, 0, 0), (203, none, .i2l, 1, 0, 0, 0), (204, none, .lmul, 1, 0, 0, 0), (205, none, .aload_n 0, 1, 0, 0, 0), (206, none, .getfield 113, 3, 213, 100, 12)] := fq_of2 cd_355 ow_355 cl_355 rfl (pc := 174) (by decide +kernel)
            j_aldn (pc := 174) D rfl rfl rfl fun D =>
            j_gs (pc := 175) D rfl fun D =>
            j_ane (pc := 178) D rfl (fun q D =>
              j_aldn (pc := 181) D rfl rfl rfl fun D =>
              j_ildn (pc := 182) D rfl rfl rfl fun D =>
              j_aldn (pc := 183) D rfl rfl rfl fun D =>
              j_gfc (pc := 184) (a := 303) D rfl rfl (by decide) rfl (s0_303 H) rfl (sf_213_303 H) fun D =>
              j_gfc (pc := 187) (a := 309) D rfl rfl (by decide) rfl (s0_309 H) rfl (sf_121_309 H) fun D =>
              j_ild (pc := 190) D rfl rfl rfl fun D =>
              j_al (pc := 192) (a := 317) (e := 9) D rfl rfl rfl (by decide) (s0_317 H) (s1_317 H) ⟨rfl, rfl, rfl⟩ rfl gn fun qb32 D =>
              j_i2l (pc := 193) D rfl fun D =>
              j_aldn (pc := 194) D rfl rfl rfl fun D =>
              j_gfc (pc := 195) (a := 303) D rfl rfl (by decide) rfl (s0_303 H) rfl (sf_213_303 H) fun D =>
              j_gfc (pc := 198) (a := 309) D rfl rfl (by decide) rfl (s0_309 H) rfl (sf_115_309 H) fun D =>
              j_ildn (pc := 201) D rfl rfl rfl fun D =>
              j_al (pc := 202) (a := 311) (e := 10) D rfl rfl rfl (by decide) (s0_311 H) (s1_311 H) ⟨rfl, rfl, rfl⟩ rfl gn fun qb33 D =>
              j_i2l (pc := 203) D rfl fun D =>
              j_lmul (pc := 204) D rfl fun D =>
              j_aldn (pc := 205) D rfl rfl rfl fun D =>
              j_gfc (pc := 206) (a := 303) D rfl rfl (by decide) rfl (s0_303 H) rfl (sf_213_303 H) fun D =>
              have D : fk_D 355 [(209, none, .getfield 84, 3, 118, 119, 12), (212, none, .iload 4, 2, 0, 0, 0), (214, none, .iaload, 1, 0, 0, 0), (215, none, .i2l, 1, 0, 0, 0), (216, none, .aload_n 0, 1, 0, 0, 0), (217, none, .getfield 113, 3, 213, 100, 12), (220, none, .getfield 62, 3, 115, 119, 12), (223, none, .iload_n 1, 1, 0, 0, 0), (224, none, .iaload, 1, 0, 0, 0), (225, none, .i2l, 1, 0, 0, 0), (226, none, .lmul, 1, 0, 0, 0), (227, none, .invokevirtual 161, 3, 3, 118, 0), (230, none, .goto 78, 3, 308, 0, 0)] := fq_of2 cd_355 ow_355 cl_355 rfl (pc := 209) (by decide +kernel)
              j_gfc (pc := 209) (a := 309) D rfl rfl (by decide) rfl (s0_309 H) rfl (sf_118_309 H) fun D =>
              j_ild (pc := 212) D rfl rfl rfl fun D =>
              j_al (pc := 214) (a := 314) (e := 10) D rfl rfl rfl (by decide) (s0_314 H) (s1_314 H) ⟨rfl, rfl, rfl⟩ rfl (gy qb32) fun q D =>
              j_i2l (pc := 215) D rfl fun D =>
              j_aldn (pc := 216) D rfl rfl rfl fun D =>
              j_gfc (pc := 217) (a := 303) D rfl rfl (by decide) rfl (s0_303 H) rfl (sf_213_303 H) fun D =>
              j_gfc (pc := 220) (a := 309) D rfl rfl (by decide) rfl (s0_309 H) rfl (sf_115_309 H) fun D =>
              j_ildn (pc := 223) D rfl rfl rfl fun D =>
              j_al (pc := 224) (a := 311) (e := 10) D rfl rfl rfl (by decide) (s0_311 H) (s1_311 H) ⟨rfl, rfl, rfl⟩ rfl (gy qb33) fun q D =>
              j_i2l (pc := 225) D rfl fun D =>
              j_lmul (pc := 226) D rfl fun D =>
              j_ivv (pc := 227) (m := 349) (dd := 118) (a := [(0, x1), (1, wJ ((wI (h 9 317 (wI (x1 + 1)).toNat)) * (wI (h 10 311 x1.toNat)))), (1, wJ ((wI (h 10 314 (wI (x1 + 1)).toNat)) * (wI (h 10 311 x1.toNat))))]) (rest := []) D rfl rfl rfl rfl rfl (by decide) (s0_303 H) (by decide +kernel) (fun h34 e1 D =>
                have T := fj_run_ok _ _ _ _ _ _ H.1 e1
                have H := shp_st H T
                j_goto (pc := 230) D rfl <|
                have D : fk_D 355 [(308, none, .return_, 1, 0, 0, 0)] := fq_of2 cd_355 ow_355 cl_355 rfl (pc := 308) (by decide +kernel)
                j_vret D rt_355) (fun q36 h34 e1 =>
                j_tx (hx_355 _))) (fun q =>
              have D : fk_D 355 [(233, none, .aload_n 2, 1, 0, 0, 0), (234, none, .getstatic 142, 3, 4, 3, 0), (237, none, .if_acmp .ne 38, 3, 275, 0, 0), (240, none, .aload_n 3, 1, 0, 0, 0), (241, none, .aload_n 2, 1, 0, 0, 0), (242, none, .if_acmp .ne 33, 3, 275, 0, 0), (245, none, .aload_n 0, 1, 0, 0, 0), (246, none, .iload_n 1, 1, 0, 0, 0), (247, none, .aload_n 0, 1, 0, 0, 0), (248, none, .getfield 113, 3, 213, 100, 12), (251, none, .getfield 62, 3, 115, 119, 12), (254, none, .iload_n 1, 1, 0, 0, 0), (255, none, .iaload, 1, 0, 0, 0), (256, none, .i2l, 1, 0, 0, 0), (257, none, .aload_n 0, 1, 0, 0, 0), (258, none, .getfield 113, 3, 213, 100, 12), (261, none, .getfield 62, 3, 115, 119, 12), (264, none, .iload 4, 2, 0, 0, 0), (266, none, .iaload, 1, 0, 0, 0), (267, none, .i2l, 1, 0, 0, 0)] := fq_of2 cd_355 ow_355 cl_355 rfl (pc := 233) (by decide +kernel)
              j_aldn (pc := 233) D rfl rfl rfl fun D =>
              j_gs (pc := 234) D rfl fun D =>
              j_ane (pc := 237) D rfl (fun q D =>
                j_aldn (pc := 240) D rfl rfl rfl fun D =>
                j_aldn (pc := 241) D rfl rfl rfl fun D =>
                j_ane (pc := 242) D rfl (fun q D =>
                  j_aldn (pc := 245) D rfl rfl rfl fun D =>
                  j_ildn (pc := 246) D rfl rfl rfl fun D =>
                  j_aldn (pc := 247) D rfl rfl rfl fun D =>
                  j_gfc (pc := 248) (a := 303) D rfl rfl (by decide) rfl (s0_303 H) rfl (sf_213_303 H) fun D =>
                  j_gfc (pc := 251) (a := 309) D rfl rfl (by decide) rfl (s0_309 H) rfl (sf_115_309 H) fun D =>
                  j_ildn (pc := 254) D rfl rfl rfl fun D =>
                  j_al (pc := 255) (a := 311) (e := 10) D rfl rfl rfl (by decide) (s0_311 H) (s1_311 H) ⟨rfl, rfl, rfl⟩ rfl gn fun qb37 D =>
                  j_i2l (pc := 256) D rfl fun D =>
                  j_aldn (pc := 257) D rfl rfl rfl fun D =>
                  j_gfc (pc := 258) (a := 303) D rfl rfl (by decide) rfl (s0_303 H) rfl (sf_213_303 H) fun D =>
                  j_gfc (pc := 261) (a := 309) D rfl rfl (by decide) rfl (s0_309 H) rfl (sf_115_309 H) fun D =>
                  j_ild (pc := 264) D rfl rfl rfl fun D =>
                  j_al (pc := 266) (a := 311) (e := 10) D rfl rfl rfl (by decide) (s0_311 H) (s1_311 H) ⟨rfl, rfl, rfl⟩ rfl gn fun qb38 D =>
                  j_i2l (pc := 267) D rfl fun D =>
                  have D : fk_D 355 [(268, none, .lmul, 1, 0, 0, 0), (269, none, .invokevirtual 175, 3, 2, 121, 0), (272, none, .goto 36, 3, 308, 0, 0)] := fq_of2 cd_355 ow_355 cl_355 rfl (pc := 268) (by decide +kernel)
                  j_lmul (pc := 268) D rfl fun D =>
                  j_ivv (pc := 269) (m := 353) (dd := 121) (a := [(0, x1), (1, wJ ((wI (h 10 311 x1.toNat)) * (wI (h 10 311 (wI (x1 + 1)).toNat))))]) (rest := []) D rfl rfl rfl rfl rfl (by decide) (s0_303 H) (by decide +kernel) (fun h39 e1 D =>
                    have T := fj_run_ok _ _ _ _ _ _ H.1 e1
                    have H := shp_st H T
                    j_goto (pc := 272) D rfl <|
                    have D : fk_D 355 [(308, none, .return_, 1, 0, 0, 0)] := fq_of2 cd_355 ow_355 cl_355 rfl (pc := 308) (by decide +kernel)
                    j_vret D rt_355) (fun q41 h39 e1 =>
                    j_tx (hx_355 _))) (fun q =>
                  fk_jump cut_355_275 rfl rfl)) (fun q =>
                fk_jump cut_355_275 rfl rfl))))))
/-! 356 StatuteHouse.times(IJJJ)V -/
theorem cd_356 : fi_code 356 = prog_1_method_21_code := rfl
theorem hx_356 : ∀ pc, fi_hat 356 pc = none := fun pc => by unfold fi_hat; rw [show fi_hh 356 = [] from rfl]; rfl
theorem rt_356 : fi_ret 356 = none := rfl
theorem nl_356 : fi_nl 356 = 8 := rfl
theorem ow_356 : fi_ow 356 = 0 := rfl
theorem cl_356 : fj_cutT.getD 356 [] = [(38, [0, 1, 2, 4, 6])] := rfl
theorem cut_356_38 : fj_cut 356 38 = some [0, 1, 2, 4, 6] := by decide +kernel
noncomputable def c_356_38 (d : Nat) (x1 x2 x4 x6 : Int) (h : fi_H) : fk_R := gG (fj_run d) 356 38 [(0, (4, 303)), (1, (0, x1)), (2, (1, x2)), (4, (1, x4)), (6, (1, x6))] [] h
theorem e_356_38 (d : Nat) (x1 x2 x4 x6 : Int) {h : fi_H} (H : Shp h) : c_356_38 d x1 x2 x4 x6 h =
  ca_ (fj_run d 358 h [(1, wJ (x2 * x4)), (1, x6)]) 1
    (fun v2 h1 =>
    cv_ (fj_run d 347 h1 [(4, 303), (0, x1), (1, v2)])
      (fun h4 =>
      some (.inl none, h4))
      (fun q6 h4 => tx_ q6 h4))
    (fun q3 h1 => tx_ q3 h1) := by
  unfold c_356_38
  exact
    have D : fk_D 356 [(38, some [0, 1, 2, 4, 6], .aload_n 0, 1, 0, 0, 0), (39, none, .iload_n 1, 1, 0, 0, 0), (40, none, .lload_n 2, 1, 0, 0, 0), (41, none, .lload 4, 2, 0, 0, 0), (43, none, .lmul, 1, 0, 0, 0), (44, none, .lload 6, 2, 0, 0, 0), (46, none, .invokestatic 197, 3, 2, 358, 2), (49, none, .invokevirtual 155, 3, 2, 116, 0), (52, none, .return_, 1, 0, 0, 0)] := fq_of2 cd_356 ow_356 cl_356 rfl (pc := 38) (by decide +kernel)
    j_aldn (pc := 38) D rfl rfl rfl fun D =>
    j_ildn (pc := 39) D rfl rfl rfl fun D =>
    j_lldn (pc := 40) D rfl rfl rfl fun D =>
    j_lld (pc := 41) D rfl rfl rfl fun D =>
    j_lmul (pc := 43) D rfl fun D =>
    j_lld (pc := 44) D rfl rfl rfl fun D =>
    j_is (pc := 46) (m := 358) (a := [(1, wJ (x2 * x4)), (1, x6)]) (rest := [(0, x1), (4, 303)]) D rfl rfl rfl rfl (fun v2 h1 e1 D =>
      have T := fj_run_ok _ _ _ _ _ _ H.1 e1
      have H := shp_st H T
      j_ivv (pc := 49) (m := 347) (dd := 116) (a := [(0, x1), (1, v2)]) (rest := []) D rfl rfl rfl rfl rfl (by decide) (s0_303 H) (by decide +kernel) (fun h4 e1 D =>
        have T := fj_run_ok _ _ _ _ _ _ H.1 e1
        have H := shp_st H T
        j_vret D rt_356) (fun q6 h4 e1 =>
        j_tx (hx_356 _))) (fun q3 h1 e1 =>
      j_tx (hx_356 _))
theorem m_356 (d : Nat) (x1 x2 x4 x6 : Int) {h : fi_H} (H : Shp h) : fj_run (d + 1) 356 h [(4, 303), (0, x1), (1, x2), (1, x4), (1, x6)] =
  if lc_ x6 1 = 0 then
    if lc_ x4 0 = 0 then
      c_356_38 d x1 x2 x4 x6 h
    else
      ca_ (fj_run d 357 h [(1, x2)]) 1
        (fun v2 h1 =>
        ca_ (fj_run d 357 h1 [(1, x4)]) 1
          (fun v5 h4 =>
          if v5 = 0 then none else
          if 0 < lc_ v2 (lq_ 1000000000000 v5) then
            ca_ (fj_run d 310 h4 [(4, 303), (0, 8)]) 4
              (fun v8 h7 =>
              if v8 ≠ 0 then
              tx_ v8.toNat h7
              else none)
              (fun q9 h7 => tx_ q9 h7)
          else
            c_356_38 d x1 x2 x4 x6 h4)
          (fun q6 h4 => tx_ q6 h4))
        (fun q3 h1 => tx_ q3 h1)
  else
    c_356_38 d x1 x2 x4 x6 h := by
  rw [fj_run_eq d (by decide) h [(4, 303), (0, x1), (1, x2), (1, x4), (1, x6)] (Nat.le_of_ble_eq_true (by rw [nl_356]; rfl))]
  show gG (fj_run d) 356 0 [(0, (4, 303)), (1, (0, x1)), (2, (1, x2)), (4, (1, x4)), (6, (1, x6))] [] h = _
  exact
    have D : fk_D 356 [(0, none, .lload 6, 2, 0, 0, 0), (2, none, .lconst 1, 1, 0, 0, 0), (3, none, .lcmp, 1, 0, 0, 0), (4, none, .ifCond .ne 34, 3, 38, 0, 0), (7, none, .lload 4, 2, 0, 0, 0), (9, none, .lconst 0, 1, 0, 0, 0), (10, none, .lcmp, 1, 0, 0, 0), (11, none, .ifCond .eq 27, 3, 38, 0, 0), (14, none, .lload_n 2, 1, 0, 0, 0), (15, none, .invokestatic 191, 3, 1, 357, 2), (18, none, .ldc2_w 119, 3, 1, 1000000000000, 0), (21, none, .lload 4, 2, 0, 0, 0), (23, none, .invokestatic 191, 3, 1, 357, 2), (26, none, .ldiv, 1, 0, 0, 0), (27, none, .lcmp, 1, 0, 0, 0), (28, none, .ifCond .le 10, 3, 38, 0, 0), (31, none, .aload_n 0, 1, 0, 0, 0), (32, none, .bipush 8, 2, 0, 8, 0), (34, none, .invokevirtual 109, 3, 1, 112, 5), (37, none, .athrow, 1, 0, 0, 0)] := fq_of2 cd_356 ow_356 cl_356 rfl (pc := 0) (by decide +kernel)
    j_lld (pc := 0) D rfl rfl rfl fun D =>
    j_c0 (pc := 2) (v := (1, 1)) D rfl rfl (by decide +kernel) fun D =>
    j_lcmp (pc := 3) D rfl fun D =>
    j_ifne (pc := 4) D rfl (fun q D =>
      j_lld (pc := 7) D rfl rfl rfl fun D =>
      j_c0 (pc := 9) (v := (1, 0)) D rfl rfl (by decide +kernel) fun D =>
      j_lcmp (pc := 10) D rfl fun D =>
      j_ifeq (pc := 11) D rfl (fun q =>
        fk_jump cut_356_38 rfl rfl) (fun q D =>
        j_lldn (pc := 14) D rfl rfl rfl fun D =>
        j_is (pc := 15) (m := 357) (a := [(1, x2)]) (rest := []) D rfl rfl rfl rfl (fun v2 h1 e1 D =>
          have T := fj_run_ok _ _ _ _ _ _ H.1 e1
          have H := shp_st H T
          j_ldc2 (pc := 18) D rfl fun D =>
          j_lld (pc := 21) D rfl rfl rfl fun D =>
          j_is (pc := 23) (m := 357) (a := [(1, x4)]) (rest := [(1, 1000000000000), (1, v2)]) D rfl rfl rfl rfl (fun v5 h4 e1 D =>
            have T := fj_run_ok _ _ _ _ _ _ H.1 e1
            have H := shp_st H T
            j_ldiv (pc := 26) D rfl fun q D =>
            j_lcmp (pc := 27) D rfl fun D =>
            j_ifle (pc := 28) D rfl (fun q D =>
              j_aldn (pc := 31) D rfl rfl rfl fun D =>
              j_bp (pc := 32) D rfl fun D =>
              j_iv (pc := 34) (m := 310) (dd := 112) (a := [(0, 8)]) (rest := []) D rfl rfl rfl rfl rfl (by decide) (s0_303 H) (by decide +kernel) (fun v8 h7 e1 D =>
                have T := fj_run_ok _ _ _ _ _ _ H.1 e1
                have H := shp_st H T
                j_at (pc := 37) D gn <|
                j_tx (hx_356 _)) (fun q9 h7 e1 =>
                j_tx (hx_356 _))) (fun q =>
              fk_jump cut_356_38 rfl rfl)) (fun q6 h4 e1 =>
            j_tx (hx_356 _))) (fun q3 h1 e1 =>
          j_tx (hx_356 _)))) (fun q =>
      fk_jump cut_356_38 rfl rfl)
/-! 357 java/lang/Math.abs(J)J -/
theorem cd_357 : fi_code 357 = prog_82_method_61_code := rfl
theorem hx_357 : ∀ pc, fi_hat 357 pc = none := fun pc => by unfold fi_hat; rw [show fi_hh 357 = [] from rfl]; rfl
theorem rt_357 : fi_ret 357 = some .long := rfl
theorem nl_357 : fi_nl 357 = 2 := rfl
theorem ow_357 : fi_ow 357 = 75 := rfl
theorem cl_357 : fj_cutT.getD 357 [] = [] := rfl
theorem m_357 (d : Nat) (x0 : Int) {h : fi_H} (H : Shp h) : fj_run (d + 1) 357 h [(1, x0)] =
  if lc_ x0 0 < 0 then
    some (.inl (some (1, wJ (-x0))), h)
  else
    some (.inl (some (1, x0)), h) := by
  rw [fj_run_eq d (by decide) h [(1, x0)] (Nat.le_of_ble_eq_true (by rw [nl_357]; rfl))]
  show gG (fj_run d) 357 0 [(0, (1, x0))] [] h = _
  exact
    have D : fk_D 357 [(0, none, .lload_n 0, 1, 0, 0, 0), (1, none, .lconst 0, 1, 0, 0, 0), (2, none, .lcmp, 1, 0, 0, 0), (3, none, .ifCond .ge 8, 3, 11, 0, 0), (6, none, .lload_n 0, 1, 0, 0, 0), (7, none, .lneg, 1, 0, 0, 0), (8, none, .goto 4, 3, 12, 0, 0)] := fq_of2 cd_357 ow_357 cl_357 rfl (pc := 0) (by decide +kernel)
    j_lldn (pc := 0) D rfl rfl rfl fun D =>
    j_c0 (pc := 1) (v := (1, 0)) D rfl rfl (by decide +kernel) fun D =>
    j_lcmp (pc := 2) D rfl fun D =>
    j_ifge (pc := 3) D rfl (fun q D =>
      j_lldn (pc := 6) D rfl rfl rfl fun D =>
      j_lneg (pc := 7) D rfl fun D =>
      j_goto (pc := 8) D rfl <|
      have D : fk_D 357 [(12, none, .lreturn, 1, 0, 0, 0)] := fq_of2 cd_357 ow_357 cl_357 rfl (pc := 12) (by decide +kernel)
      j_lret D rt_357) (fun q =>
      have D : fk_D 357 [(11, none, .lload_n 0, 1, 0, 0, 0), (12, none, .lreturn, 1, 0, 0, 0)] := fq_of2 cd_357 ow_357 cl_357 rfl (pc := 11) (by decide +kernel)
      j_lldn (pc := 11) D rfl rfl rfl fun D =>
      j_lret D rt_357)
/-! 358 StatuteHouse.near(JJ)J -/
theorem cd_358 : fi_code 358 = prog_1_method_1_code := rfl
theorem hx_358 : ∀ pc, fi_hat 358 pc = none := fun pc => by unfold fi_hat; rw [show fi_hh 358 = [] from rfl]; rfl
theorem rt_358 : fi_ret 358 = some .long := rfl
theorem nl_358 : fi_nl 358 = 10 := rfl
theorem ow_358 : fi_ow 358 = 0 := rfl
theorem cl_358 : fj_cutT.getD 358 [] = [(12, [0, 2]), (45, [0, 6])] := rfl
theorem cut_358_12 : fj_cut 358 12 = some [0, 2] := by decide +kernel
noncomputable def c_358_12 (d : Nat) (x0 x2 s0 : Int) (h : fi_H) : fk_R := gG (fj_run d) 358 12 [(0, (1, x0)), (2, (1, x2))] [(1, s0)] h
theorem cut_358_45 : fj_cut 358 45 = some [0, 6] := by decide +kernel
noncomputable def c_358_45 (d : Nat) (x0 x6 : Int) (h : fi_H) : fk_R := gG (fj_run d) 358 45 [(0, (1, x0)), (6, (1, x6))] [] h
theorem e_358_12 (d : Nat) (x0 x2 s0 : Int) {h : fi_H} (H : Shp h) : c_358_12 d x0 x2 s0 h =
  if x2 = 0 then none else
  if lc_ (wJ (s0 - (wJ ((lq_ s0 x2) * x2)))) (wJ (x2 - (wJ (s0 - (wJ ((lq_ s0 x2) * x2)))))) < 0 then
    c_358_45 d x0 (lq_ s0 x2) h
  else
    c_358_45 d x0 (wJ ((lq_ s0 x2) + 1)) h := by
  unfold c_358_12
  exact
    have D : fk_D 358 [(12, some [0, 2], .lstore 4, 2, 0, 0, 0), (14, none, .lload 4, 2, 0, 0, 0), (16, none, .lload_n 2, 1, 0, 0, 0), (17, none, .ldiv, 1, 0, 0, 0), (18, none, .lstore 6, 2, 0, 0, 0), (20, none, .lload 4, 2, 0, 0, 0), (22, none, .lload 6, 2, 0, 0, 0), (24, none, .lload_n 2, 1, 0, 0, 0), (25, none, .lmul, 1, 0, 0, 0), (26, none, .lsub, 1, 0, 0, 0), (27, none, .lstore 8, 2, 0, 0, 0), (29, none, .lload 8, 2, 0, 0, 0), (31, none, .lload_n 2, 1, 0, 0, 0), (32, none, .lload 8, 2, 0, 0, 0), (34, none, .lsub, 1, 0, 0, 0), (35, none, .lcmp, 1, 0, 0, 0), (36, none, .ifCond .lt 9, 3, 45, 0, 0), (39, none, .lload 6, 2, 0, 0, 0), (41, none, .lconst 1, 1, 0, 0, 0), (42, none, .ladd, 1, 0, 0, 0)] := fq_of2 cd_358 ow_358 cl_358 rfl (pc := 12) (by decide +kernel)
    j_lst (pc := 12) (L' := [(4, (1, s0)), (0, (1, x0)), (2, (1, x2))]) D rfl nl_358 rfl rfl fun D =>
    j_lld (pc := 14) D rfl rfl rfl fun D =>
    j_lldn (pc := 16) D rfl rfl rfl fun D =>
    j_ldiv (pc := 17) D rfl fun q D =>
    j_lst (pc := 18) (L' := [(6, (1, lq_ s0 x2)), (4, (1, s0)), (0, (1, x0)), (2, (1, x2))]) D rfl nl_358 rfl rfl fun D =>
    j_lld (pc := 20) D rfl rfl rfl fun D =>
    j_lld (pc := 22) D rfl rfl rfl fun D =>
    j_lldn (pc := 24) D rfl rfl rfl fun D =>
    j_lmul (pc := 25) D rfl fun D =>
    j_lsub (pc := 26) D rfl fun D =>
    j_lst (pc := 27) (L' := [(8, (1, wJ (s0 - (wJ ((lq_ s0 x2) * x2))))), (6, (1, lq_ s0 x2)), (4, (1, s0)), (0, (1, x0)), (2, (1, x2))]) D rfl nl_358 rfl rfl fun D =>
    j_lld (pc := 29) D rfl rfl rfl fun D =>
    j_lldn (pc := 31) D rfl rfl rfl fun D =>
    j_lld (pc := 32) D rfl rfl rfl fun D =>
    j_lsub (pc := 34) D rfl fun D =>
    j_lcmp (pc := 35) D rfl fun D =>
    j_iflt (pc := 36) D rfl (fun q =>
      fk_jump cut_358_45 rfl rfl) (fun q D =>
      j_lld (pc := 39) D rfl rfl rfl fun D =>
      j_c0 (pc := 41) (v := (1, 1)) D rfl rfl (by decide +kernel) fun D =>
      j_ladd (pc := 42) D rfl fun D =>
      have D : fk_D 358 [(43, none, .lstore 6, 2, 0, 0, 0)] := fq_of2 cd_358 ow_358 cl_358 rfl (pc := 43) (by decide +kernel)
      j_lst (pc := 43) (L' := [(6, (1, wJ ((lq_ s0 x2) + 1))), (8, (1, wJ (s0 - (wJ ((lq_ s0 x2) * x2))))), (4, (1, s0)), (0, (1, x0)), (2, (1, x2))]) D rfl nl_358 rfl rfl fun D =>
      fk_jump cut_358_45 rfl rfl)
theorem e_358_45 (d : Nat) (x0 x6 : Int) {h : fi_H} (H : Shp h) : c_358_45 d x0 x6 h =
  if lc_ x0 0 < 0 then
    some (.inl (some (1, wJ (-x6))), h)
  else
    some (.inl (some (1, x6)), h) := by
  unfold c_358_45
  exact
    have D : fk_D 358 [(45, some [0, 6], .lload_n 0, 1, 0, 0, 0), (46, none, .lconst 0, 1, 0, 0, 0), (47, none, .lcmp, 1, 0, 0, 0), (48, none, .ifCond .ge 9, 3, 57, 0, 0), (51, none, .lload 6, 2, 0, 0, 0), (53, none, .lneg, 1, 0, 0, 0), (54, none, .goto 5, 3, 59, 0, 0)] := fq_of2 cd_358 ow_358 cl_358 rfl (pc := 45) (by decide +kernel)
    j_lldn (pc := 45) D rfl rfl rfl fun D =>
    j_c0 (pc := 46) (v := (1, 0)) D rfl rfl (by decide +kernel) fun D =>
    j_lcmp (pc := 47) D rfl fun D =>
    j_ifge (pc := 48) D rfl (fun q D =>
      j_lld (pc := 51) D rfl rfl rfl fun D =>
      j_lneg (pc := 53) D rfl fun D =>
      j_goto (pc := 54) D rfl <|
      have D : fk_D 358 [(59, none, .lreturn, 1, 0, 0, 0)] := fq_of2 cd_358 ow_358 cl_358 rfl (pc := 59) (by decide +kernel)
      j_lret D rt_358) (fun q =>
      have D : fk_D 358 [(57, none, .lload 6, 2, 0, 0, 0), (59, none, .lreturn, 1, 0, 0, 0)] := fq_of2 cd_358 ow_358 cl_358 rfl (pc := 57) (by decide +kernel)
      j_lld (pc := 57) D rfl rfl rfl fun D =>
      j_lret D rt_358)
theorem m_358 (d : Nat) (x0 x2 : Int) {h : fi_H} (H : Shp h) : fj_run (d + 1) 358 h [(1, x0), (1, x2)] =
  if lc_ x0 0 < 0 then
    c_358_12 d x0 x2 (wJ (-x0)) h
  else
    c_358_12 d x0 x2 x0 h := by
  rw [fj_run_eq d (by decide) h [(1, x0), (1, x2)] (Nat.le_of_ble_eq_true (by rw [nl_358]; rfl))]
  show gG (fj_run d) 358 0 [(0, (1, x0)), (2, (1, x2))] [] h = _
  exact
    have D : fk_D 358 [(0, none, .lload_n 0, 1, 0, 0, 0), (1, none, .lconst 0, 1, 0, 0, 0), (2, none, .lcmp, 1, 0, 0, 0), (3, none, .ifCond .ge 8, 3, 11, 0, 0), (6, none, .lload_n 0, 1, 0, 0, 0), (7, none, .lneg, 1, 0, 0, 0), (8, none, .goto 4, 3, 12, 0, 0)] := fq_of2 cd_358 ow_358 cl_358 rfl (pc := 0) (by decide +kernel)
    j_lldn (pc := 0) D rfl rfl rfl fun D =>
    j_c0 (pc := 1) (v := (1, 0)) D rfl rfl (by decide +kernel) fun D =>
    j_lcmp (pc := 2) D rfl fun D =>
    j_ifge (pc := 3) D rfl (fun q D =>
      j_lldn (pc := 6) D rfl rfl rfl fun D =>
      j_lneg (pc := 7) D rfl fun D =>
      j_goto (pc := 8) D rfl <|
      fk_jump cut_358_12 rfl rfl) (fun q =>
      have D : fk_D 358 [(11, none, .lload_n 0, 1, 0, 0, 0)] := fq_of2 cd_358 ow_358 cl_358 rfl (pc := 11) (by decide +kernel)
      j_lldn (pc := 11) D rfl rfl rfl fun D =>
      fk_jump cut_358_12 rfl rfl)
/-! 359 StatuteHouse.divide(ILStatuteHouse$Kind;LStatuteHouse$Kind;)V -/
theorem cd_359 : fi_code 359 = prog_1_method_22_code := rfl
theorem hx_359 : ∀ pc, fi_hat 359 pc = none := fun pc => by unfold fi_hat; rw [show fi_hh 359 = [] from rfl]; rfl
theorem rt_359 : fi_ret 359 = none := rfl
theorem nl_359 : fi_nl 359 = 9 := rfl
theorem ow_359 : fi_ow 359 = 0 := rfl
theorem cl_359 : fj_cutT.getD 359 [] = [(123, [0, 1, 2, 3, 4]), (210, [])] := rfl
theorem cut_359_123 : fj_cut 359 123 = some [0, 1, 2, 3, 4] := by decide +kernel
noncomputable def c_359_123 (d : Nat) (x1 x2 x3 x4 : Int) (h : fi_H) : fk_R := gG (fj_run d) 359 123 [(0, (4, 303)), (1, (0, x1)), (2, (4, x2)), (3, (4, x3)), (4, (0, x4))] [] h
theorem cut_359_210 : fj_cut 359 210 = some [] := by decide +kernel
noncomputable def c_359_210 (d : Nat) (s0 s1 s2 : Int) (h : fi_H) : fk_R := gG (fj_run d) 359 210 [] [(1, s2), (0, s1), (4, s0)] h
theorem e_359_123 (d : Nat) (x1 x2 x3 x4 : Int) {h : fi_H} (H : Shp h) : c_359_123 d x1 x2 x3 x4 h =
  ca_ (fj_run d 344 h [(4, 303), (0, x4), (4, x3)]) 1
    (fun v2 h1 =>
    ca_ (fj_run d 345 h1 [(4, 303), (0, x4), (4, x3)]) 1
      (fun v5 h4 =>
      if lc_ v2 0 = 0 then
        ca_ (fj_run d 310 h4 [(4, 303), (0, 7)]) 4
          (fun v8 h7 =>
          if v8 ≠ 0 then
          tx_ v8.toNat h7
          else none)
          (fun q9 h7 => tx_ q9 h7)
      else
        if x2 = 4 then
          if lc_ v2 0 < 0 then
            if 0 ≤ x1 ∧ x1 < 700 then
            ca_ (fj_run d 358 h4 [(1, wJ ((wJ (-(h4 11 315 x1.toNat))) * v5)), (1, wJ (-v2))]) 1
              (fun v12 h11 =>
              c_359_210 d 303 x1 v12 h11)
              (fun q13 h11 => tx_ q13 h11)
            else none
          else
            if 0 ≤ x1 ∧ x1 < 700 then
            ca_ (fj_run d 358 h4 [(1, wJ ((h4 11 315 x1.toNat) * v5)), (1, v2)]) 1
              (fun v16 h15 =>
              c_359_210 d 303 x1 v16 h15)
              (fun q17 h15 => tx_ q17 h15)
            else none
        else
          ca_ (fj_run d 344 h4 [(4, 303), (0, x1), (4, x2)]) 1
            (fun v19 h18 =>
            ca_ (fj_run d 345 h18 [(4, 303), (0, x1), (4, x2)]) 1
              (fun v22 h21 =>
              cv_ (fj_run d 354 h21 [(4, 303), (0, x1), (1, wJ (v19 * v5)), (1, wJ (v22 * v2))])
                (fun h24 =>
                some (.inl none, h24))
                (fun q26 h24 => tx_ q26 h24))
              (fun q23 h21 => tx_ q23 h21))
            (fun q20 h18 => tx_ q20 h18))
      (fun q6 h4 => tx_ q6 h4))
    (fun q3 h1 => tx_ q3 h1) := by
  unfold c_359_123
  exact
    have D : fk_D 359 [(123, some [0, 1, 2, 3, 4], .aload_n 0, 1, 0, 0, 0), (124, none, .iload 4, 2, 0, 0, 0), (126, none, .aload_n 3, 1, 0, 0, 0), (127, none, .invokevirtual 150, 3, 2, 114, 2), (130, none, .lstore 5, 2, 0, 0, 0), (132, none, .aload_n 0, 1, 0, 0, 0), (133, none, .iload 4, 2, 0, 0, 0), (135, none, .aload_n 3, 1, 0, 0, 0), (136, none, .invokevirtual 153, 3, 2, 115, 2), (139, none, .lstore 7, 2, 0, 0, 0), (141, none, .lload 5, 2, 0, 0, 0), (143, none, .lconst 0, 1, 0, 0, 0), (144, none, .lcmp, 1, 0, 0, 0), (145, none, .ifCond .ne 10, 3, 155, 0, 0), (148, none, .aload_n 0, 1, 0, 0, 0), (149, none, .bipush 7, 2, 0, 7, 0), (151, none, .invokevirtual 109, 3, 1, 112, 5), (154, none, .athrow, 1, 0, 0, 0)] := fq_of2 cd_359 ow_359 cl_359 rfl (pc := 123) (by decide +kernel)
    j_aldn (pc := 123) D rfl rfl rfl fun D =>
    j_ild (pc := 124) D rfl rfl rfl fun D =>
    j_aldn (pc := 126) D rfl rfl rfl fun D =>
    j_iv (pc := 127) (m := 344) (dd := 114) (a := [(0, x4), (4, x3)]) (rest := []) D rfl rfl rfl rfl rfl (by decide) (s0_303 H) (by decide +kernel) (fun v2 h1 e1 D =>
      have T := fj_run_ok _ _ _ _ _ _ H.1 e1
      have H := shp_st H T
      j_lst (pc := 130) (L' := [(5, (1, v2)), (0, (4, 303)), (1, (0, x1)), (2, (4, x2)), (3, (4, x3)), (4, (0, x4))]) D rfl nl_359 rfl rfl fun D =>
      j_aldn (pc := 132) D rfl rfl rfl fun D =>
      j_ild (pc := 133) D rfl rfl rfl fun D =>
      j_aldn (pc := 135) D rfl rfl rfl fun D =>
      j_iv (pc := 136) (m := 345) (dd := 115) (a := [(0, x4), (4, x3)]) (rest := []) D rfl rfl rfl rfl rfl (by decide) (s0_303 H) (by decide +kernel) (fun v5 h4 e1 D =>
        have T := fj_run_ok _ _ _ _ _ _ H.1 e1
        have H := shp_st H T
        j_lst (pc := 139) (L' := [(7, (1, v5)), (5, (1, v2)), (0, (4, 303)), (1, (0, x1)), (2, (4, x2)), (3, (4, x3)), (4, (0, x4))]) D rfl nl_359 rfl rfl fun D =>
        j_lld (pc := 141) D rfl rfl rfl fun D =>
        j_c0 (pc := 143) (v := (1, 0)) D rfl rfl (by decide +kernel) fun D =>
        j_lcmp (pc := 144) D rfl fun D =>
        j_ifne (pc := 145) D rfl (fun q D =>
          j_aldn (pc := 148) D rfl rfl rfl fun D =>
          j_bp (pc := 149) D rfl fun D =>
          j_iv (pc := 151) (m := 310) (dd := 112) (a := [(0, 7)]) (rest := []) D rfl rfl rfl rfl rfl (by decide) (s0_303 H) (by decide +kernel) (fun v8 h7 e1 D =>
            have T := fj_run_ok _ _ _ _ _ _ H.1 e1
            have H := shp_st H T
            j_at (pc := 154) D gn <|
            j_tx (hx_359 _)) (fun q9 h7 e1 =>
            j_tx (hx_359 _))) (fun q =>
          have D : fk_D 359 [(155, none, .aload_n 2, 1, 0, 0, 0), (156, none, .getstatic 184, 3, 4, 4, 0), (159, none, .if_acmp .ne 57, 3, 216, 0, 0), (162, none, .aload_n 0, 1, 0, 0, 0), (163, none, .iload_n 1, 1, 0, 0, 0), (164, none, .lload 5, 2, 0, 0, 0), (166, none, .lconst 0, 1, 0, 0, 0), (167, none, .lcmp, 1, 0, 0, 0), (168, none, .ifCond .ge 25, 3, 193, 0, 0), (171, none, .aload_n 0, 1, 0, 0, 0), (172, none, .getfield 113, 3, 213, 100, 12), (175, none, .getfield 66, 3, 119, 119, 12), (178, none, .iload_n 1, 1, 0, 0, 0), (179, none, .laload, 1, 0, 0, 0), (180, none, .lneg, 1, 0, 0, 0), (181, none, .lload 7, 2, 0, 0, 0), (183, none, .lmul, 1, 0, 0, 0), (184, none, .lload 5, 2, 0, 0, 0), (186, none, .lneg, 1, 0, 0, 0), (187, none, .invokestatic 197, 3, 2, 358, 2)] := fq_of2 cd_359 ow_359 cl_359 rfl (pc := 155) (by decide +kernel)
          j_aldn (pc := 155) D rfl rfl rfl fun D =>
          j_gs (pc := 156) D rfl fun D =>
          j_ane (pc := 159) D rfl (fun q D =>
            j_aldn (pc := 162) D rfl rfl rfl fun D =>
            j_ildn (pc := 163) D rfl rfl rfl fun D =>
            j_lld (pc := 164) D rfl rfl rfl fun D =>
            j_c0 (pc := 166) (v := (1, 0)) D rfl rfl (by decide +kernel) fun D =>
            j_lcmp (pc := 167) D rfl fun D =>
            j_ifge (pc := 168) D rfl (fun q D =>
              j_aldn (pc := 171) D rfl rfl rfl fun D =>
              j_gfc (pc := 172) (a := 303) D rfl rfl (by decide) rfl (s0_303 H) rfl (sf_213_303 H) fun D =>
              j_gfc (pc := 175) (a := 309) D rfl rfl (by decide) rfl (s0_309 H) rfl (sf_119_309 H) fun D =>
              j_ildn (pc := 178) D rfl rfl rfl fun D =>
              j_al (pc := 179) (a := 315) (e := 11) D rfl rfl rfl (by decide) (s0_315 H) (s1_315 H) ⟨rfl, rfl, rfl⟩ rfl gn fun qb10 D =>
              j_lneg (pc := 180) D rfl fun D =>
              j_lld (pc := 181) D rfl rfl rfl fun D =>
              j_lmul (pc := 183) D rfl fun D =>
              j_lld (pc := 184) D rfl rfl rfl fun D =>
              j_lneg (pc := 186) D rfl fun D =>
              j_is (pc := 187) (m := 358) (a := [(1, wJ ((wJ (-(h4 11 315 x1.toNat))) * v5)), (1, wJ (-v2))]) (rest := [(0, x1), (4, 303)]) D rfl rfl rfl rfl (fun v12 h11 e1 D =>
                have T := fj_run_ok _ _ _ _ _ _ H.1 e1
                have H := shp_st H T
                have D : fk_D 359 [(190, none, .goto 20, 3, 210, 0, 0)] := fq_of2 cd_359 ow_359 cl_359 rfl (pc := 190) (by decide +kernel)
                j_goto (pc := 190) D rfl <|
                fk_jump cut_359_210 rfl rfl) (fun q13 h11 e1 =>
                j_tx (hx_359 _))) (fun q =>
              have D : fk_D 359 [(193, none, .aload_n 0, 1, 0, 0, 0), (194, none, .getfield 113, 3, 213, 100, 12), (197, none, .getfield 66, 3, 119, 119, 12), (200, none, .iload_n 1, 1, 0, 0, 0), (201, none, .laload, 1, 0, 0, 0), (202, none, .lload 7, 2, 0, 0, 0), (204, none, .lmul, 1, 0, 0, 0), (205, none, .lload 5, 2, 0, 0, 0), (207, none, .invokestatic 197, 3, 2, 358, 2)] := fq_of2 cd_359 ow_359 cl_359 rfl (pc := 193) (by decide +kernel)
              j_aldn (pc := 193) D rfl rfl rfl fun D =>
              j_gfc (pc := 194) (a := 303) D rfl rfl (by decide) rfl (s0_303 H) rfl (sf_213_303 H) fun D =>
              j_gfc (pc := 197) (a := 309) D rfl rfl (by decide) rfl (s0_309 H) rfl (sf_119_309 H) fun D =>
              j_ildn (pc := 200) D rfl rfl rfl fun D =>
              j_al (pc := 201) (a := 315) (e := 11) D rfl rfl rfl (by decide) (s0_315 H) (s1_315 H) ⟨rfl, rfl, rfl⟩ rfl gn fun qb14 D =>
              j_lld (pc := 202) D rfl rfl rfl fun D =>
              j_lmul (pc := 204) D rfl fun D =>
              j_lld (pc := 205) D rfl rfl rfl fun D =>
              j_is (pc := 207) (m := 358) (a := [(1, wJ ((h4 11 315 x1.toNat) * v5)), (1, v2)]) (rest := [(0, x1), (4, 303)]) D rfl rfl rfl rfl (fun v16 h15 e1 D =>
                have T := fj_run_ok _ _ _ _ _ _ H.1 e1
                have H := shp_st H T
                fk_jump cut_359_210 rfl rfl) (fun q17 h15 e1 =>
                j_tx (hx_359 _)))) (fun q =>
            have D : fk_D 359 [(216, none, .aload_n 0, 1, 0, 0, 0), (217, none, .iload_n 1, 1, 0, 0, 0), (218, none, .aload_n 0, 1, 0, 0, 0), (219, none, .iload_n 1, 1, 0, 0, 0), (220, none, .aload_n 2, 1, 0, 0, 0), (221, none, .invokevirtual 150, 3, 2, 114, 2), (224, none, .lload 7, 2, 0, 0, 0), (226, none, .lmul, 1, 0, 0, 0), (227, none, .aload_n 0, 1, 0, 0, 0), (228, none, .iload_n 1, 1, 0, 0, 0), (229, none, .aload_n 2, 1, 0, 0, 0), (230, none, .invokevirtual 153, 3, 2, 115, 2), (233, none, .lload 5, 2, 0, 0, 0), (235, none, .lmul, 1, 0, 0, 0), (236, none, .invokevirtual 178, 3, 3, 122, 0), (239, none, .return_, 1, 0, 0, 0)] := fq_of2 cd_359 ow_359 cl_359 rfl (pc := 216) (by decide +kernel)
            j_aldn (pc := 216) D rfl rfl rfl fun D =>
            j_ildn (pc := 217) D rfl rfl rfl fun D =>
            j_aldn (pc := 218) D rfl rfl rfl fun D =>
            j_ildn (pc := 219) D rfl rfl rfl fun D =>
            j_aldn (pc := 220) D rfl rfl rfl fun D =>
            j_iv (pc := 221) (m := 344) (dd := 114) (a := [(0, x1), (4, x2)]) (rest := [(0, x1), (4, 303)]) D rfl rfl rfl rfl rfl (by decide) (s0_303 H) (by decide +kernel) (fun v19 h18 e1 D =>
              have T := fj_run_ok _ _ _ _ _ _ H.1 e1
              have H := shp_st H T
              j_lld (pc := 224) D rfl rfl rfl fun D =>
              j_lmul (pc := 226) D rfl fun D =>
              j_aldn (pc := 227) D rfl rfl rfl fun D =>
              j_ildn (pc := 228) D rfl rfl rfl fun D =>
              j_aldn (pc := 229) D rfl rfl rfl fun D =>
              j_iv (pc := 230) (m := 345) (dd := 115) (a := [(0, x1), (4, x2)]) (rest := [(1, wJ (v19 * v5)), (0, x1), (4, 303)]) D rfl rfl rfl rfl rfl (by decide) (s0_303 H) (by decide +kernel) (fun v22 h21 e1 D =>
                have T := fj_run_ok _ _ _ _ _ _ H.1 e1
                have H := shp_st H T
                j_lld (pc := 233) D rfl rfl rfl fun D =>
                j_lmul (pc := 235) D rfl fun D =>
                j_ivv (pc := 236) (m := 354) (dd := 122) (a := [(0, x1), (1, wJ (v19 * v5)), (1, wJ (v22 * v2))]) (rest := []) D rfl rfl rfl rfl rfl (by decide) (s0_303 H) (by decide +kernel) (fun h24 e1 D =>
                  have T := fj_run_ok _ _ _ _ _ _ H.1 e1
                  have H := shp_st H T
                  j_vret D rt_359) (fun q26 h24 e1 =>
                  j_tx (hx_359 _))) (fun q23 h21 e1 =>
                j_tx (hx_359 _))) (fun q20 h18 e1 =>
              j_tx (hx_359 _))))) (fun q6 h4 e1 =>
        j_tx (hx_359 _))) (fun q3 h1 e1 =>
      j_tx (hx_359 _))
theorem e_359_210 (d : Nat) (s0 s1 s2 : Int) {h : fi_H} (H : Shp h) : c_359_210 d s0 s1 s2 h =
  dv_ (fi_vt 116 (h 0 s0.toNat 0)) fun m4 => cv_ (fj_run d m4 h [(4, s0), (0, s1), (1, s2)])
    (fun h1 =>
    some (.inl none, h1))
    (fun q3 h1 => tx_ q3 h1) := by
  unfold c_359_210
  exact
    have D : fk_D 359 [(210, some [], .invokevirtual 155, 3, 2, 116, 0), (213, none, .goto 26, 3, 239, 0, 0)] := fq_of2 cd_359 ow_359 cl_359 rfl (pc := 210) (by decide +kernel)
    j_ivuv (pc := 210) (dd := 116) (a := [(0, s1), (1, s2)]) (rest := []) H.2.1 D rfl rfl rfl rfl rfl (fun m4 h1 e1 D =>
      have T := fj_run_ok _ _ _ _ _ _ H.1 e1
      have H := shp_st H T
      j_goto (pc := 213) D rfl <|
      have D : fk_D 359 [(239, none, .return_, 1, 0, 0, 0)] := fq_of2 cd_359 ow_359 cl_359 rfl (pc := 239) (by decide +kernel)
      j_vret D rt_359) (fun m4 q3 h1 e1 =>
      j_tx (hx_359 _))
theorem m_359 (d : Nat) (x1 x2 x3 : Int) {h : fi_H} (H : Shp h) : fj_run (d + 1) 359 h [(4, 303), (0, x1), (4, x2), (4, x3)] =
  if x2 = 8 then
    if 0 ≤ wI (x1 + 1) ∧ wI (x1 + 1) < 700 then
    if dl_ (h 7 318 (wI (x1 + 1)).toNat) 0 = 0 then
      ca_ (fj_run d 310 h [(4, 303), (0, 7)]) 4
        (fun v3 h2 =>
        if v3 ≠ 0 then
        tx_ v3.toNat h2
        else none)
        (fun q4 h2 => tx_ q4 h2)
    else
      if 0 ≤ x1 ∧ x1 < 700 then
      dn_ (FP.ddiv (fi_D (h 7 318 x1.toNat)) (fi_D (h 7 318 (wI (x1 + 1)).toNat))) fun v6 =>
      cv_ (fj_run d 348 h [(4, 303), (0, x1), (3, v6)])
        (fun h7 =>
        some (.inl none, h7))
        (fun q9 h7 => tx_ q9 h7)
      else none
    else none
  else
    if x2 = 4 then
      if x3 = x2 then
        if 0 ≤ wI (x1 + 1) ∧ wI (x1 + 1) < 700 then
        if lc_ (h 11 315 (wI (x1 + 1)).toNat) 0 = 0 then
          ca_ (fj_run d 310 h [(4, 303), (0, 7)]) 4
            (fun v12 h11 =>
            if v12 ≠ 0 then
            tx_ v12.toNat h11
            else none)
            (fun q13 h11 => tx_ q13 h11)
        else
          if 0 ≤ x1 ∧ x1 < 700 then
          cv_ (fj_run d 354 h [(4, 303), (0, x1), (1, h 11 315 x1.toNat), (1, h 11 315 (wI (x1 + 1)).toNat)])
            (fun h15 =>
            some (.inl none, h15))
            (fun q17 h15 => tx_ q17 h15)
          else none
        else none
      else
        c_359_123 d x1 x2 x3 (wI (x1 + 1)) h
    else
      c_359_123 d x1 x2 x3 (wI (x1 + 1)) h := by
  rw [fj_run_eq d (by decide) h [(4, 303), (0, x1), (4, x2), (4, x3)] (Nat.le_of_ble_eq_true (by rw [nl_359]; rfl))]
  show gG (fj_run d) 359 0 [(0, (4, 303)), (1, (0, x1)), (2, (4, x2)), (3, (4, x3))] [] h = _
  exact
    have D : fk_D 359 [(0, none, .iload_n 1, 1, 0, 0, 0), (1, none, .iconst 1, 1, 0, 1, 0), (2, none, .iadd, 1, 0, 0, 0), (3, none, .istore 4, 2, 0, 0, 0), (5, none, .aload_n 2, 1, 0, 0, 0), (6, none, .getstatic 181, 3, 4, 8, 0), (9, none, .if_acmp .ne 53, 3, 62, 0, 0), (12, none, .aload_n 0, 1, 0, 0, 0), (13, none, .getfield 113, 3, 213, 100, 12), (16, none, .getfield 87, 3, 122, 119, 12), (19, none, .iload 4, 2, 0, 0, 0), (21, none, .daload, 1, 0, 0, 0), (22, none, .dconst 0, 1, 0, 0, 0), (23, none, .dcmp .l, 1, 0, 0, 0), (24, none, .ifCond .ne 10, 3, 34, 0, 0), (27, none, .aload_n 0, 1, 0, 0, 0), (28, none, .bipush 7, 2, 0, 7, 0), (30, none, .invokevirtual 109, 3, 1, 112, 5), (33, none, .athrow, 1, 0, 0, 0)] := fq_of2 cd_359 ow_359 cl_359 rfl (pc := 0) (by decide +kernel)
    j_ildn (pc := 0) D rfl rfl rfl fun D =>
    j_ic (pc := 1) D rfl fun D =>
    j_iadd (pc := 2) D rfl fun D =>
    j_ist (pc := 3) (L' := [(4, (0, wI (x1 + 1))), (0, (4, 303)), (1, (0, x1)), (2, (4, x2)), (3, (4, x3))]) D rfl nl_359 rfl rfl fun D =>
    j_aldn (pc := 5) D rfl rfl rfl fun D =>
    j_gs (pc := 6) D rfl fun D =>
    j_ane (pc := 9) D rfl (fun q D =>
      j_aldn (pc := 12) D rfl rfl rfl fun D =>
      j_gfc (pc := 13) (a := 303) D rfl rfl (by decide) rfl (s0_303 H) rfl (sf_213_303 H) fun D =>
      j_gfc (pc := 16) (a := 309) D rfl rfl (by decide) rfl (s0_309 H) rfl (sf_122_309 H) fun D =>
      j_ild (pc := 19) D rfl rfl rfl fun D =>
      j_al (pc := 21) (a := 318) (e := 7) D rfl rfl rfl (by decide) (s0_318 H) (s1_318 H) ⟨rfl, rfl, rfl⟩ rfl gn fun qb1 D =>
      j_c0 (pc := 22) (v := (3, 0)) D rfl rfl (by decide +kernel) fun D =>
      j_dcmpl (pc := 23) D rfl fun D =>
      j_ifne (pc := 24) D rfl (fun q D =>
        j_aldn (pc := 27) D rfl rfl rfl fun D =>
        j_bp (pc := 28) D rfl fun D =>
        j_iv (pc := 30) (m := 310) (dd := 112) (a := [(0, 7)]) (rest := []) D rfl rfl rfl rfl rfl (by decide) (s0_303 H) (by decide +kernel) (fun v3 h2 e1 D =>
          have T := fj_run_ok _ _ _ _ _ _ H.1 e1
          have H := shp_st H T
          j_at (pc := 33) D gn <|
          j_tx (hx_359 _)) (fun q4 h2 e1 =>
          j_tx (hx_359 _))) (fun q =>
        have D : fk_D 359 [(34, none, .aload_n 0, 1, 0, 0, 0), (35, none, .iload_n 1, 1, 0, 0, 0), (36, none, .aload_n 0, 1, 0, 0, 0), (37, none, .getfield 113, 3, 213, 100, 12), (40, none, .getfield 87, 3, 122, 119, 12), (43, none, .iload_n 1, 1, 0, 0, 0), (44, none, .daload, 1, 0, 0, 0), (45, none, .aload_n 0, 1, 0, 0, 0), (46, none, .getfield 113, 3, 213, 100, 12), (49, none, .getfield 87, 3, 122, 119, 12), (52, none, .iload 4, 2, 0, 0, 0), (54, none, .daload, 1, 0, 0, 0), (55, none, .ddiv, 1, 0, 0, 0), (56, none, .invokevirtual 158, 3, 2, 117, 0), (59, none, .goto 180, 3, 239, 0, 0)] := fq_of2 cd_359 ow_359 cl_359 rfl (pc := 34) (by decide +kernel)
        j_aldn (pc := 34) D rfl rfl rfl fun D =>
        j_ildn (pc := 35) D rfl rfl rfl fun D =>
        j_aldn (pc := 36) D rfl rfl rfl fun D =>
        j_gfc (pc := 37) (a := 303) D rfl rfl (by decide) rfl (s0_303 H) rfl (sf_213_303 H) fun D =>
        j_gfc (pc := 40) (a := 309) D rfl rfl (by decide) rfl (s0_309 H) rfl (sf_122_309 H) fun D =>
        j_ildn (pc := 43) D rfl rfl rfl fun D =>
        j_al (pc := 44) (a := 318) (e := 7) D rfl rfl rfl (by decide) (s0_318 H) (s1_318 H) ⟨rfl, rfl, rfl⟩ rfl gn fun qb5 D =>
        j_aldn (pc := 45) D rfl rfl rfl fun D =>
        j_gfc (pc := 46) (a := 303) D rfl rfl (by decide) rfl (s0_303 H) rfl (sf_213_303 H) fun D =>
        j_gfc (pc := 49) (a := 309) D rfl rfl (by decide) rfl (s0_309 H) rfl (sf_122_309 H) fun D =>
        j_ild (pc := 52) D rfl rfl rfl fun D =>
        j_al (pc := 54) (a := 318) (e := 7) D rfl rfl rfl (by decide) (s0_318 H) (s1_318 H) ⟨rfl, rfl, rfl⟩ rfl (gy qb1) fun q D =>
        j_dop (pc := 55) (u := FP.ddiv (fi_D (h 7 318 x1.toNat)) (fi_D (h 7 318 (wI (x1 + 1)).toNat))) D rfl rfl rfl fun D v6 =>
        j_ivv (pc := 56) (m := 348) (dd := 117) (a := [(0, x1), (3, v6)]) (rest := []) D rfl rfl rfl rfl rfl (by decide) (s0_303 H) (by decide +kernel) (fun h7 e1 D =>
          have T := fj_run_ok _ _ _ _ _ _ H.1 e1
          have H := shp_st H T
          j_goto (pc := 59) D rfl <|
          have D : fk_D 359 [(239, none, .return_, 1, 0, 0, 0)] := fq_of2 cd_359 ow_359 cl_359 rfl (pc := 239) (by decide +kernel)
          j_vret D rt_359) (fun q9 h7 e1 =>
          j_tx (hx_359 _)))) (fun q =>
      have D : fk_D 359 [(62, none, .aload_n 2, 1, 0, 0, 0), (63, none, .getstatic 184, 3, 4, 4, 0), (66, none, .if_acmp .ne 57, 3, 123, 0, 0), (69, none, .aload_n 3, 1, 0, 0, 0), (70, none, .aload_n 2, 1, 0, 0, 0), (71, none, .if_acmp .ne 52, 3, 123, 0, 0), (74, none, .aload_n 0, 1, 0, 0, 0), (75, none, .getfield 113, 3, 213, 100, 12), (78, none, .getfield 66, 3, 119, 119, 12), (81, none, .iload 4, 2, 0, 0, 0), (83, none, .laload, 1, 0, 0, 0), (84, none, .lconst 0, 1, 0, 0, 0), (85, none, .lcmp, 1, 0, 0, 0), (86, none, .ifCond .ne 10, 3, 96, 0, 0), (89, none, .aload_n 0, 1, 0, 0, 0), (90, none, .bipush 7, 2, 0, 7, 0), (92, none, .invokevirtual 109, 3, 1, 112, 5), (95, none, .athrow, 1, 0, 0, 0)] := fq_of2 cd_359 ow_359 cl_359 rfl (pc := 62) (by decide +kernel)
      j_aldn (pc := 62) D rfl rfl rfl fun D =>
      j_gs (pc := 63) D rfl fun D =>
      j_ane (pc := 66) D rfl (fun q D =>
        j_aldn (pc := 69) D rfl rfl rfl fun D =>
        j_aldn (pc := 70) D rfl rfl rfl fun D =>
        j_ane (pc := 71) D rfl (fun q D =>
          j_aldn (pc := 74) D rfl rfl rfl fun D =>
          j_gfc (pc := 75) (a := 303) D rfl rfl (by decide) rfl (s0_303 H) rfl (sf_213_303 H) fun D =>
          j_gfc (pc := 78) (a := 309) D rfl rfl (by decide) rfl (s0_309 H) rfl (sf_119_309 H) fun D =>
          j_ild (pc := 81) D rfl rfl rfl fun D =>
          j_al (pc := 83) (a := 315) (e := 11) D rfl rfl rfl (by decide) (s0_315 H) (s1_315 H) ⟨rfl, rfl, rfl⟩ rfl gn fun qb10 D =>
          j_c0 (pc := 84) (v := (1, 0)) D rfl rfl (by decide +kernel) fun D =>
          j_lcmp (pc := 85) D rfl fun D =>
          j_ifne (pc := 86) D rfl (fun q D =>
            j_aldn (pc := 89) D rfl rfl rfl fun D =>
            j_bp (pc := 90) D rfl fun D =>
            j_iv (pc := 92) (m := 310) (dd := 112) (a := [(0, 7)]) (rest := []) D rfl rfl rfl rfl rfl (by decide) (s0_303 H) (by decide +kernel) (fun v12 h11 e1 D =>
              have T := fj_run_ok _ _ _ _ _ _ H.1 e1
              have H := shp_st H T
              j_at (pc := 95) D gn <|
              j_tx (hx_359 _)) (fun q13 h11 e1 =>
              j_tx (hx_359 _))) (fun q =>
            have D : fk_D 359 [(96, none, .aload_n 0, 1, 0, 0, 0), (97, none, .iload_n 1, 1, 0, 0, 0), (98, none, .aload_n 0, 1, 0, 0, 0), (99, none, .getfield 113, 3, 213, 100, 12), (102, none, .getfield 66, 3, 119, 119, 12), (105, none, .iload_n 1, 1, 0, 0, 0), (106, none, .laload, 1, 0, 0, 0), (107, none, .aload_n 0, 1, 0, 0, 0), (108, none, .getfield 113, 3, 213, 100, 12), (111, none, .getfield 66, 3, 119, 119, 12), (114, none, .iload 4, 2, 0, 0, 0), (116, none, .laload, 1, 0, 0, 0), (117, none, .invokevirtual 178, 3, 3, 122, 0), (120, none, .goto 119, 3, 239, 0, 0)] := fq_of2 cd_359 ow_359 cl_359 rfl (pc := 96) (by decide +kernel)
            j_aldn (pc := 96) D rfl rfl rfl fun D =>
            j_ildn (pc := 97) D rfl rfl rfl fun D =>
            j_aldn (pc := 98) D rfl rfl rfl fun D =>
            j_gfc (pc := 99) (a := 303) D rfl rfl (by decide) rfl (s0_303 H) rfl (sf_213_303 H) fun D =>
            j_gfc (pc := 102) (a := 309) D rfl rfl (by decide) rfl (s0_309 H) rfl (sf_119_309 H) fun D =>
            j_ildn (pc := 105) D rfl rfl rfl fun D =>
            j_al (pc := 106) (a := 315) (e := 11) D rfl rfl rfl (by decide) (s0_315 H) (s1_315 H) ⟨rfl, rfl, rfl⟩ rfl gn fun qb14 D =>
            j_aldn (pc := 107) D rfl rfl rfl fun D =>
            j_gfc (pc := 108) (a := 303) D rfl rfl (by decide) rfl (s0_303 H) rfl (sf_213_303 H) fun D =>
            j_gfc (pc := 111) (a := 309) D rfl rfl (by decide) rfl (s0_309 H) rfl (sf_119_309 H) fun D =>
            j_ild (pc := 114) D rfl rfl rfl fun D =>
            j_al (pc := 116) (a := 315) (e := 11) D rfl rfl rfl (by decide) (s0_315 H) (s1_315 H) ⟨rfl, rfl, rfl⟩ rfl (gy qb10) fun q D =>
            j_ivv (pc := 117) (m := 354) (dd := 122) (a := [(0, x1), (1, h 11 315 x1.toNat), (1, h 11 315 (wI (x1 + 1)).toNat)]) (rest := []) D rfl rfl rfl rfl rfl (by decide) (s0_303 H) (by decide +kernel) (fun h15 e1 D =>
              have T := fj_run_ok _ _ _ _ _ _ H.1 e1
              have H := shp_st H T
              j_goto (pc := 120) D rfl <|
              have D : fk_D 359 [(239, none, .return_, 1, 0, 0, 0)] := fq_of2 cd_359 ow_359 cl_359 rfl (pc := 239) (by decide +kernel)
              j_vret D rt_359) (fun q17 h15 e1 =>
              j_tx (hx_359 _)))) (fun q =>
          fk_jump cut_359_123 rfl rfl)) (fun q =>
        fk_jump cut_359_123 rfl rfl))
/-! 360 StatuteHouse.rest(ILStatuteHouse$Kind;)V -/
theorem cd_360 : fi_code 360 = prog_1_method_23_code := rfl
theorem hx_360 : ∀ pc, fi_hat 360 pc = none := fun pc => by unfold fi_hat; rw [show fi_hh 360 = [] from rfl]; rfl
theorem rt_360 : fi_ret 360 = none := rfl
theorem nl_360 : fi_nl 360 = 5 := rfl
theorem ow_360 : fi_ow 360 = 0 := rfl
theorem cl_360 : fj_cutT.getD 360 [] = [(52, [0, 1, 2, 3])] := rfl
theorem cut_360_52 : fj_cut 360 52 = some [0, 1, 2, 3] := by decide +kernel
noncomputable def c_360_52 (d : Nat) (x1 x2 x3 s0 : Int) (h : fi_H) : fk_R := gG (fj_run d) 360 52 [(0, (4, 303)), (1, (0, x1)), (2, (4, x2)), (3, (0, x3))] [(0, s0)] h
theorem e_360_52 (d : Nat) (x1 x2 x3 s0 : Int) {h : fi_H} (H : Shp h) : c_360_52 d x1 x2 x3 s0 h =
  if s0 = 0 then
    if x2 = 8 then
      if 0 ≤ x1 ∧ x1 < 700 then
      if 0 ≤ x3 ∧ x3 < 700 then
      dn_ (FP.drem (fi_D (h 7 318 x1.toNat)) (fi_D (h 7 318 x3.toNat))) fun v3 =>
      lt_ (fi_upd h 7 318 x1.toNat v3) fun h4 =>
      some (.inl none, h4)
      else none
      else none
    else
      if x2 = 4 then
        if 0 ≤ x1 ∧ x1 < 700 then
        if 0 ≤ x3 ∧ x3 < 700 then
        if h 11 315 x3.toNat = 0 then none else
        lt_ (fi_upd h 11 315 x1.toNat (lr_ (h 11 315 x1.toNat) (h 11 315 x3.toNat))) fun h7 =>
        some (.inl none, h7)
        else none
        else none
      else
        if 0 ≤ x1 ∧ x1 < 700 then
        if 0 ≤ x3 ∧ x3 < 700 then
        if h 10 311 x3.toNat = 0 then none else
        lt_ (fi_upd h 10 311 x1.toNat (ir_ (h 10 311 x1.toNat) (h 10 311 x3.toNat))) fun h10 =>
        some (.inl none, h10)
        else none
        else none
  else
    ca_ (fj_run d 310 h [(4, 303), (0, 7)]) 4
      (fun v12 h11 =>
      if v12 ≠ 0 then
      tx_ v12.toNat h11
      else none)
      (fun q13 h11 => tx_ q13 h11) := by
  unfold c_360_52
  exact
    have D : fk_D 360 [(52, some [0, 1, 2, 3], .istore 4, 2, 0, 0, 0), (54, none, .iload 4, 2, 0, 0, 0), (56, none, .ifCond .eq 10, 3, 66, 0, 0), (59, none, .aload_n 0, 1, 0, 0, 0), (60, none, .bipush 7, 2, 0, 7, 0), (62, none, .invokevirtual 109, 3, 1, 112, 5), (65, none, .athrow, 1, 0, 0, 0)] := fq_of2 cd_360 ow_360 cl_360 rfl (pc := 52) (by decide +kernel)
    j_ist (pc := 52) (L' := [(4, (0, s0)), (0, (4, 303)), (1, (0, x1)), (2, (4, x2)), (3, (0, x3))]) D rfl nl_360 rfl rfl fun D =>
    j_ild (pc := 54) D rfl rfl rfl fun D =>
    j_ifeq (pc := 56) D rfl (fun q =>
      have D : fk_D 360 [(66, none, .aload_n 2, 1, 0, 0, 0), (67, none, .getstatic 181, 3, 4, 8, 0), (70, none, .if_acmp .ne 27, 3, 97, 0, 0), (73, none, .aload_n 0, 1, 0, 0, 0), (74, none, .getfield 113, 3, 213, 100, 12), (77, none, .getfield 87, 3, 122, 119, 12), (80, none, .iload_n 1, 1, 0, 0, 0), (81, none, .dup2, 1, 0, 0, 0), (82, none, .daload, 1, 0, 0, 0), (83, none, .aload_n 0, 1, 0, 0, 0), (84, none, .getfield 113, 3, 213, 100, 12), (87, none, .getfield 87, 3, 122, 119, 12), (90, none, .iload_n 3, 1, 0, 0, 0), (91, none, .daload, 1, 0, 0, 0), (92, none, .drem, 1, 0, 0, 0), (93, none, .dastore, 1, 0, 0, 0), (94, none, .goto 55, 3, 149, 0, 0)] := fq_of2 cd_360 ow_360 cl_360 rfl (pc := 66) (by decide +kernel)
      j_aldn (pc := 66) D rfl rfl rfl fun D =>
      j_gs (pc := 67) D rfl fun D =>
      j_ane (pc := 70) D rfl (fun q D =>
        j_aldn (pc := 73) D rfl rfl rfl fun D =>
        j_gfc (pc := 74) (a := 303) D rfl rfl (by decide) rfl (s0_303 H) rfl (sf_213_303 H) fun D =>
        j_gfc (pc := 77) (a := 309) D rfl rfl (by decide) rfl (s0_309 H) rfl (sf_122_309 H) fun D =>
        j_ildn (pc := 80) D rfl rfl rfl fun D =>
        j_sh (pc := 81) D rfl rfl rfl fun D =>
        j_al (pc := 82) (a := 318) (e := 7) D rfl rfl rfl (by decide) (s0_318 H) (s1_318 H) ⟨rfl, rfl, rfl⟩ rfl gn fun qb1 D =>
        j_aldn (pc := 83) D rfl rfl rfl fun D =>
        j_gfc (pc := 84) (a := 303) D rfl rfl (by decide) rfl (s0_303 H) rfl (sf_213_303 H) fun D =>
        j_gfc (pc := 87) (a := 309) D rfl rfl (by decide) rfl (s0_309 H) rfl (sf_122_309 H) fun D =>
        j_ildn (pc := 90) D rfl rfl rfl fun D =>
        j_al (pc := 91) (a := 318) (e := 7) D rfl rfl rfl (by decide) (s0_318 H) (s1_318 H) ⟨rfl, rfl, rfl⟩ rfl gn fun qb2 D =>
        j_dop (pc := 92) (u := FP.drem (fi_D (h 7 318 x1.toNat)) (fi_D (h 7 318 x3.toNat))) D rfl rfl rfl fun D v3 =>
        j_as (pc := 93) (a := 318) (e := 7) D rfl ⟨rfl, rfl⟩ rfl (by decide) (s0_318 H) (s1_318 H) ⟨rfl, rfl, rfl⟩ rfl (gy qb1) (gy rfl) fun h4 eh4 S q D =>
        have T := fj_hs_ok H.1 S
        have H := shp_st H T
        j_goto (pc := 94) D rfl <|
        have D : fk_D 360 [(149, none, .return_, 1, 0, 0, 0)] := fq_of2 cd_360 ow_360 cl_360 rfl (pc := 149) (by decide +kernel)
        j_vret D rt_360) (fun q =>
        have D : fk_D 360 [(97, none, .aload_n 2, 1, 0, 0, 0), (98, none, .getstatic 184, 3, 4, 4, 0), (101, none, .if_acmp .ne 27, 3, 128, 0, 0), (104, none, .aload_n 0, 1, 0, 0, 0), (105, none, .getfield 113, 3, 213, 100, 12), (108, none, .getfield 66, 3, 119, 119, 12), (111, none, .iload_n 1, 1, 0, 0, 0), (112, none, .dup2, 1, 0, 0, 0), (113, none, .laload, 1, 0, 0, 0), (114, none, .aload_n 0, 1, 0, 0, 0), (115, none, .getfield 113, 3, 213, 100, 12), (118, none, .getfield 66, 3, 119, 119, 12), (121, none, .iload_n 3, 1, 0, 0, 0), (122, none, .laload, 1, 0, 0, 0), (123, none, .lrem, 1, 0, 0, 0), (124, none, .lastore, 1, 0, 0, 0), (125, none, .goto 24, 3, 149, 0, 0)] := fq_of2 cd_360 ow_360 cl_360 rfl (pc := 97) (by decide +kernel)
        j_aldn (pc := 97) D rfl rfl rfl fun D =>
        j_gs (pc := 98) D rfl fun D =>
        j_ane (pc := 101) D rfl (fun q D =>
          j_aldn (pc := 104) D rfl rfl rfl fun D =>
          j_gfc (pc := 105) (a := 303) D rfl rfl (by decide) rfl (s0_303 H) rfl (sf_213_303 H) fun D =>
          j_gfc (pc := 108) (a := 309) D rfl rfl (by decide) rfl (s0_309 H) rfl (sf_119_309 H) fun D =>
          j_ildn (pc := 111) D rfl rfl rfl fun D =>
          j_sh (pc := 112) D rfl rfl rfl fun D =>
          j_al (pc := 113) (a := 315) (e := 11) D rfl rfl rfl (by decide) (s0_315 H) (s1_315 H) ⟨rfl, rfl, rfl⟩ rfl gn fun qb5 D =>
          j_aldn (pc := 114) D rfl rfl rfl fun D =>
          j_gfc (pc := 115) (a := 303) D rfl rfl (by decide) rfl (s0_303 H) rfl (sf_213_303 H) fun D =>
          j_gfc (pc := 118) (a := 309) D rfl rfl (by decide) rfl (s0_309 H) rfl (sf_119_309 H) fun D =>
          j_ildn (pc := 121) D rfl rfl rfl fun D =>
          j_al (pc := 122) (a := 315) (e := 11) D rfl rfl rfl (by decide) (s0_315 H) (s1_315 H) ⟨rfl, rfl, rfl⟩ rfl gn fun qb6 D =>
          j_lrem (pc := 123) D rfl fun q D =>
          j_as (pc := 124) (a := 315) (e := 11) D rfl ⟨rfl, rfl⟩ rfl (by decide) (s0_315 H) (s1_315 H) ⟨rfl, rfl, rfl⟩ rfl (gy qb5) (gy rfl) fun h7 eh7 S q D =>
          have T := fj_hs_ok H.1 S
          have H := shp_st H T
          j_goto (pc := 125) D rfl <|
          have D : fk_D 360 [(149, none, .return_, 1, 0, 0, 0)] := fq_of2 cd_360 ow_360 cl_360 rfl (pc := 149) (by decide +kernel)
          j_vret D rt_360) (fun q =>
          have D : fk_D 360 [(128, none, .aload_n 0, 1, 0, 0, 0), (129, none, .getfield 113, 3, 213, 100, 12), (132, none, .getfield 62, 3, 115, 119, 12), (135, none, .iload_n 1, 1, 0, 0, 0), (136, none, .dup2, 1, 0, 0, 0), (137, none, .iaload, 1, 0, 0, 0), (138, none, .aload_n 0, 1, 0, 0, 0), (139, none, .getfield 113, 3, 213, 100, 12), (142, none, .getfield 62, 3, 115, 119, 12), (145, none, .iload_n 3, 1, 0, 0, 0), (146, none, .iaload, 1, 0, 0, 0), (147, none, .irem, 1, 0, 0, 0), (148, none, .iastore, 1, 0, 0, 0), (149, none, .return_, 1, 0, 0, 0)] := fq_of2 cd_360 ow_360 cl_360 rfl (pc := 128) (by decide +kernel)
          j_aldn (pc := 128) D rfl rfl rfl fun D =>
          j_gfc (pc := 129) (a := 303) D rfl rfl (by decide) rfl (s0_303 H) rfl (sf_213_303 H) fun D =>
          j_gfc (pc := 132) (a := 309) D rfl rfl (by decide) rfl (s0_309 H) rfl (sf_115_309 H) fun D =>
          j_ildn (pc := 135) D rfl rfl rfl fun D =>
          j_sh (pc := 136) D rfl rfl rfl fun D =>
          j_al (pc := 137) (a := 311) (e := 10) D rfl rfl rfl (by decide) (s0_311 H) (s1_311 H) ⟨rfl, rfl, rfl⟩ rfl gn fun qb8 D =>
          j_aldn (pc := 138) D rfl rfl rfl fun D =>
          j_gfc (pc := 139) (a := 303) D rfl rfl (by decide) rfl (s0_303 H) rfl (sf_213_303 H) fun D =>
          j_gfc (pc := 142) (a := 309) D rfl rfl (by decide) rfl (s0_309 H) rfl (sf_115_309 H) fun D =>
          j_ildn (pc := 145) D rfl rfl rfl fun D =>
          j_al (pc := 146) (a := 311) (e := 10) D rfl rfl rfl (by decide) (s0_311 H) (s1_311 H) ⟨rfl, rfl, rfl⟩ rfl gn fun qb9 D =>
          j_irem (pc := 147) D rfl fun q D =>
          j_as (pc := 148) (a := 311) (e := 10) D rfl ⟨rfl, rfl⟩ rfl (by decide) (s0_311 H) (s1_311 H) ⟨rfl, rfl, rfl⟩ rfl (gy qb8) (gy rfl) fun h10 eh10 S q D =>
          have T := fj_hs_ok H.1 S
          have H := shp_st H T
          j_vret D rt_360))) (fun q D =>
      j_aldn (pc := 59) D rfl rfl rfl fun D =>
      j_bp (pc := 60) D rfl fun D =>
      j_iv (pc := 62) (m := 310) (dd := 112) (a := [(0, 7)]) (rest := []) D rfl rfl rfl rfl rfl (by decide) (s0_303 H) (by decide +kernel) (fun v12 h11 e1 D =>
        have T := fj_run_ok _ _ _ _ _ _ H.1 e1
        have H := shp_st H T
        j_at (pc := 65) D gn <|
        j_tx (hx_360 _)) (fun q13 h11 e1 =>
        j_tx (hx_360 _)))
theorem m_360 (d : Nat) (x1 x2 : Int) {h : fi_H} (H : Shp h) : fj_run (d + 1) 360 h [(4, 303), (0, x1), (4, x2)] =
  if x2 = 8 then
    if 0 ≤ wI (x1 + 1) ∧ wI (x1 + 1) < 700 then
    if dl_ (h 7 318 (wI (x1 + 1)).toNat) 0 = 0 then
      c_360_52 d x1 x2 (wI (x1 + 1)) 1 h
    else
      c_360_52 d x1 x2 (wI (x1 + 1)) 0 h
    else none
  else
    ca_ (fj_run d 322 h [(4, 309), (0, wI (x1 + 1)), (4, x2)]) 1
      (fun v3 h2 =>
      if lc_ v3 0 = 0 then
        c_360_52 d x1 x2 (wI (x1 + 1)) 1 h2
      else
        c_360_52 d x1 x2 (wI (x1 + 1)) 0 h2)
      (fun q4 h2 => tx_ q4 h2) := by
  rw [fj_run_eq d (by decide) h [(4, 303), (0, x1), (4, x2)] (Nat.le_of_ble_eq_true (by rw [nl_360]; rfl))]
  show gG (fj_run d) 360 0 [(0, (4, 303)), (1, (0, x1)), (2, (4, x2))] [] h = _
  exact
    have D : fk_D 360 [(0, none, .iload_n 1, 1, 0, 0, 0), (1, none, .iconst 1, 1, 0, 1, 0), (2, none, .iadd, 1, 0, 0, 0), (3, none, .istore_n 3, 1, 0, 0, 0), (4, none, .aload_n 2, 1, 0, 0, 0), (5, none, .getstatic 181, 3, 4, 8, 0), (8, none, .if_acmp .ne 25, 3, 33, 0, 0), (11, none, .aload_n 0, 1, 0, 0, 0), (12, none, .getfield 113, 3, 213, 100, 12), (15, none, .getfield 87, 3, 122, 119, 12), (18, none, .iload_n 3, 1, 0, 0, 0), (19, none, .daload, 1, 0, 0, 0), (20, none, .dconst 0, 1, 0, 0, 0), (21, none, .dcmp .l, 1, 0, 0, 0), (22, none, .ifCond .ne 7, 3, 29, 0, 0), (25, none, .iconst 1, 1, 0, 1, 0), (26, none, .goto 26, 3, 52, 0, 0)] := fq_of2 cd_360 ow_360 cl_360 rfl (pc := 0) (by decide +kernel)
    j_ildn (pc := 0) D rfl rfl rfl fun D =>
    j_ic (pc := 1) D rfl fun D =>
    j_iadd (pc := 2) D rfl fun D =>
    j_istn (pc := 3) (L' := [(3, (0, wI (x1 + 1))), (0, (4, 303)), (1, (0, x1)), (2, (4, x2))]) D rfl nl_360 rfl rfl fun D =>
    j_aldn (pc := 4) D rfl rfl rfl fun D =>
    j_gs (pc := 5) D rfl fun D =>
    j_ane (pc := 8) D rfl (fun q D =>
      j_aldn (pc := 11) D rfl rfl rfl fun D =>
      j_gfc (pc := 12) (a := 303) D rfl rfl (by decide) rfl (s0_303 H) rfl (sf_213_303 H) fun D =>
      j_gfc (pc := 15) (a := 309) D rfl rfl (by decide) rfl (s0_309 H) rfl (sf_122_309 H) fun D =>
      j_ildn (pc := 18) D rfl rfl rfl fun D =>
      j_al (pc := 19) (a := 318) (e := 7) D rfl rfl rfl (by decide) (s0_318 H) (s1_318 H) ⟨rfl, rfl, rfl⟩ rfl gn fun qb1 D =>
      j_c0 (pc := 20) (v := (3, 0)) D rfl rfl (by decide +kernel) fun D =>
      j_dcmpl (pc := 21) D rfl fun D =>
      j_ifne (pc := 22) D rfl (fun q D =>
        j_ic (pc := 25) D rfl fun D =>
        j_goto (pc := 26) D rfl <|
        fk_jump cut_360_52 rfl rfl) (fun q =>
        have D : fk_D 360 [(29, none, .iconst 0, 1, 0, 0, 0), (30, none, .goto 22, 3, 52, 0, 0)] := fq_of2 cd_360 ow_360 cl_360 rfl (pc := 29) (by decide +kernel)
        j_ic (pc := 29) D rfl fun D =>
        j_goto (pc := 30) D rfl <|
        fk_jump cut_360_52 rfl rfl)) (fun q =>
      have D : fk_D 360 [(33, none, .aload_n 0, 1, 0, 0, 0), (34, none, .getfield 113, 3, 213, 100, 12), (37, none, .iload_n 3, 1, 0, 0, 0), (38, none, .aload_n 2, 1, 0, 0, 0), (39, none, .invokevirtual 200, 3, 2, 124, 2), (42, none, .lconst 0, 1, 0, 0, 0), (43, none, .lcmp, 1, 0, 0, 0), (44, none, .ifCond .ne 7, 3, 51, 0, 0), (47, none, .iconst 1, 1, 0, 1, 0), (48, none, .goto 4, 3, 52, 0, 0)] := fq_of2 cd_360 ow_360 cl_360 rfl (pc := 33) (by decide +kernel)
      j_aldn (pc := 33) D rfl rfl rfl fun D =>
      j_gfc (pc := 34) (a := 303) D rfl rfl (by decide) rfl (s0_303 H) rfl (sf_213_303 H) fun D =>
      j_ildn (pc := 37) D rfl rfl rfl fun D =>
      j_aldn (pc := 38) D rfl rfl rfl fun D =>
      j_iv (pc := 39) (m := 322) (dd := 124) (a := [(0, wI (x1 + 1)), (4, x2)]) (rest := []) D rfl rfl rfl rfl rfl (by decide) (s0_309 H) (by decide +kernel) (fun v3 h2 e1 D =>
        have T := fj_run_ok _ _ _ _ _ _ H.1 e1
        have H := shp_st H T
        j_c0 (pc := 42) (v := (1, 0)) D rfl rfl (by decide +kernel) fun D =>
        j_lcmp (pc := 43) D rfl fun D =>
        j_ifne (pc := 44) D rfl (fun q D =>
          j_ic (pc := 47) D rfl fun D =>
          j_goto (pc := 48) D rfl <|
          fk_jump cut_360_52 rfl rfl) (fun q =>
          have D : fk_D 360 [(51, none, .iconst 0, 1, 0, 0, 0)] := fq_of2 cd_360 ow_360 cl_360 rfl (pc := 51) (by decide +kernel)
          j_ic (pc := 51) D rfl fun D =>
          fk_jump cut_360_52 rfl rfl)) (fun q4 h2 e1 =>
        j_tx (hx_360 _)))
/-! 361 StatuteHouse.table(I)LStatuteHouse$Rule; -/
theorem cd_361 : fi_code 361 = prog_1_method_36_code := rfl
theorem hx_361 : ∀ pc, fi_hat 361 pc = none := fun pc => by unfold fi_hat; rw [show fi_hh 361 = [] from rfl]; rfl
theorem rt_361 : fj_ft (fi_ret 361) = 5 := rfl
theorem nl_361 : fi_nl 361 = 3 := rfl
theorem ow_361 : fi_ow 361 = 0 := rfl
theorem cl_361 : fj_cutT.getD 361 [] = [] := rfl
theorem m_361 (d : Nat) (x1 : Int) {h : fi_H} (H : Shp h) : fj_run (d + 1) 361 h [(4, 303), (0, x1)] =
  if 0 ≤ h 249 303 0 ∧ h 249 303 0 < 14 then
  dv_ (fi_vt 133 (h 0 (h 12 363 (h 249 303 0).toNat).toNat 0)) fun m5 => cv_ (fj_run d m5 h [(4, h 12 363 (h 249 303 0).toNat), (4, h 240 303 0), (0, h 243 303 0), (0, h 242 303 0)])
    (fun h2 =>
    if h2 0 (h 12 363 (h 249 303 0).toNat).toNat 0 = 120 then
    if h2 0 (h2 202 (h 12 363 (h 249 303 0).toNat).toNat 0).toNat 0 = 9 ∧ 0 ≤ x1 ∧ x1 < h2 1 (h2 202 (h 12 363 (h 249 303 0).toNat).toNat 0).toNat 0 then
    if h2 9 (h2 202 (h 12 363 (h 249 303 0).toNat).toNat 0).toNat x1.toNat = (-1) then
      ca_ (fj_run d 310 h2 [(4, 303), (0, 1)]) 4
        (fun v8 h7 =>
        if v8 ≠ 0 then
        tx_ v8.toNat h7
        else none)
        (fun q9 h7 => tx_ q9 h7)
    else
      if h2 0 (h2 202 (h 12 363 (h 249 303 0).toNat).toNat 0).toNat 0 = 9 ∧ 0 ≤ x1 ∧ x1 < h2 1 (h2 202 (h 12 363 (h 249 303 0).toNat).toNat 0).toNat 0 then
      if 0 ≤ h2 9 (h2 202 (h 12 363 (h 249 303 0).toNat).toNat 0).toNat x1.toNat ∧ h2 9 (h2 202 (h 12 363 (h 249 303 0).toNat).toNat 0).toNat x1.toNat < 500 then
      some (.inl (some (4, h2 12 355 (h2 9 (h2 202 (h 12 363 (h 249 303 0).toNat).toNat 0).toNat x1.toNat).toNat)), h2)
      else none
      else none
    else none
    else none)
    (fun q4 h2 => tx_ q4 h2)
  else none := by
  rw [fj_run_eq d (by decide) h [(4, 303), (0, x1)] (Nat.le_of_ble_eq_true (by rw [nl_361]; rfl))]
  show gG (fj_run d) 361 0 [(0, (4, 303)), (1, (0, x1))] [] h = _
  exact
    have D : fk_D 361 [(0, none, .aload_n 0, 1, 0, 0, 0), (1, none, .getfield 348, 3, 248, 100, 12), (4, none, .aload_n 0, 1, 0, 0, 0), (5, none, .getfield 276, 3, 249, 100, 10), (8, none, .aaload, 1, 0, 0, 0), (9, none, .astore_n 2, 1, 0, 0, 0), (10, none, .aload_n 2, 1, 0, 0, 0), (11, none, .aload_n 0, 1, 0, 0, 0), (12, none, .getfield 344, 3, 240, 100, 12), (15, none, .aload_n 0, 1, 0, 0, 0), (16, none, .getfield 341, 3, 243, 100, 10), (19, none, .aload_n 0, 1, 0, 0, 0), (20, none, .getfield 273, 3, 242, 100, 10), (23, none, .invokevirtual 352, 3, 3, 133, 0), (26, none, .aload_n 2, 1, 0, 0, 0), (27, none, .getfield 357, 3, 202, (-120), 12), (30, none, .iload_n 1, 1, 0, 0, 0), (31, none, .saload, 1, 0, 0, 0), (32, none, .iconst (-1), 1, 0, (-1), 0), (33, none, .if_icmp .ne 9, 3, 42, 0, 0)] := fq_of2 cd_361 ow_361 cl_361 rfl (pc := 0) (by decide +kernel)
    j_aldn (pc := 0) D rfl rfl rfl fun D =>
    j_gfc (pc := 1) (a := 303) D rfl rfl (by decide) rfl (s0_303 H) rfl (sf_248_303 H) fun D =>
    j_aldn (pc := 4) D rfl rfl rfl fun D =>
    j_gf (pc := 5) (a := 303) D rfl rfl (by decide) rfl (s0_303 H) rfl fun D =>
    j_al (pc := 8) (a := 363) (e := 12) D rfl rfl rfl (by decide) (s0_363 H) (s1_363 H) ⟨rfl, rfl, rfl⟩ rfl gn fun qb1 D =>
    j_astn (pc := 9) (L' := [(2, (4, h 12 363 (h 249 303 0).toNat)), (0, (4, 303)), (1, (0, x1))]) D rfl nl_361 rfl rfl fun D =>
    j_aldn (pc := 10) D rfl rfl rfl fun D =>
    j_aldn (pc := 11) D rfl rfl rfl fun D =>
    j_gf (pc := 12) (a := 303) D rfl rfl (by decide) rfl (s0_303 H) rfl fun D =>
    j_aldn (pc := 15) D rfl rfl rfl fun D =>
    j_gf (pc := 16) (a := 303) D rfl rfl (by decide) rfl (s0_303 H) rfl fun D =>
    j_aldn (pc := 19) D rfl rfl rfl fun D =>
    j_gf (pc := 20) (a := 303) D rfl rfl (by decide) rfl (s0_303 H) rfl fun D =>
    j_ivuv (pc := 23) (dd := 133) (a := [(4, h 240 303 0), (0, h 243 303 0), (0, h 242 303 0)]) (rest := []) H.2.1 D rfl rfl rfl rfl rfl (fun m5 h2 e1 D =>
      have T := fj_run_ok _ _ _ _ _ _ H.1 e1
      have H := shp_st H T
      j_aldn (pc := 26) D rfl rfl rfl fun D =>
      j_gfo (pc := 27) H.2.1 D rfl rfl rfl rfl fun kc6 D =>
      j_ildn (pc := 30) D rfl rfl rfl fun D =>
      j_alp (pc := 31) (e := 9) H.2.1 D rfl rfl ⟨rfl, rfl, rfl⟩ rfl fun q q2 D =>
      j_ic (pc := 32) D rfl fun D =>
      j_ine (pc := 33) D rfl (fun q D =>
        have D : fk_D 361 [(36, none, .aload_n 0, 1, 0, 0, 0), (37, none, .iconst 1, 1, 0, 1, 0), (38, none, .invokevirtual 109, 3, 1, 112, 5), (41, none, .athrow, 1, 0, 0, 0)] := fq_of2 cd_361 ow_361 cl_361 rfl (pc := 36) (by decide +kernel)
        j_aldn (pc := 36) D rfl rfl rfl fun D =>
        j_ic (pc := 37) D rfl fun D =>
        j_iv (pc := 38) (m := 310) (dd := 112) (a := [(0, 1)]) (rest := []) D rfl rfl rfl rfl rfl (by decide) (s0_303 H) (by decide +kernel) (fun v8 h7 e1 D =>
          have T := fj_run_ok _ _ _ _ _ _ H.1 e1
          have kc6 := cls_st H.1 T.2 kc6 (by decide)
          have H := shp_st H T
          j_at (pc := 41) D gn <|
          j_tx (hx_361 _)) (fun q9 h7 e1 =>
          j_tx (hx_361 _))) (fun q =>
        have D : fk_D 361 [(42, none, .aload_n 0, 1, 0, 0, 0), (43, none, .getfield 360, 3, 228, 100, 12), (46, none, .aload_n 2, 1, 0, 0, 0), (47, none, .getfield 357, 3, 202, 120, 12), (50, none, .iload_n 1, 1, 0, 0, 0), (51, none, .saload, 1, 0, 0, 0), (52, none, .aaload, 1, 0, 0, 0), (53, none, .areturn, 1, 0, 0, 0)] := fq_of2 cd_361 ow_361 cl_361 rfl (pc := 42) (by decide +kernel)
        j_aldn (pc := 42) D rfl rfl rfl fun D =>
        j_gfc (pc := 43) (a := 303) D rfl rfl (by decide) rfl (s0_303 H) rfl (sf_228_303 H) fun D =>
        j_aldn (pc := 46) D rfl rfl rfl fun D =>
        j_gf (pc := 47) (a := (h 12 363 (h 249 303 0).toNat).toNat) D rfl rfl (nz_cls H.2.1 kc6 (by decide)) rfl kc6 rfl fun D =>
        j_ildn (pc := 50) D rfl rfl rfl fun D =>
        j_alp (pc := 51) (e := 9) H.2.1 D rfl rfl ⟨rfl, rfl, rfl⟩ rfl fun q q2 D =>
        j_al (pc := 52) (a := 355) (e := 12) D rfl rfl rfl (by decide) (s0_355 H) (s1_355 H) ⟨rfl, rfl, rfl⟩ rfl gn fun qb10 D =>
        j_aret D rt_361)) (fun m5 q4 h2 e1 =>
      j_tx (hx_361 _))
/-! 362 StatuteHouse$TablePart.level(LStatuteHouse$Rule;I)V -/
theorem cd_362 : fi_code 362 = prog_61_method_4_code := rfl
theorem hx_362 : ∀ pc, fi_hat 362 pc = none := fun pc => by unfold fi_hat; rw [show fi_hh 362 = [] from rfl]; rfl
theorem rt_362 : fi_ret 362 = none := rfl
theorem nl_362 : fi_nl 362 = 4 := rfl
theorem ow_362 : fi_ow 362 = 22 := rfl
theorem cl_362 : fj_cutT.getD 362 [] = [(46, [1, 3]), (62, [])] := rfl
theorem cut_362_46 : fj_cut 362 46 = some [1, 3] := by decide +kernel
noncomputable def c_362_46 (d : Nat) (x1 x3 s0 s1 s2 s3 : Int) (h : fi_H) : fk_R := gG (fj_run d) 362 46 [(1, (4, x1)), (3, (0, x3))] [(1, s3), (4, s2), (0, s1), (4, s0)] h
theorem cut_362_62 : fj_cut 362 62 = some [] := by decide +kernel
noncomputable def c_362_62 (d : Nat) (s0 s1 s2 s3 s4 : Int) (h : fi_H) : fk_R := gG (fj_run d) 362 62 [] [(1, s4), (1, s3), (4, s2), (0, s1), (4, s0)] h
theorem e_362_46 (d : Nat) (x1 x3 s0 s1 s2 s3 : Int) {h : fi_H} (H : Shp h) : c_362_46 d x1 x3 s0 s1 s2 s3 h =
  if x3 = (-1) then
    c_362_62 d s0 s1 s2 s3 1 h
  else
    if h 0 x1.toNat 0 = 117 then
    if h 0 (h 144 x1.toNat 0).toNat 0 = 10 ∧ 0 ≤ x3 ∧ x3 < h 1 (h 144 x1.toNat 0).toNat 0 then
    c_362_62 d s0 s1 s2 s3 (wI (h 10 (h 144 x1.toNat 0).toNat x3.toNat)) h
    else none
    else none := by
  unfold c_362_46
  exact
    have D : fk_D 362 [(46, some [1, 3], .iload_n 3, 1, 0, 0, 0), (47, none, .iconst (-1), 1, 0, (-1), 0), (48, none, .if_icmp .ne 7, 3, 55, 0, 0), (51, none, .lconst 1, 1, 0, 0, 0), (52, none, .goto 10, 3, 62, 0, 0)] := fq_of2 cd_362 ow_362 cl_362 rfl (pc := 46) (by decide +kernel)
    j_ildn (pc := 46) D rfl rfl rfl fun D =>
    j_ic (pc := 47) D rfl fun D =>
    j_ine (pc := 48) D rfl (fun q D =>
      j_c0 (pc := 51) (v := (1, 1)) D rfl rfl (by decide +kernel) fun D =>
      j_goto (pc := 52) D rfl <|
      fk_jump cut_362_62 rfl rfl) (fun q =>
      have D : fk_D 362 [(55, none, .aload_n 1, 1, 0, 0, 0), (56, none, .getfield 87, 3, 144, (-117), 12), (59, none, .iload_n 3, 1, 0, 0, 0), (60, none, .iaload, 1, 0, 0, 0), (61, none, .i2l, 1, 0, 0, 0)] := fq_of2 cd_362 ow_362 cl_362 rfl (pc := 55) (by decide +kernel)
      j_aldn (pc := 55) D rfl rfl rfl fun D =>
      j_gfo (pc := 56) H.2.1 D rfl rfl rfl rfl fun kc1 D =>
      j_ildn (pc := 59) D rfl rfl rfl fun D =>
      j_alp (pc := 60) (e := 10) H.2.1 D rfl rfl ⟨rfl, rfl, rfl⟩ rfl fun q q2 D =>
      j_i2l (pc := 61) D rfl fun D =>
      fk_jump cut_362_62 rfl rfl)
theorem e_362_62 (d : Nat) (s0 s1 s2 s3 s4 : Int) {h : fi_H} (H : Shp h) : c_362_62 d s0 s1 s2 s3 s4 h =
  cv_ (fj_run d 215 h [(4, s0), (0, s1), (4, s2), (1, s3), (1, s4)])
    (fun h1 =>
    some (.inl none, h1))
    (fun q3 h1 => tx_ q3 h1) := by
  unfold c_362_62
  exact
    have D : fk_D 362 [(62, some [], .invokestatic 90, 3, 5, 215, 0), (65, none, .return_, 1, 0, 0, 0)] := fq_of2 cd_362 ow_362 cl_362 rfl (pc := 62) (by decide +kernel)
    j_isv (pc := 62) (m := 215) (a := [(4, s0), (0, s1), (4, s2), (1, s3), (1, s4)]) (rest := []) D rfl rfl rfl rfl (fun h1 e1 D =>
      have T := fj_run_ok _ _ _ _ _ _ H.1 e1
      have H := shp_st H T
      j_vret D rt_362) (fun q3 h1 e1 =>
      j_tx (hx_362 _))
theorem m_362 (d : Nat) (x0 x1 x2 : Int) {h : fi_H} (H : Shp h) (hk : h 0 x0.toNat 0 = 122) (ht360 : h 360 x0.toNat 0 = 303) : fj_run (d + 1) 362 h [(4, x0), (4, x1), (0, x2)] =
  if 0 ≤ x2 ∧ x2 < 700 then
  ca_ (fj_run d 363 h [(4, x0), (4, x1), (1, h 11 315 x2.toNat)]) 0
    (fun v3 h2 =>
    if v3 = (-1) then
      c_362_46 d x1 v3 309 x2 (h2 340 x0.toNat 0) 0 h2
    else
      if h2 0 x1.toNat 0 = 117 then
      if h2 0 (h2 143 x1.toNat 0).toNat 0 = 10 ∧ 0 ≤ v3 ∧ v3 < h2 1 (h2 143 x1.toNat 0).toNat 0 then
      c_362_46 d x1 v3 309 x2 (h2 340 x0.toNat 0) (wI (h2 10 (h2 143 x1.toNat 0).toNat v3.toNat)) h2
      else none
      else none)
    (fun q4 h2 => tx_ q4 h2)
  else none := by
  rw [fj_run_eq d (by decide) h [(4, x0), (4, x1), (0, x2)] (Nat.le_of_ble_eq_true (by rw [nl_362]; rfl))]
  show gG (fj_run d) 362 0 [(0, (4, x0)), (1, (4, x1)), (2, (0, x2))] [] h = _
  exact
    have D : fk_D 362 [(0, none, .aload_n 0, 1, 0, 0, 0), (1, none, .aload_n 1, 1, 0, 0, 0), (2, none, .aload_n 0, 1, 0, 0, 0), (3, none, .getfield 3, 3, 360, 122, 12), (6, none, .getfield 66, 3, 213, 100, 12), (9, none, .getfield 70, 3, 119, 119, 12), (12, none, .iload_n 2, 1, 0, 0, 0), (13, none, .laload, 1, 0, 0, 0), (14, none, .invokevirtual 76, 3, 2, 232, 1), (17, none, .istore_n 3, 1, 0, 0, 0), (18, none, .aload_n 0, 1, 0, 0, 0), (19, none, .getfield 3, 3, 360, 122, 12), (22, none, .getfield 66, 3, 213, 100, 12), (25, none, .iload_n 2, 1, 0, 0, 0), (26, none, .aload_n 0, 1, 0, 0, 0), (27, none, .getfield 80, 3, 340, 122, 12), (30, none, .iload_n 3, 1, 0, 0, 0), (31, none, .iconst (-1), 1, 0, (-1), 0), (32, none, .if_icmp .ne 7, 3, 39, 0, 0), (35, none, .lconst 0, 1, 0, 0, 0)] := fq_of2 cd_362 ow_362 cl_362 rfl (pc := 0) (by decide +kernel)
    j_aldn (pc := 0) D rfl rfl rfl fun D =>
    j_aldn (pc := 1) D rfl rfl rfl fun D =>
    j_aldn (pc := 2) D rfl rfl rfl fun D =>
    j_gfc (pc := 3) (a := x0.toNat) D rfl rfl (nz_cls H.2.1 hk (by decide)) rfl hk rfl ht360 fun D =>
    j_gfc (pc := 6) (a := 303) D rfl rfl (by decide) rfl (s0_303 H) rfl (sf_213_303 H) fun D =>
    j_gfc (pc := 9) (a := 309) D rfl rfl (by decide) rfl (s0_309 H) rfl (sf_119_309 H) fun D =>
    j_ildn (pc := 12) D rfl rfl rfl fun D =>
    j_al (pc := 13) (a := 315) (e := 11) D rfl rfl rfl (by decide) (s0_315 H) (s1_315 H) ⟨rfl, rfl, rfl⟩ rfl gn fun qb1 D =>
    j_iv (pc := 14) (m := 363) (dd := 232) (a := [(4, x1), (1, h 11 315 x2.toNat)]) (rest := []) D rfl rfl rfl rfl rfl (nz_cls H.2.1 hk (by decide)) hk (by decide +kernel) (fun v3 h2 e1 D =>
      have T := fj_run_ok _ _ _ _ _ _ H.1 e1
      have ht360 := fin_st H.1 T.2 hk (by decide) (by decide +kernel) ht360 (by decide)
      have hk := cls_st H.1 T.2 hk (by decide)
      have H := shp_st H T
      j_istn (pc := 17) (L' := [(3, (0, v3)), (0, (4, x0)), (1, (4, x1)), (2, (0, x2))]) D rfl nl_362 rfl rfl fun D =>
      j_aldn (pc := 18) D rfl rfl rfl fun D =>
      j_gfc (pc := 19) (a := x0.toNat) D rfl rfl (nz_cls H.2.1 hk (by decide)) rfl hk rfl ht360 fun D =>
      j_gfc (pc := 22) (a := 303) D rfl rfl (by decide) rfl (s0_303 H) rfl (sf_213_303 H) fun D =>
      j_ildn (pc := 25) D rfl rfl rfl fun D =>
      j_aldn (pc := 26) D rfl rfl rfl fun D =>
      j_gf (pc := 27) (a := x0.toNat) D rfl rfl (nz_cls H.2.1 hk (by decide)) rfl hk rfl fun D =>
      j_ildn (pc := 30) D rfl rfl rfl fun D =>
      j_ic (pc := 31) D rfl fun D =>
      j_ine (pc := 32) D rfl (fun q D =>
        j_c0 (pc := 35) (v := (1, 0)) D rfl rfl (by decide +kernel) fun D =>
        have D : fk_D 362 [(36, none, .goto 10, 3, 46, 0, 0)] := fq_of2 cd_362 ow_362 cl_362 rfl (pc := 36) (by decide +kernel)
        j_goto (pc := 36) D rfl <|
        fk_jump cut_362_46 rfl rfl) (fun q =>
        have D : fk_D 362 [(39, none, .aload_n 1, 1, 0, 0, 0), (40, none, .getfield 84, 3, 143, (-117), 12), (43, none, .iload_n 3, 1, 0, 0, 0), (44, none, .iaload, 1, 0, 0, 0), (45, none, .i2l, 1, 0, 0, 0)] := fq_of2 cd_362 ow_362 cl_362 rfl (pc := 39) (by decide +kernel)
        j_aldn (pc := 39) D rfl rfl rfl fun D =>
        j_gfo (pc := 40) H.2.1 D rfl rfl rfl rfl fun kc5 D =>
        j_ildn (pc := 43) D rfl rfl rfl fun D =>
        j_alp (pc := 44) (e := 10) H.2.1 D rfl rfl ⟨rfl, rfl, rfl⟩ rfl fun q q2 D =>
        j_i2l (pc := 45) D rfl fun D =>
        fk_jump cut_362_46 rfl rfl)) (fun q4 h2 e1 =>
      j_tx (hx_362 _))
/-! 363 StatuteHouse$TablePart.rowOf(LStatuteHouse$Rule;J)I -/
theorem cd_363 : fi_code 363 = prog_61_method_3_code := rfl
theorem hx_363 : ∀ pc, fi_hat 363 pc = none := fun pc => by unfold fi_hat; rw [show fi_hh 363 = [] from rfl]; rfl
theorem rt_363 : fi_ret 363 = some .int := rfl
theorem nl_363 : fi_nl 363 = 5 := rfl
theorem ow_363 : fi_ow 363 = 22 := rfl
theorem cl_363 : fj_cutT.getD 363 [] = [(9, [1, 2, 4])] := rfl
theorem cut_363_9 : fj_cut 363 9 = some [1, 2, 4] := by decide +kernel
noncomputable def c_363_9 (d : Nat) (x1 x2 x4 : Int) (h : fi_H) : fk_R := gG (fj_run d) 363 9 [(1, (4, x1)), (2, (1, x2)), (4, (0, x4))] [] h
theorem e_363_9 (d : Nat) (x1 x2 x4 : Int) {h : fi_H} (H : Shp h) : c_363_9 d x1 x2 x4 h =
  if x4 < 0 then
    some (.inl (some (0, x4)), h)
  else
    if h 0 x1.toNat 0 = 117 then
    if h 0 (h 142 x1.toNat 0).toNat 0 = 10 ∧ 0 ≤ x4 ∧ x4 < h 1 (h 142 x1.toNat 0).toNat 0 then
    if 0 < lc_ (wI (h 10 (h 142 x1.toNat 0).toNat x4.toNat)) x2 then
      c_363_9 d x1 x2 (wI (x4 + (-1))) h
    else
      some (.inl (some (0, x4)), h)
    else none
    else none := by
  unfold c_363_9
  exact
    have D : fk_D 363 [(9, some [1, 2, 4], .iload 4, 2, 0, 0, 0), (11, none, .ifCond .lt 22, 3, 33, 0, 0), (14, none, .aload_n 1, 1, 0, 0, 0), (15, none, .getfield 60, 3, 142, (-117), 12), (18, none, .iload 4, 2, 0, 0, 0), (20, none, .iaload, 1, 0, 0, 0), (21, none, .i2l, 1, 0, 0, 0), (22, none, .lload_n 2, 1, 0, 0, 0), (23, none, .lcmp, 1, 0, 0, 0), (24, none, .ifCond .le 9, 3, 33, 0, 0), (27, none, .iinc 4 (-1), 3, 0, (-1), 0), (30, none, .goto (-21), 3, 9, 0, 0)] := fq_of2 cd_363 ow_363 cl_363 rfl (pc := 9) (by decide +kernel)
    j_ild (pc := 9) D rfl rfl rfl fun D =>
    j_iflt (pc := 11) D rfl (fun q =>
      have D : fk_D 363 [(33, none, .iload 4, 2, 0, 0, 0), (35, none, .ireturn, 1, 0, 0, 0)] := fq_of2 cd_363 ow_363 cl_363 rfl (pc := 33) (by decide +kernel)
      j_ild (pc := 33) D rfl rfl rfl fun D =>
      j_iret D rt_363) (fun q D =>
      j_aldn (pc := 14) D rfl rfl rfl fun D =>
      j_gfo (pc := 15) H.2.1 D rfl rfl rfl rfl fun kc1 D =>
      j_ild (pc := 18) D rfl rfl rfl fun D =>
      j_alp (pc := 20) (e := 10) H.2.1 D rfl rfl ⟨rfl, rfl, rfl⟩ rfl fun q q2 D =>
      j_i2l (pc := 21) D rfl fun D =>
      j_lldn (pc := 22) D rfl rfl rfl fun D =>
      j_lcmp (pc := 23) D rfl fun D =>
      j_ifle (pc := 24) D rfl (fun q D =>
        j_inc (pc := 27) (L' := [(4, (0, wI (x4 + (-1)))), (1, (4, x1)), (2, (1, x2))]) D rfl rfl rfl (by decide +kernel) rfl fun D =>
        j_goto (pc := 30) D rfl <|
        fk_jump cut_363_9 rfl rfl) (fun q =>
        have D : fk_D 363 [(33, none, .iload 4, 2, 0, 0, 0), (35, none, .ireturn, 1, 0, 0, 0)] := fq_of2 cd_363 ow_363 cl_363 rfl (pc := 33) (by decide +kernel)
        j_ild (pc := 33) D rfl rfl rfl fun D =>
        j_iret D rt_363))
theorem m_363 (d : Nat) (x0 x1 x2 : Int) {h : fi_H} (H : Shp h) (hk : h 0 x0.toNat 0 = 122) (ht360 : h 360 x0.toNat 0 = 303) : fj_run (d + 1) 363 h [(4, x0), (4, x1), (1, x2)] =
  if h 0 x1.toNat 0 = 117 then
  if fk_isA (h 0 (h 142 x1.toNat 0).toNat 0) = true then
  c_363_9 d x1 x2 (wI ((h 1 (h 142 x1.toNat 0).toNat 0) - 1)) h
  else none
  else none := by
  rw [fj_run_eq d (by decide) h [(4, x0), (4, x1), (1, x2)] (Nat.le_of_ble_eq_true (by rw [nl_363]; rfl))]
  show gG (fj_run d) 363 0 [(0, (4, x0)), (1, (4, x1)), (2, (1, x2))] [] h = _
  exact
    have D : fk_D 363 [(0, none, .aload_n 1, 1, 0, 0, 0), (1, none, .getfield 60, 3, 142, (-117), 12), (4, none, .arraylength, 1, 0, 0, 0), (5, none, .iconst 1, 1, 0, 1, 0), (6, none, .isub, 1, 0, 0, 0), (7, none, .istore 4, 2, 0, 0, 0)] := fq_of2 cd_363 ow_363 cl_363 rfl (pc := 0) (by decide +kernel)
    j_aldn (pc := 0) D rfl rfl rfl fun D =>
    j_gfo (pc := 1) H.2.1 D rfl rfl rfl rfl fun kc1 D =>
    j_lenu (pc := 4) H.2.1 D rfl fun q D =>
    j_ic (pc := 5) D rfl fun D =>
    j_isub (pc := 6) D rfl fun D =>
    j_ist (pc := 7) (L' := [(4, (0, wI ((h 1 (h 142 x1.toNat 0).toNat 0) - 1))), (0, (4, x0)), (1, (4, x1)), (2, (1, x2))]) D rfl nl_363 rfl rfl fun D =>
    fk_jump cut_363_9 rfl rfl
/-! 364 StatuteHouse$TablePart.slices(LStatuteHouse$Rule;I)V -/
theorem cd_364 : fi_code 364 = prog_61_method_5_code := rfl
theorem hx_364 : ∀ pc, fi_hat 364 pc = none := fun pc => by unfold fi_hat; rw [show fi_hh 364 = [] from rfl]; rfl
theorem rt_364 : fi_ret 364 = none := rfl
theorem nl_364 : fi_nl 364 = 8 := rfl
theorem ow_364 : fi_ow 364 = 22 := rfl
theorem cl_364 : fj_cutT.getD 364 [] = [(25, [0, 1, 2, 3, 5]), (78, [0, 1, 2, 3, 5]), (135, [0, 1, 2, 3, 5])] := rfl
theorem cut_364_25 : fj_cut 364 25 = some [0, 1, 2, 3, 5] := by decide +kernel
noncomputable def c_364_25 (d : Nat) (x0 x1 x2 x3 x5 : Int) (h : fi_H) : fk_R := gG (fj_run d) 364 25 [(0, (4, x0)), (1, (4, x1)), (2, (0, x2)), (3, (1, x3)), (5, (0, x5))] [] h
theorem cut_364_78 : fj_cut 364 78 = some [0, 1, 2, 3, 5] := by decide +kernel
noncomputable def c_364_78 (d : Nat) (x0 x1 x2 x3 x5 s0 : Int) (h : fi_H) : fk_R := gG (fj_run d) 364 78 [(0, (4, x0)), (1, (4, x1)), (2, (0, x2)), (3, (1, x3)), (5, (0, x5))] [(1, s0)] h
theorem cut_364_135 : fj_cut 364 135 = some [0, 1, 2, 3, 5] := by decide +kernel
noncomputable def c_364_135 (d : Nat) (x0 x1 x2 x3 x5 : Int) (h : fi_H) : fk_R := gG (fj_run d) 364 135 [(0, (4, x0)), (1, (4, x1)), (2, (0, x2)), (3, (1, x3)), (5, (0, x5))] [] h
theorem e_364_25 (d : Nat) (x0 x1 x2 x3 x5 : Int) {h : fi_H} (H : Shp h) (hk : h 0 x0.toNat 0 = 122) (ht360 : h 360 x0.toNat 0 = 303) : c_364_25 d x0 x1 x2 x3 x5 h =
  if h 0 x1.toNat 0 = 117 then
  if fk_isA (h 0 (h 142 x1.toNat 0).toNat 0) = true then
  if x5 < h 1 (h 142 x1.toNat 0).toNat 0 then
    if h 0 (h 142 x1.toNat 0).toNat 0 = 10 ∧ 0 ≤ x5 ∧ x5 < h 1 (h 142 x1.toNat 0).toNat 0 then
    if lc_ (wI (h 10 (h 142 x1.toNat 0).toNat x5.toNat)) x3 < 0 then
      if fk_isA (h 0 (h 142 x1.toNat 0).toNat 0) = true then
      if wI (x5 + 1) < h 1 (h 142 x1.toNat 0).toNat 0 then
        if h 0 (h 142 x1.toNat 0).toNat 0 = 10 ∧ 0 ≤ wI (x5 + 1) ∧ wI (x5 + 1) < h 1 (h 142 x1.toNat 0).toNat 0 then
        ca_ (fj_run d 153 h [(1, x3), (1, wI (h 10 (h 142 x1.toNat 0).toNat (wI (x5 + 1)).toNat))]) 1
          (fun v3 h2 =>
          c_364_78 d x0 x1 x2 x3 x5 v3 h2)
          (fun q4 h2 => tx_ q4 h2)
        else none
      else
        c_364_78 d x0 x1 x2 x3 x5 x3 h
      else none
    else
      some (.inl none, h)
    else none
  else
    some (.inl none, h)
  else none
  else none := by
  unfold c_364_25
  exact
    have D : fk_D 364 [(25, some [0, 1, 2, 3, 5], .iload 5, 2, 0, 0, 0), (27, none, .aload_n 1, 1, 0, 0, 0), (28, none, .getfield 60, 3, 142, (-117), 12), (31, none, .arraylength, 1, 0, 0, 0), (32, none, .if_icmp .ge 106, 3, 138, 0, 0), (35, none, .aload_n 1, 1, 0, 0, 0), (36, none, .getfield 60, 3, 142, 117, 12), (39, none, .iload 5, 2, 0, 0, 0), (41, none, .iaload, 1, 0, 0, 0), (42, none, .i2l, 1, 0, 0, 0), (43, none, .lload_n 3, 1, 0, 0, 0), (44, none, .lcmp, 1, 0, 0, 0), (45, none, .ifCond .ge 93, 3, 138, 0, 0), (48, none, .iload 5, 2, 0, 0, 0), (50, none, .iconst 1, 1, 0, 1, 0), (51, none, .iadd, 1, 0, 0, 0), (52, none, .aload_n 1, 1, 0, 0, 0), (53, none, .getfield 60, 3, 142, 117, 12), (56, none, .arraylength, 1, 0, 0, 0), (57, none, .if_icmp .ge 20, 3, 77, 0, 0)] := fq_of2 cd_364 ow_364 cl_364 rfl (pc := 25) (by decide +kernel)
    j_ild (pc := 25) D rfl rfl rfl fun D =>
    j_aldn (pc := 27) D rfl rfl rfl fun D =>
    j_gfo (pc := 28) H.2.1 D rfl rfl rfl rfl fun kc1 D =>
    j_lenu (pc := 31) H.2.1 D rfl fun q D =>
    j_ige (pc := 32) D rfl (fun q D =>
      j_aldn (pc := 35) D rfl rfl rfl fun D =>
      j_gf (pc := 36) (a := x1.toNat) D rfl rfl (nz_cls H.2.1 kc1 (by decide)) rfl kc1 rfl fun D =>
      j_ild (pc := 39) D rfl rfl rfl fun D =>
      j_alp (pc := 41) (e := 10) H.2.1 D rfl rfl ⟨rfl, rfl, rfl⟩ rfl fun q q2 D =>
      j_i2l (pc := 42) D rfl fun D =>
      j_lldn (pc := 43) D rfl rfl rfl fun D =>
      j_lcmp (pc := 44) D rfl fun D =>
      j_ifge (pc := 45) D rfl (fun q D =>
        j_ild (pc := 48) D rfl rfl rfl fun D =>
        j_ic (pc := 50) D rfl fun D =>
        j_iadd (pc := 51) D rfl fun D =>
        j_aldn (pc := 52) D rfl rfl rfl fun D =>
        j_gf (pc := 53) (a := x1.toNat) D rfl rfl (nz_cls H.2.1 kc1 (by decide)) rfl kc1 rfl fun D =>
        j_lenu (pc := 56) H.2.1 D rfl fun q D =>
        j_ige (pc := 57) D rfl (fun q D =>
          have D : fk_D 364 [(60, none, .lload_n 3, 1, 0, 0, 0), (61, none, .aload_n 1, 1, 0, 0, 0), (62, none, .getfield 60, 3, 142, 117, 12), (65, none, .iload 5, 2, 0, 0, 0), (67, none, .iconst 1, 1, 0, 1, 0), (68, none, .iadd, 1, 0, 0, 0), (69, none, .iaload, 1, 0, 0, 0), (70, none, .i2l, 1, 0, 0, 0), (71, none, .invokestatic 97, 3, 2, 153, 2), (74, none, .goto 4, 3, 78, 0, 0)] := fq_of2 cd_364 ow_364 cl_364 rfl (pc := 60) (by decide +kernel)
          j_lldn (pc := 60) D rfl rfl rfl fun D =>
          j_aldn (pc := 61) D rfl rfl rfl fun D =>
          j_gf (pc := 62) (a := x1.toNat) D rfl rfl (nz_cls H.2.1 kc1 (by decide)) rfl kc1 rfl fun D =>
          j_ild (pc := 65) D rfl rfl rfl fun D =>
          j_ic (pc := 67) D rfl fun D =>
          j_iadd (pc := 68) D rfl fun D =>
          j_alp (pc := 69) (e := 10) H.2.1 D rfl rfl ⟨rfl, rfl, rfl⟩ rfl fun q q2 D =>
          j_i2l (pc := 70) D rfl fun D =>
          j_is (pc := 71) (m := 153) (a := [(1, x3), (1, wI (h 10 (h 142 x1.toNat 0).toNat (wI (x5 + 1)).toNat))]) (rest := []) D rfl rfl rfl rfl (fun v3 h2 e1 D =>
            have T := fj_run_ok _ _ _ _ _ _ H.1 e1
            have ht360 := fin_st H.1 T.2 hk (by decide) (by decide +kernel) ht360 (by decide)
            have hk := cls_st H.1 T.2 hk (by decide)
            have kc1 := cls_st H.1 T.2 kc1 (by decide)
            have H := shp_st H T
            j_goto (pc := 74) D rfl <|
            fk_jump cut_364_78 rfl rfl) (fun q4 h2 e1 =>
            j_tx (hx_364 _))) (fun q =>
          have D : fk_D 364 [(77, none, .lload_n 3, 1, 0, 0, 0)] := fq_of2 cd_364 ow_364 cl_364 rfl (pc := 77) (by decide +kernel)
          j_lldn (pc := 77) D rfl rfl rfl fun D =>
          fk_jump cut_364_78 rfl rfl)) (fun q =>
        have D : fk_D 364 [(138, none, .return_, 1, 0, 0, 0)] := fq_of2 cd_364 ow_364 cl_364 rfl (pc := 138) (by decide +kernel)
        j_vret D rt_364)) (fun q =>
      have D : fk_D 364 [(138, none, .return_, 1, 0, 0, 0)] := fq_of2 cd_364 ow_364 cl_364 rfl (pc := 138) (by decide +kernel)
      j_vret D rt_364)
theorem e_364_78 (d : Nat) (x0 x1 x2 x3 x5 s0 : Int) {h : fi_H} (H : Shp h) (hk : h 0 x0.toNat 0 = 122) (ht360 : h 360 x0.toNat 0 = 303) : c_364_78 d x0 x1 x2 x3 x5 s0 h =
  if h 0 x1.toNat 0 = 117 then
  if h 0 (h 142 x1.toNat 0).toNat 0 = 10 ∧ 0 ≤ x5 ∧ x5 < h 1 (h 142 x1.toNat 0).toNat 0 then
  if h 0 (h 143 x1.toNat 0).toNat 0 = 10 ∧ 0 ≤ x5 ∧ x5 < h 1 (h 143 x1.toNat 0).toNat 0 then
  if h 0 (h 144 x1.toNat 0).toNat 0 = 10 ∧ 0 ≤ x5 ∧ x5 < h 1 (h 144 x1.toNat 0).toNat 0 then
  cv_ (fj_run d 356 h [(4, 303), (0, wI (x2 + 1)), (1, wJ (s0 - (wI (h 10 (h 142 x1.toNat 0).toNat x5.toNat)))), (1, wI (h 10 (h 143 x1.toNat 0).toNat x5.toNat)), (1, wI (h 10 (h 144 x1.toNat 0).toNat x5.toNat))])
    (fun h2 =>
    cv_ (fj_run d 346 h2 [(4, 303), (0, x2), (4, 4), (4, 4), (0, 1)])
      (fun h5 =>
      c_364_135 d x0 x1 x2 x3 (wI (x5 + 1)) h5)
      (fun q7 h5 => tx_ q7 h5))
    (fun q4 h2 => tx_ q4 h2)
  else none
  else none
  else none
  else none := by
  unfold c_364_78
  exact
    have D : fk_D 364 [(78, some [0, 1, 2, 3, 5], .lstore 6, 2, 0, 0, 0), (80, none, .aload_n 0, 1, 0, 0, 0), (81, none, .getfield 3, 3, 360, 122, 12), (84, none, .iload_n 2, 1, 0, 0, 0), (85, none, .iconst 1, 1, 0, 1, 0), (86, none, .iadd, 1, 0, 0, 0), (87, none, .lload 6, 2, 0, 0, 0), (89, none, .aload_n 1, 1, 0, 0, 0), (90, none, .getfield 60, 3, 142, (-117), 12), (93, none, .iload 5, 2, 0, 0, 0), (95, none, .iaload, 1, 0, 0, 0), (96, none, .i2l, 1, 0, 0, 0), (97, none, .lsub, 1, 0, 0, 0), (98, none, .aload_n 1, 1, 0, 0, 0), (99, none, .getfield 84, 3, 143, 117, 12), (102, none, .iload 5, 2, 0, 0, 0), (104, none, .iaload, 1, 0, 0, 0), (105, none, .i2l, 1, 0, 0, 0), (106, none, .aload_n 1, 1, 0, 0, 0), (107, none, .getfield 87, 3, 144, 117, 12)] := fq_of2 cd_364 ow_364 cl_364 rfl (pc := 78) (by decide +kernel)
    j_lst (pc := 78) (L' := [(6, (1, s0)), (0, (4, x0)), (1, (4, x1)), (2, (0, x2)), (3, (1, x3)), (5, (0, x5))]) D rfl nl_364 rfl rfl fun D =>
    j_aldn (pc := 80) D rfl rfl rfl fun D =>
    j_gfc (pc := 81) (a := x0.toNat) D rfl rfl (nz_cls H.2.1 hk (by decide)) rfl hk rfl ht360 fun D =>
    j_ildn (pc := 84) D rfl rfl rfl fun D =>
    j_ic (pc := 85) D rfl fun D =>
    j_iadd (pc := 86) D rfl fun D =>
    j_lld (pc := 87) D rfl rfl rfl fun D =>
    j_aldn (pc := 89) D rfl rfl rfl fun D =>
    j_gfo (pc := 90) H.2.1 D rfl rfl rfl rfl fun kc1 D =>
    j_ild (pc := 93) D rfl rfl rfl fun D =>
    j_alp (pc := 95) (e := 10) H.2.1 D rfl rfl ⟨rfl, rfl, rfl⟩ rfl fun q q2 D =>
    j_i2l (pc := 96) D rfl fun D =>
    j_lsub (pc := 97) D rfl fun D =>
    j_aldn (pc := 98) D rfl rfl rfl fun D =>
    j_gf (pc := 99) (a := x1.toNat) D rfl rfl (nz_cls H.2.1 kc1 (by decide)) rfl kc1 rfl fun D =>
    j_ild (pc := 102) D rfl rfl rfl fun D =>
    j_alp (pc := 104) (e := 10) H.2.1 D rfl rfl ⟨rfl, rfl, rfl⟩ rfl fun q q2 D =>
    j_i2l (pc := 105) D rfl fun D =>
    j_aldn (pc := 106) D rfl rfl rfl fun D =>
    j_gf (pc := 107) (a := x1.toNat) D rfl rfl (nz_cls H.2.1 kc1 (by decide)) rfl kc1 rfl fun D =>
    have D : fk_D 364 [(110, none, .iload 5, 2, 0, 0, 0), (112, none, .iaload, 1, 0, 0, 0), (113, none, .i2l, 1, 0, 0, 0), (114, none, .invokevirtual 103, 3, 4, 123, 0), (117, none, .aload_n 0, 1, 0, 0, 0), (118, none, .getfield 3, 3, 360, 122, 12), (121, none, .iload_n 2, 1, 0, 0, 0), (122, none, .getstatic 107, 3, 4, 4, 0), (125, none, .getstatic 107, 3, 4, 4, 0), (128, none, .iconst 1, 1, 0, 1, 0), (129, none, .invokevirtual 112, 3, 4, 221, 0), (132, none, .iinc 5 1, 3, 0, 1, 0)] := fq_of2 cd_364 ow_364 cl_364 rfl (pc := 110) (by decide +kernel)
    j_ild (pc := 110) D rfl rfl rfl fun D =>
    j_alp (pc := 112) (e := 10) H.2.1 D rfl rfl ⟨rfl, rfl, rfl⟩ rfl fun q q2 D =>
    j_i2l (pc := 113) D rfl fun D =>
    j_ivv (pc := 114) (m := 356) (dd := 123) (a := [(0, wI (x2 + 1)), (1, wJ (s0 - (wI (h 10 (h 142 x1.toNat 0).toNat x5.toNat)))), (1, wI (h 10 (h 143 x1.toNat 0).toNat x5.toNat)), (1, wI (h 10 (h 144 x1.toNat 0).toNat x5.toNat))]) (rest := []) D rfl rfl rfl rfl rfl (by decide) (s0_303 H) (by decide +kernel) (fun h2 e1 D =>
      have T := fj_run_ok _ _ _ _ _ _ H.1 e1
      have ht360 := fin_st H.1 T.2 hk (by decide) (by decide +kernel) ht360 (by decide)
      have hk := cls_st H.1 T.2 hk (by decide)
      have kc1 := cls_st H.1 T.2 kc1 (by decide)
      have H := shp_st H T
      j_aldn (pc := 117) D rfl rfl rfl fun D =>
      j_gfc (pc := 118) (a := x0.toNat) D rfl rfl (nz_cls H.2.1 hk (by decide)) rfl hk rfl ht360 fun D =>
      j_ildn (pc := 121) D rfl rfl rfl fun D =>
      j_gs (pc := 122) D rfl fun D =>
      j_gs (pc := 125) D rfl fun D =>
      j_ic (pc := 128) D rfl fun D =>
      j_ivv (pc := 129) (m := 346) (dd := 221) (a := [(0, x2), (4, 4), (4, 4), (0, 1)]) (rest := []) D rfl rfl rfl rfl rfl (by decide) (s0_303 H) (by decide +kernel) (fun h5 e1 D =>
        have T := fj_run_ok _ _ _ _ _ _ H.1 e1
        have ht360 := fin_st H.1 T.2 hk (by decide) (by decide +kernel) ht360 (by decide)
        have hk := cls_st H.1 T.2 hk (by decide)
        have kc1 := cls_st H.1 T.2 kc1 (by decide)
        have H := shp_st H T
        j_inc (pc := 132) (L' := [(5, (0, wI (x5 + 1))), (6, (1, s0)), (0, (4, x0)), (1, (4, x1)), (2, (0, x2)), (3, (1, x3))]) D rfl rfl rfl (by decide +kernel) rfl fun D =>
        fk_jump cut_364_135 rfl rfl) (fun q7 h5 e1 =>
        j_tx (hx_364 _))) (fun q4 h2 e1 =>
      j_tx (hx_364 _))
theorem e_364_135 (d : Nat) (x0 x1 x2 x3 x5 : Int) {h : fi_H} (H : Shp h) (hk : h 0 x0.toNat 0 = 122) (ht360 : h 360 x0.toNat 0 = 303) : c_364_135 d x0 x1 x2 x3 x5 h =
  c_364_25 d x0 x1 x2 x3 x5 h := by
  unfold c_364_135
  exact
    have D : fk_D 364 [(135, some [0, 1, 2, 3, 5], .goto (-110), 3, 25, 0, 0)] := fq_of2 cd_364 ow_364 cl_364 rfl (pc := 135) (by decide +kernel)
    j_goto (pc := 135) D rfl <|
    fk_jump cut_364_25 rfl rfl
theorem m_364 (d : Nat) (x0 x1 x2 : Int) {h : fi_H} (H : Shp h) (hk : h 0 x0.toNat 0 = 122) (ht360 : h 360 x0.toNat 0 = 303) : fj_run (d + 1) 364 h [(4, x0), (4, x1), (0, x2)] =
  if 0 ≤ x2 ∧ x2 < 700 then
  cv_ (fj_run d 347 h [(4, 303), (0, x2), (1, 0)])
    (fun h2 =>
    c_364_25 d x0 x1 x2 (h 11 315 x2.toNat) 0 h2)
    (fun q4 h2 => tx_ q4 h2)
  else none := by
  rw [fj_run_eq d (by decide) h [(4, x0), (4, x1), (0, x2)] (Nat.le_of_ble_eq_true (by rw [nl_364]; rfl))]
  show gG (fj_run d) 364 0 [(0, (4, x0)), (1, (4, x1)), (2, (0, x2))] [] h = _
  exact
    have D : fk_D 364 [(0, none, .aload_n 0, 1, 0, 0, 0), (1, none, .getfield 3, 3, 360, 122, 12), (4, none, .getfield 66, 3, 213, 100, 12), (7, none, .getfield 70, 3, 119, 119, 12), (10, none, .iload_n 2, 1, 0, 0, 0), (11, none, .laload, 1, 0, 0, 0), (12, none, .lstore_n 3, 1, 0, 0, 0), (13, none, .aload_n 0, 1, 0, 0, 0), (14, none, .getfield 3, 3, 360, 122, 12), (17, none, .iload_n 2, 1, 0, 0, 0), (18, none, .lconst 0, 1, 0, 0, 0), (19, none, .invokevirtual 94, 3, 2, 116, 0), (22, none, .iconst 0, 1, 0, 0, 0), (23, none, .istore 5, 2, 0, 0, 0)] := fq_of2 cd_364 ow_364 cl_364 rfl (pc := 0) (by decide +kernel)
    j_aldn (pc := 0) D rfl rfl rfl fun D =>
    j_gfc (pc := 1) (a := x0.toNat) D rfl rfl (nz_cls H.2.1 hk (by decide)) rfl hk rfl ht360 fun D =>
    j_gfc (pc := 4) (a := 303) D rfl rfl (by decide) rfl (s0_303 H) rfl (sf_213_303 H) fun D =>
    j_gfc (pc := 7) (a := 309) D rfl rfl (by decide) rfl (s0_309 H) rfl (sf_119_309 H) fun D =>
    j_ildn (pc := 10) D rfl rfl rfl fun D =>
    j_al (pc := 11) (a := 315) (e := 11) D rfl rfl rfl (by decide) (s0_315 H) (s1_315 H) ⟨rfl, rfl, rfl⟩ rfl gn fun qb1 D =>
    j_lstn (pc := 12) (L' := [(3, (1, h 11 315 x2.toNat)), (0, (4, x0)), (1, (4, x1)), (2, (0, x2))]) D rfl nl_364 rfl rfl fun D =>
    j_aldn (pc := 13) D rfl rfl rfl fun D =>
    j_gfc (pc := 14) (a := x0.toNat) D rfl rfl (nz_cls H.2.1 hk (by decide)) rfl hk rfl ht360 fun D =>
    j_ildn (pc := 17) D rfl rfl rfl fun D =>
    j_c0 (pc := 18) (v := (1, 0)) D rfl rfl (by decide +kernel) fun D =>
    j_ivv (pc := 19) (m := 347) (dd := 116) (a := [(0, x2), (1, 0)]) (rest := []) D rfl rfl rfl rfl rfl (by decide) (s0_303 H) (by decide +kernel) (fun h2 e1 D =>
      have T := fj_run_ok _ _ _ _ _ _ H.1 e1
      have ht360 := fin_st H.1 T.2 hk (by decide) (by decide +kernel) ht360 (by decide)
      have hk := cls_st H.1 T.2 hk (by decide)
      have H := shp_st H T
      j_ic (pc := 22) D rfl fun D =>
      j_ist (pc := 23) (L' := [(5, (0, 0)), (3, (1, h 11 315 x2.toNat)), (0, (4, x0)), (1, (4, x1)), (2, (0, x2))]) D rfl nl_364 rfl rfl fun D =>
      fk_jump cut_364_25 rfl rfl) (fun q4 h2 e1 =>
      j_tx (hx_364 _))
/-! 365 StatuteHouse$TablePart.between(LStatuteHouse$Rule;I)V -/
theorem cd_365 : fi_code 365 = prog_61_method_6_code := rfl
theorem hx_365 : ∀ pc, fi_hat 365 pc = none := fun pc => by unfold fi_hat; rw [show fi_hh 365 = [] from rfl]; rfl
theorem rt_365 : fi_ret 365 = none := rfl
theorem nl_365 : fi_nl 365 = 9 := rfl
theorem ow_365 : fi_ow 365 = 22 := rfl
theorem cl_365 : fj_cutT.getD 365 [] = [(43, [0, 1, 2, 5, 6]), (64, []), (141, [])] := rfl
theorem cut_365_43 : fj_cut 365 43 = some [0, 1, 2, 5, 6] := by decide +kernel
noncomputable def c_365_43 (d : Nat) (x0 x1 x2 x5 x6 : Int) (h : fi_H) : fk_R := gG (fj_run d) 365 43 [(0, (4, x0)), (1, (4, x1)), (2, (0, x2)), (5, (0, x5)), (6, (0, x6))] [] h
theorem cut_365_64 : fj_cut 365 64 = some [] := by decide +kernel
noncomputable def c_365_64 (d : Nat) (s0 s1 s2 s3 : Int) (h : fi_H) : fk_R := gG (fj_run d) 365 64 [] [(0, s3), (4, s2), (0, s1), (4, s0)] h
theorem cut_365_141 : fj_cut 365 141 = some [] := by decide +kernel
noncomputable def c_365_141 (d : Nat) (h : fi_H) : fk_R := gG (fj_run d) 365 141 [] [] h
theorem e_365_43 (d : Nat) (x0 x1 x2 x5 x6 : Int) {h : fi_H} (H : Shp h) (hk : h 0 x0.toNat 0 = 122) (ht360 : h 360 x0.toNat 0 = 303) : c_365_43 d x0 x1 x2 x5 x6 h =
  if h 0 x1.toNat 0 = 117 then
  if x6 = (-1) then
    c_365_64 d 303 x2 (h 143 x1.toNat 0) 0 h
  else
    c_365_64 d 303 x2 (h 143 x1.toNat 0) x5 h
  else none := by
  unfold c_365_43
  exact
    have D : fk_D 365 [(43, some [0, 1, 2, 5, 6], .aload_n 0, 1, 0, 0, 0), (44, none, .getfield 3, 3, 360, 122, 12), (47, none, .iload_n 2, 1, 0, 0, 0), (48, none, .aload_n 1, 1, 0, 0, 0), (49, none, .getfield 84, 3, 143, (-117), 12), (52, none, .iload 6, 2, 0, 0, 0), (54, none, .iconst (-1), 1, 0, (-1), 0), (55, none, .if_icmp .ne 7, 3, 62, 0, 0), (58, none, .iconst 0, 1, 0, 0, 0), (59, none, .goto 5, 3, 64, 0, 0)] := fq_of2 cd_365 ow_365 cl_365 rfl (pc := 43) (by decide +kernel)
    j_aldn (pc := 43) D rfl rfl rfl fun D =>
    j_gfc (pc := 44) (a := x0.toNat) D rfl rfl (nz_cls H.2.1 hk (by decide)) rfl hk rfl ht360 fun D =>
    j_ildn (pc := 47) D rfl rfl rfl fun D =>
    j_aldn (pc := 48) D rfl rfl rfl fun D =>
    j_gfo (pc := 49) H.2.1 D rfl rfl rfl rfl fun kc1 D =>
    j_ild (pc := 52) D rfl rfl rfl fun D =>
    j_ic (pc := 54) D rfl fun D =>
    j_ine (pc := 55) D rfl (fun q D =>
      j_ic (pc := 58) D rfl fun D =>
      j_goto (pc := 59) D rfl <|
      fk_jump cut_365_64 rfl rfl) (fun q =>
      have D : fk_D 365 [(62, none, .iload 5, 2, 0, 0, 0)] := fq_of2 cd_365 ow_365 cl_365 rfl (pc := 62) (by decide +kernel)
      j_ild (pc := 62) D rfl rfl rfl fun D =>
      fk_jump cut_365_64 rfl rfl)
theorem e_365_64 (d : Nat) (s0 s1 s2 s3 : Int) {h : fi_H} (H : Shp h) : c_365_64 d s0 s1 s2 s3 h =
  if h 0 s2.toNat 0 = 10 ∧ 0 ≤ s3 ∧ s3 < h 1 s2.toNat 0 then
  dv_ (fi_vt 116 (h 0 s0.toNat 0)) fun m4 => cv_ (fj_run d m4 h [(4, s0), (0, s1), (1, wI (h 10 s2.toNat s3.toNat))])
    (fun h1 =>
    some (.inl none, h1))
    (fun q3 h1 => tx_ q3 h1)
  else none := by
  unfold c_365_64
  exact
    have D : fk_D 365 [(64, some [], .iaload, 1, 0, 0, 0), (65, none, .i2l, 1, 0, 0, 0), (66, none, .invokevirtual 94, 3, 2, 116, 0), (69, none, .return_, 1, 0, 0, 0)] := fq_of2 cd_365 ow_365 cl_365 rfl (pc := 64) (by decide +kernel)
    j_alp (pc := 64) (e := 10) H.2.1 D rfl rfl ⟨rfl, rfl, rfl⟩ rfl fun q q2 D =>
    j_i2l (pc := 65) D rfl fun D =>
    j_ivuv (pc := 66) (dd := 116) (a := [(0, s1), (1, wI (h 10 s2.toNat s3.toNat))]) (rest := []) H.2.1 D rfl rfl rfl rfl rfl (fun m4 h1 e1 D =>
      have T := fj_run_ok _ _ _ _ _ _ H.1 e1
      have H := shp_st H T
      j_vret D rt_365) (fun m4 q3 h1 e1 =>
      j_tx (hx_365 _))
theorem e_365_141 (d : Nat) {h : fi_H} (H : Shp h) : c_365_141 d h =
  some (.inl none, h) := by
  unfold c_365_141
  exact
    have D : fk_D 365 [(141, some [], .return_, 1, 0, 0, 0)] := fq_of2 cd_365 ow_365 cl_365 rfl (pc := 141) (by decide +kernel)
    j_vret D rt_365
theorem m_365 (d : Nat) (x0 x1 x2 : Int) {h : fi_H} (H : Shp h) (hk : h 0 x0.toNat 0 = 122) (ht360 : h 360 x0.toNat 0 = 303) : fj_run (d + 1) 365 h [(4, x0), (4, x1), (0, x2)] =
  if 0 ≤ x2 ∧ x2 < 700 then
  if h 0 x1.toNat 0 = 117 then
  if fk_isA (h 0 (h 142 x1.toNat 0).toNat 0) = true then
  ca_ (fj_run d 363 h [(4, x0), (4, x1), (1, h 11 315 x2.toNat)]) 0
    (fun v4 h3 =>
    if v4 = (-1) then
      c_365_43 d x0 x1 x2 (wI ((h 1 (h 142 x1.toNat 0).toNat 0) - 1)) v4 h3
    else
      if v4 = wI ((h 1 (h 142 x1.toNat 0).toNat 0) - 1) then
        c_365_43 d x0 x1 x2 (wI ((h 1 (h 142 x1.toNat 0).toNat 0) - 1)) v4 h3
      else
        if h3 0 (h3 143 x1.toNat 0).toNat 0 = 10 ∧ 0 ≤ wI (v4 + 1) ∧ wI (v4 + 1) < h3 1 (h3 143 x1.toNat 0).toNat 0 then
        if h3 0 (h3 143 x1.toNat 0).toNat 0 = 10 ∧ 0 ≤ v4 ∧ v4 < h3 1 (h3 143 x1.toNat 0).toNat 0 then
        if h3 0 (h3 142 x1.toNat 0).toNat 0 = 10 ∧ 0 ≤ v4 ∧ v4 < h3 1 (h3 142 x1.toNat 0).toNat 0 then
        lt_ (wJ ((wI (wI ((h3 10 (h3 143 x1.toNat 0).toNat (wI (v4 + 1)).toNat) - (h3 10 (h3 143 x1.toNat 0).toNat v4.toNat)))) * (wJ ((h 11 315 x2.toNat) - (wI (h3 10 (h3 142 x1.toNat 0).toNat v4.toNat)))))) fun y6 =>
        if h3 0 (h3 143 x1.toNat 0).toNat 0 = 10 ∧ 0 ≤ v4 ∧ v4 < h3 1 (h3 143 x1.toNat 0).toNat 0 then
        if h3 0 (h3 142 x1.toNat 0).toNat 0 = 10 ∧ 0 ≤ wI (v4 + 1) ∧ wI (v4 + 1) < h3 1 (h3 142 x1.toNat 0).toNat 0 then
        if h3 0 (h3 142 x1.toNat 0).toNat 0 = 10 ∧ 0 ≤ v4 ∧ v4 < h3 1 (h3 142 x1.toNat 0).toNat 0 then
        ca_ (fj_run d 358 h3 [(1, y6), (1, wI (wI ((h3 10 (h3 142 x1.toNat 0).toNat (wI (v4 + 1)).toNat) - (h3 10 (h3 142 x1.toNat 0).toNat v4.toNat))))]) 1
          (fun v8 h7 =>
          cv_ (fj_run d 347 h7 [(4, 303), (0, x2), (1, wJ ((wI (h3 10 (h3 143 x1.toNat 0).toNat v4.toNat)) + v8))])
            (fun h10 =>
            c_365_141 d h10)
            (fun q12 h10 => tx_ q12 h10))
          (fun q9 h7 => tx_ q9 h7)
        else none
        else none
        else none
        else none
        else none
        else none)
    (fun q5 h3 => tx_ q5 h3)
  else none
  else none
  else none := by
  rw [fj_run_eq d (by decide) h [(4, x0), (4, x1), (0, x2)] (Nat.le_of_ble_eq_true (by rw [nl_365]; rfl))]
  show gG (fj_run d) 365 0 [(0, (4, x0)), (1, (4, x1)), (2, (0, x2))] [] h = _
  exact
    have D : fk_D 365 [(0, none, .aload_n 0, 1, 0, 0, 0), (1, none, .getfield 3, 3, 360, 122, 12), (4, none, .getfield 66, 3, 213, 100, 12), (7, none, .getfield 70, 3, 119, 119, 12), (10, none, .iload_n 2, 1, 0, 0, 0), (11, none, .laload, 1, 0, 0, 0), (12, none, .lstore_n 3, 1, 0, 0, 0), (13, none, .aload_n 1, 1, 0, 0, 0), (14, none, .getfield 60, 3, 142, (-117), 12), (17, none, .arraylength, 1, 0, 0, 0), (18, none, .iconst 1, 1, 0, 1, 0), (19, none, .isub, 1, 0, 0, 0), (20, none, .istore 5, 2, 0, 0, 0), (22, none, .aload_n 0, 1, 0, 0, 0), (23, none, .aload_n 1, 1, 0, 0, 0), (24, none, .lload_n 3, 1, 0, 0, 0), (25, none, .invokevirtual 76, 3, 2, 232, 1), (28, none, .istore 6, 2, 0, 0, 0), (30, none, .iload 6, 2, 0, 0, 0), (32, none, .iconst (-1), 1, 0, (-1), 0)] := fq_of2 cd_365 ow_365 cl_365 rfl (pc := 0) (by decide +kernel)
    j_aldn (pc := 0) D rfl rfl rfl fun D =>
    j_gfc (pc := 1) (a := x0.toNat) D rfl rfl (nz_cls H.2.1 hk (by decide)) rfl hk rfl ht360 fun D =>
    j_gfc (pc := 4) (a := 303) D rfl rfl (by decide) rfl (s0_303 H) rfl (sf_213_303 H) fun D =>
    j_gfc (pc := 7) (a := 309) D rfl rfl (by decide) rfl (s0_309 H) rfl (sf_119_309 H) fun D =>
    j_ildn (pc := 10) D rfl rfl rfl fun D =>
    j_al (pc := 11) (a := 315) (e := 11) D rfl rfl rfl (by decide) (s0_315 H) (s1_315 H) ⟨rfl, rfl, rfl⟩ rfl gn fun qb1 D =>
    j_lstn (pc := 12) (L' := [(3, (1, h 11 315 x2.toNat)), (0, (4, x0)), (1, (4, x1)), (2, (0, x2))]) D rfl nl_365 rfl rfl fun D =>
    j_aldn (pc := 13) D rfl rfl rfl fun D =>
    j_gfo (pc := 14) H.2.1 D rfl rfl rfl rfl fun kc2 D =>
    j_lenu (pc := 17) H.2.1 D rfl fun q D =>
    j_ic (pc := 18) D rfl fun D =>
    j_isub (pc := 19) D rfl fun D =>
    j_ist (pc := 20) (L' := [(5, (0, wI ((h 1 (h 142 x1.toNat 0).toNat 0) - 1))), (3, (1, h 11 315 x2.toNat)), (0, (4, x0)), (1, (4, x1)), (2, (0, x2))]) D rfl nl_365 rfl rfl fun D =>
    j_aldn (pc := 22) D rfl rfl rfl fun D =>
    j_aldn (pc := 23) D rfl rfl rfl fun D =>
    j_lldn (pc := 24) D rfl rfl rfl fun D =>
    j_iv (pc := 25) (m := 363) (dd := 232) (a := [(4, x1), (1, h 11 315 x2.toNat)]) (rest := []) D rfl rfl rfl rfl rfl (nz_cls H.2.1 hk (by decide)) hk (by decide +kernel) (fun v4 h3 e1 D =>
      have T := fj_run_ok _ _ _ _ _ _ H.1 e1
      have ht360 := fin_st H.1 T.2 hk (by decide) (by decide +kernel) ht360 (by decide)
      have hk := cls_st H.1 T.2 hk (by decide)
      have kc2 := cls_st H.1 T.2 kc2 (by decide)
      have H := shp_st H T
      j_ist (pc := 28) (L' := [(6, (0, v4)), (5, (0, wI ((h 1 (h 142 x1.toNat 0).toNat 0) - 1))), (3, (1, h 11 315 x2.toNat)), (0, (4, x0)), (1, (4, x1)), (2, (0, x2))]) D rfl nl_365 rfl rfl fun D =>
      j_ild (pc := 30) D rfl rfl rfl fun D =>
      j_ic (pc := 32) D rfl fun D =>
      have D : fk_D 365 [(33, none, .if_icmp .eq 10, 3, 43, 0, 0), (36, none, .iload 6, 2, 0, 0, 0), (38, none, .iload 5, 2, 0, 0, 0), (40, none, .if_icmp .ne 30, 3, 70, 0, 0)] := fq_of2 cd_365 ow_365 cl_365 rfl (pc := 33) (by decide +kernel)
      j_ieq (pc := 33) D rfl (fun q =>
        fk_jump cut_365_43 rfl rfl) (fun q D =>
        j_ild (pc := 36) D rfl rfl rfl fun D =>
        j_ild (pc := 38) D rfl rfl rfl fun D =>
        j_ine (pc := 40) D rfl (fun q D =>
          fk_jump cut_365_43 rfl rfl) (fun q =>
          have D : fk_D 365 [(70, none, .aload_n 1, 1, 0, 0, 0), (71, none, .getfield 84, 3, 143, 117, 12), (74, none, .iload 6, 2, 0, 0, 0), (76, none, .iconst 1, 1, 0, 1, 0), (77, none, .iadd, 1, 0, 0, 0), (78, none, .iaload, 1, 0, 0, 0), (79, none, .aload_n 1, 1, 0, 0, 0), (80, none, .getfield 84, 3, 143, 117, 12), (83, none, .iload 6, 2, 0, 0, 0), (85, none, .iaload, 1, 0, 0, 0), (86, none, .isub, 1, 0, 0, 0), (87, none, .i2l, 1, 0, 0, 0), (88, none, .lload_n 3, 1, 0, 0, 0), (89, none, .aload_n 1, 1, 0, 0, 0), (90, none, .getfield 60, 3, 142, 117, 12), (93, none, .iload 6, 2, 0, 0, 0), (95, none, .iaload, 1, 0, 0, 0), (96, none, .i2l, 1, 0, 0, 0), (97, none, .lsub, 1, 0, 0, 0), (98, none, .lmul, 1, 0, 0, 0)] := fq_of2 cd_365 ow_365 cl_365 rfl (pc := 70) (by decide +kernel)
          j_aldn (pc := 70) D rfl rfl rfl fun D =>
          j_gf (pc := 71) (a := x1.toNat) D rfl rfl (nz_cls H.2.1 kc2 (by decide)) rfl kc2 rfl fun D =>
          j_ild (pc := 74) D rfl rfl rfl fun D =>
          j_ic (pc := 76) D rfl fun D =>
          j_iadd (pc := 77) D rfl fun D =>
          j_alp (pc := 78) (e := 10) H.2.1 D rfl rfl ⟨rfl, rfl, rfl⟩ rfl fun q q2 D =>
          j_aldn (pc := 79) D rfl rfl rfl fun D =>
          j_gf (pc := 80) (a := x1.toNat) D rfl rfl (nz_cls H.2.1 kc2 (by decide)) rfl kc2 rfl fun D =>
          j_ild (pc := 83) D rfl rfl rfl fun D =>
          j_alp (pc := 85) (e := 10) H.2.1 D rfl rfl ⟨rfl, rfl, rfl⟩ rfl fun q q2 D =>
          j_isub (pc := 86) D rfl fun D =>
          j_i2l (pc := 87) D rfl fun D =>
          j_lldn (pc := 88) D rfl rfl rfl fun D =>
          j_aldn (pc := 89) D rfl rfl rfl fun D =>
          j_gf (pc := 90) (a := x1.toNat) D rfl rfl (nz_cls H.2.1 kc2 (by decide)) rfl kc2 rfl fun D =>
          j_ild (pc := 93) D rfl rfl rfl fun D =>
          j_alp (pc := 95) (e := 10) H.2.1 D rfl rfl ⟨rfl, rfl, rfl⟩ rfl fun q q2 D =>
          j_i2l (pc := 96) D rfl fun D =>
          j_lsub (pc := 97) D rfl fun D =>
          j_lmul (pc := 98) D rfl fun D =>
          have D : fk_D 365 [(99, none, .lstore 7, 2, 0, 0, 0), (101, none, .aload_n 0, 1, 0, 0, 0), (102, none, .getfield 3, 3, 360, 122, 12), (105, none, .iload_n 2, 1, 0, 0, 0), (106, none, .aload_n 1, 1, 0, 0, 0), (107, none, .getfield 84, 3, 143, 117, 12), (110, none, .iload 6, 2, 0, 0, 0), (112, none, .iaload, 1, 0, 0, 0), (113, none, .i2l, 1, 0, 0, 0), (114, none, .lload 7, 2, 0, 0, 0), (116, none, .aload_n 1, 1, 0, 0, 0), (117, none, .getfield 60, 3, 142, 117, 12), (120, none, .iload 6, 2, 0, 0, 0), (122, none, .iconst 1, 1, 0, 1, 0), (123, none, .iadd, 1, 0, 0, 0), (124, none, .iaload, 1, 0, 0, 0), (125, none, .aload_n 1, 1, 0, 0, 0), (126, none, .getfield 60, 3, 142, 117, 12), (129, none, .iload 6, 2, 0, 0, 0), (131, none, .iaload, 1, 0, 0, 0)] := fq_of2 cd_365 ow_365 cl_365 rfl (pc := 99) (by decide +kernel)
          j_stl (pc := 99) (L' := fun y6 => [(7, (1, y6)), (6, (0, v4)), (5, (0, wI ((h 1 (h 142 x1.toNat 0).toNat 0) - 1))), (3, (1, h 11 315 x2.toNat)), (0, (4, x0)), (1, (4, x1)), (2, (0, x2))]) D rfl ⟨rfl, rfl, rfl, rfl⟩ nl_365 rfl (fun _ => rfl) fun y6 ey6 D =>
          j_aldn (pc := 101) D rfl rfl rfl fun D =>
          j_gfc (pc := 102) (a := x0.toNat) D rfl rfl (nz_cls H.2.1 hk (by decide)) rfl hk rfl ht360 fun D =>
          j_ildn (pc := 105) D rfl rfl rfl fun D =>
          j_aldn (pc := 106) D rfl rfl rfl fun D =>
          j_gf (pc := 107) (a := x1.toNat) D rfl rfl (nz_cls H.2.1 kc2 (by decide)) rfl kc2 rfl fun D =>
          j_ild (pc := 110) D rfl rfl rfl fun D =>
          j_alp (pc := 112) (e := 10) H.2.1 D rfl rfl ⟨rfl, rfl, rfl⟩ rfl fun q q2 D =>
          j_i2l (pc := 113) D rfl fun D =>
          j_lld (pc := 114) D rfl rfl rfl fun D =>
          j_aldn (pc := 116) D rfl rfl rfl fun D =>
          j_gf (pc := 117) (a := x1.toNat) D rfl rfl (nz_cls H.2.1 kc2 (by decide)) rfl kc2 rfl fun D =>
          j_ild (pc := 120) D rfl rfl rfl fun D =>
          j_ic (pc := 122) D rfl fun D =>
          j_iadd (pc := 123) D rfl fun D =>
          j_alp (pc := 124) (e := 10) H.2.1 D rfl rfl ⟨rfl, rfl, rfl⟩ rfl fun q q2 D =>
          j_aldn (pc := 125) D rfl rfl rfl fun D =>
          j_gf (pc := 126) (a := x1.toNat) D rfl rfl (nz_cls H.2.1 kc2 (by decide)) rfl kc2 rfl fun D =>
          j_ild (pc := 129) D rfl rfl rfl fun D =>
          j_alp (pc := 131) (e := 10) H.2.1 D rfl rfl ⟨rfl, rfl, rfl⟩ rfl fun q q2 D =>
          have D : fk_D 365 [(132, none, .isub, 1, 0, 0, 0), (133, none, .i2l, 1, 0, 0, 0), (134, none, .invokestatic 116, 3, 2, 358, 2), (137, none, .ladd, 1, 0, 0, 0), (138, none, .invokevirtual 94, 3, 2, 116, 0)] := fq_of2 cd_365 ow_365 cl_365 rfl (pc := 132) (by decide +kernel)
          j_isub (pc := 132) D rfl fun D =>
          j_i2l (pc := 133) D rfl fun D =>
          j_is (pc := 134) (m := 358) (a := [(1, y6), (1, wI (wI ((h3 10 (h3 142 x1.toNat 0).toNat (wI (v4 + 1)).toNat) - (h3 10 (h3 142 x1.toNat 0).toNat v4.toNat))))]) (rest := [(1, wI (h3 10 (h3 143 x1.toNat 0).toNat v4.toNat)), (0, x2), (4, 303)]) D rfl rfl rfl rfl (fun v8 h7 e1 D =>
            have T := fj_run_ok _ _ _ _ _ _ H.1 e1
            have ht360 := fin_st H.1 T.2 hk (by decide) (by decide +kernel) ht360 (by decide)
            have hk := cls_st H.1 T.2 hk (by decide)
            have kc2 := cls_st H.1 T.2 kc2 (by decide)
            have H := shp_st H T
            j_ladd (pc := 137) D rfl fun D =>
            j_ivv (pc := 138) (m := 347) (dd := 116) (a := [(0, x2), (1, wJ ((wI (h3 10 (h3 143 x1.toNat 0).toNat v4.toNat)) + v8))]) (rest := []) D rfl rfl rfl rfl rfl (by decide) (s0_303 H) (by decide +kernel) (fun h10 e1 D =>
              have T := fj_run_ok _ _ _ _ _ _ H.1 e1
              have ht360 := fin_st H.1 T.2 hk (by decide) (by decide +kernel) ht360 (by decide)
              have hk := cls_st H.1 T.2 hk (by decide)
              have kc2 := cls_st H.1 T.2 kc2 (by decide)
              have H := shp_st H T
              fk_jump cut_365_141 rfl rfl) (fun q12 h10 e1 =>
              j_tx (hx_365 _))) (fun q9 h7 e1 =>
            j_tx (hx_365 _))))) (fun q5 h3 e1 =>
      j_tx (hx_365 _))
/-! 366 StatuteHouse$SetPart.takes(IZ)Z -/
theorem cd_366 : fi_code 366 = prog_56_method_3_code := rfl
theorem hx_366 : ∀ pc, fi_hat 366 pc = none := fun pc => by unfold fi_hat; rw [show fi_hh 366 = [] from rfl]; rfl
theorem rt_366 : fi_ret 366 = some .boolean := rfl
theorem nl_366 : fi_nl 366 = 4 := rfl
theorem ow_366 : fi_ow 366 = 18 := rfl
theorem cl_366 : fj_cutT.getD 366 [] = [(90, []), (147, []), (180, [0, 1, 2]), (206, [0, 1])] := rfl
theorem cut_366_90 : fj_cut 366 90 = some [] := by decide +kernel
noncomputable def c_366_90 (d : Nat) (s0 s1 s2 s3 : Int) (h : fi_H) : fk_R := gG (fj_run d) 366 90 [] [(0, s3), (0, s2), (0, s1), (4, s0)] h
theorem cut_366_147 : fj_cut 366 147 = some [] := by decide +kernel
noncomputable def c_366_147 (d : Nat) (s0 s1 : Int) (h : fi_H) : fk_R := gG (fj_run d) 366 147 [] [(0, s1), (0, s0)] h
theorem cut_366_180 : fj_cut 366 180 = some [0, 1, 2] := by decide +kernel
noncomputable def c_366_180 (d : Nat) (x0 x1 x2 s0 : Int) (h : fi_H) : fk_R := gG (fj_run d) 366 180 [(0, (4, x0)), (1, (0, x1)), (2, (0, x2))] [(0, s0)] h
theorem cut_366_206 : fj_cut 366 206 = some [0, 1] := by decide +kernel
noncomputable def c_366_206 (d : Nat) (x0 x1 : Int) (h : fi_H) : fk_R := gG (fj_run d) 366 206 [(0, (4, x0)), (1, (0, x1))] [] h
theorem e_366_90 (d : Nat) (s0 s1 s2 s3 : Int) {h : fi_H} (H : Shp h) : c_366_90 d s0 s1 s2 s3 h =
  if 302 < s0 ∧ h 0 s0.toNat 0 = 10 then
  if 0 ≤ s1 ∧ s1 < h 1 s0.toNat 0 then
  lt_ (fi_upd h 10 s0.toNat s1.toNat (wI (s2 + s3))) fun h1 =>
  some (.inl (some (0, 0)), h1)
  else none
  else none := by
  unfold c_366_90
  exact
    have D : fk_D 366 [(90, some [], .iadd, 1, 0, 0, 0), (91, none, .iastore, 1, 0, 0, 0), (92, none, .iconst 0, 1, 0, 0, 0), (93, none, .ireturn, 1, 0, 0, 0)] := fq_of2 cd_366 ow_366 cl_366 rfl (pc := 90) (by decide +kernel)
    j_iadd (pc := 90) D rfl fun D =>
    j_asu (pc := 91) (e := 10) D rfl rfl ⟨rfl, rfl, rfl⟩ rfl gn gn (gy rfl) fun h1 eh1 S q q2 D =>
    have T := fj_hs_ok H.1 S
    have H := shp_st H T
    j_ic (pc := 92) D rfl fun D =>
    j_zret D rt_366 (gy (by decide))
theorem e_366_147 (d : Nat) (s0 s1 : Int) {h : fi_H} (H : Shp h) : c_366_147 d s0 s1 h =
  if s0 = s1 then
    some (.inl (some (0, 1)), h)
  else
    some (.inl (some (0, 0)), h) := by
  unfold c_366_147
  exact
    have D : fk_D 366 [(147, some [], .if_icmp .ne 7, 3, 154, 0, 0), (150, none, .iconst 1, 1, 0, 1, 0), (151, none, .goto 4, 3, 155, 0, 0)] := fq_of2 cd_366 ow_366 cl_366 rfl (pc := 147) (by decide +kernel)
    j_ine (pc := 147) D rfl (fun q D =>
      j_ic (pc := 150) D rfl fun D =>
      j_goto (pc := 151) D rfl <|
      have D : fk_D 366 [(155, none, .ireturn, 1, 0, 0, 0)] := fq_of2 cd_366 ow_366 cl_366 rfl (pc := 155) (by decide +kernel)
      j_zret D rt_366 (gy (by decide))) (fun q =>
      have D : fk_D 366 [(154, none, .iconst 0, 1, 0, 0, 0), (155, none, .ireturn, 1, 0, 0, 0)] := fq_of2 cd_366 ow_366 cl_366 rfl (pc := 154) (by decide +kernel)
      j_ic (pc := 154) D rfl fun D =>
      j_zret D rt_366 (gy (by decide)))
theorem e_366_180 (d : Nat) (x0 x1 x2 s0 : Int) {h : fi_H} (H : Shp h) (hk : h 0 x0.toNat 0 = 118) (ht356 : h 356 x0.toNat 0 = 303) : c_366_180 d x0 x1 x2 s0 h =
  if x2 = 0 then
    c_366_206 d x0 x1 h
  else
    if h 353 x0.toNat 0 = 58 then
      if s0 < 0 then
        c_366_206 d x0 x1 h
      else
        some (.inl (some (0, 0)), h)
    else
      if 0 < s0 then
        c_366_206 d x0 x1 h
      else
        some (.inl (some (0, 0)), h) := by
  unfold c_366_180
  exact
    have D : fk_D 366 [(180, some [0, 1, 2], .istore_n 3, 1, 0, 0, 0), (181, none, .iload_n 2, 1, 0, 0, 0), (182, none, .ifCond .eq 24, 3, 206, 0, 0), (185, none, .aload_n 0, 1, 0, 0, 0), (186, none, .getfield 19, 3, 353, 118, 12), (189, none, .getstatic 90, 3, 4, 58, 0), (192, none, .if_acmp .ne 10, 3, 202, 0, 0), (195, none, .iload_n 3, 1, 0, 0, 0), (196, none, .ifCond .ge 35, 3, 231, 0, 0), (199, none, .goto 7, 3, 206, 0, 0)] := fq_of2 cd_366 ow_366 cl_366 rfl (pc := 180) (by decide +kernel)
    j_istn (pc := 180) (L' := [(3, (0, s0)), (0, (4, x0)), (1, (0, x1)), (2, (0, x2))]) D rfl nl_366 rfl rfl fun D =>
    j_ildn (pc := 181) D rfl rfl rfl fun D =>
    j_ifeq (pc := 182) D rfl (fun q =>
      fk_jump cut_366_206 rfl rfl) (fun q D =>
      j_aldn (pc := 185) D rfl rfl rfl fun D =>
      j_gf (pc := 186) (a := x0.toNat) D rfl rfl (nz_cls H.2.1 hk (by decide)) rfl hk rfl fun D =>
      j_gs (pc := 189) D rfl fun D =>
      j_ane (pc := 192) D rfl (fun q D =>
        j_ildn (pc := 195) D rfl rfl rfl fun D =>
        j_ifge (pc := 196) D rfl (fun q D =>
          j_goto (pc := 199) D rfl <|
          fk_jump cut_366_206 rfl rfl) (fun q =>
          have D : fk_D 366 [(231, none, .iconst 0, 1, 0, 0, 0), (232, none, .ireturn, 1, 0, 0, 0)] := fq_of2 cd_366 ow_366 cl_366 rfl (pc := 231) (by decide +kernel)
          j_ic (pc := 231) D rfl fun D =>
          j_zret D rt_366 (gy (by decide)))) (fun q =>
        have D : fk_D 366 [(202, none, .iload_n 3, 1, 0, 0, 0), (203, none, .ifCond .le 28, 3, 231, 0, 0)] := fq_of2 cd_366 ow_366 cl_366 rfl (pc := 202) (by decide +kernel)
        j_ildn (pc := 202) D rfl rfl rfl fun D =>
        j_ifle (pc := 203) D rfl (fun q D =>
          fk_jump cut_366_206 rfl rfl) (fun q =>
          have D : fk_D 366 [(231, none, .iconst 0, 1, 0, 0, 0), (232, none, .ireturn, 1, 0, 0, 0)] := fq_of2 cd_366 ow_366 cl_366 rfl (pc := 231) (by decide +kernel)
          j_ic (pc := 231) D rfl fun D =>
          j_zret D rt_366 (gy (by decide)))))
theorem e_366_206 (d : Nat) (x0 x1 : Int) {h : fi_H} (H : Shp h) (hk : h 0 x0.toNat 0 = 118) (ht356 : h 356 x0.toNat 0 = 303) : c_366_206 d x0 x1 h =
  cv_ (fj_run d 320 h [(4, 309), (0, x1), (4, 309), (0, wI (x1 + 1)), (4, h 340 x0.toNat 0)])
    (fun h1 =>
    some (.inl (some (0, 0)), h1))
    (fun q3 h1 => tx_ q3 h1) := by
  unfold c_366_206
  exact
    have D : fk_D 366 [(206, some [0, 1], .aload_n 0, 1, 0, 0, 0), (207, none, .getfield 3, 3, 356, 118, 12), (210, none, .getfield 45, 3, 213, 100, 12), (213, none, .iload_n 1, 1, 0, 0, 0), (214, none, .aload_n 0, 1, 0, 0, 0), (215, none, .getfield 3, 3, 356, 118, 12), (218, none, .getfield 45, 3, 213, 100, 12), (221, none, .iload_n 1, 1, 0, 0, 0), (222, none, .iconst 1, 1, 0, 1, 0), (223, none, .iadd, 1, 0, 0, 0), (224, none, .aload_n 0, 1, 0, 0, 0), (225, none, .getfield 49, 3, 340, 118, 12), (228, none, .invokevirtual 119, 3, 4, 131, 0), (231, none, .iconst 0, 1, 0, 0, 0), (232, none, .ireturn, 1, 0, 0, 0)] := fq_of2 cd_366 ow_366 cl_366 rfl (pc := 206) (by decide +kernel)
    j_aldn (pc := 206) D rfl rfl rfl fun D =>
    j_gfc (pc := 207) (a := x0.toNat) D rfl rfl (nz_cls H.2.1 hk (by decide)) rfl hk rfl ht356 fun D =>
    j_gfc (pc := 210) (a := 303) D rfl rfl (by decide) rfl (s0_303 H) rfl (sf_213_303 H) fun D =>
    j_ildn (pc := 213) D rfl rfl rfl fun D =>
    j_aldn (pc := 214) D rfl rfl rfl fun D =>
    j_gfc (pc := 215) (a := x0.toNat) D rfl rfl (nz_cls H.2.1 hk (by decide)) rfl hk rfl ht356 fun D =>
    j_gfc (pc := 218) (a := 303) D rfl rfl (by decide) rfl (s0_303 H) rfl (sf_213_303 H) fun D =>
    j_ildn (pc := 221) D rfl rfl rfl fun D =>
    j_ic (pc := 222) D rfl fun D =>
    j_iadd (pc := 223) D rfl fun D =>
    j_aldn (pc := 224) D rfl rfl rfl fun D =>
    j_gf (pc := 225) (a := x0.toNat) D rfl rfl (nz_cls H.2.1 hk (by decide)) rfl hk rfl fun D =>
    j_ivv (pc := 228) (m := 320) (dd := 131) (a := [(0, x1), (4, 309), (0, wI (x1 + 1)), (4, h 340 x0.toNat 0)]) (rest := []) D rfl rfl rfl rfl rfl (by decide) (s0_309 H) (by decide +kernel) (fun h1 e1 D =>
      have T := fj_run_ok _ _ _ _ _ _ H.1 e1
      have ht356 := fin_st H.1 T.2 hk (by decide) (by decide +kernel) ht356 (by decide)
      have hk := cls_st H.1 T.2 hk (by decide)
      have H := shp_st H T
      j_ic (pc := 231) D rfl fun D =>
      j_zret D rt_366 (gy (by decide))) (fun q3 h1 e1 =>
      j_tx (hx_366 _))
theorem m_366 (d : Nat) (x0 x1 x2 : Int) {h : fi_H} (H : Shp h) (hk : h 0 x0.toNat 0 = 118) (ht356 : h 356 x0.toNat 0 = 303) : fj_run (d + 1) 366 h [(4, x0), (0, x1), (0, x2)] =
  dv_ (fi_vt 225 (h 0 (h 353 x0.toNat 0).toNat 0)) fun m4 => ca_ (fj_run d m4 h [(4, h 353 x0.toNat 0)]) 0
    (fun v2 h1 =>
    if v2 = 0 then
      cv_ (fj_run d 346 h1 [(4, 303), (0, x1), (4, h1 340 x0.toNat 0), (4, h1 340 x0.toNat 0), (0, 1)])
        (fun h5 =>
        some (.inl (some (0, 0)), h5))
        (fun q7 h5 => tx_ q7 h5)
    else if v2 = 1 then
      if 0 ≤ x1 ∧ x1 < 700 then
      if 0 ≤ wI (x1 + 1) ∧ wI (x1 + 1) < 700 then
      if h1 4 310 (wI (x1 + 1)).toNat = 0 then
        c_366_90 d 311 x1 (h1 10 311 x1.toNat) 0 h1
      else
        c_366_90 d 311 x1 (h1 10 311 x1.toNat) 1 h1
      else none
      else none
    else if v2 = 2 then
      if 0 ≤ wI (x1 + 1) ∧ wI (x1 + 1) < 700 then
      if 0 ≤ x1 ∧ x1 < 700 then
      if fi_rg 4 (h1 4 310 (wI (x1 + 1)).toNat) = true then
      lt_ (fi_upd h1 4 310 x1.toNat (h1 4 310 (wI (x1 + 1)).toNat)) fun h11 =>
      if h11 353 x0.toNat 0 = 56 then
        c_366_147 d (h11 4 310 x1.toNat) 1 h11
      else
        c_366_147 d (h11 4 310 x1.toNat) 0 h11
      else none
      else none
      else none
    else if v2 = 3 then
      if 0 ≤ wI (x1 + 1) ∧ wI (x1 + 1) < 700 then
      if 0 ≤ x1 ∧ x1 < 700 then
      if fi_rg 4 (h1 4 310 (wI (x1 + 1)).toNat) = true then
      lt_ (fi_upd h1 4 310 x1.toNat (h1 4 310 (wI (x1 + 1)).toNat)) fun h14 =>
      if h14 353 x0.toNat 0 = 56 then
        c_366_147 d (h14 4 310 x1.toNat) 1 h14
      else
        c_366_147 d (h14 4 310 x1.toNat) 0 h14
      else none
      else none
      else none
    else 
      if x2 = 0 then
        c_366_180 d x0 x1 x2 0 h1
      else
        ca_ (fj_run d 342 h1 [(4, 303), (0, x1), (4, h1 340 x0.toNat 0), (4, h1 340 x0.toNat 0)]) 0
          (fun v17 h16 =>
          c_366_180 d x0 x1 x2 v17 h16)
          (fun q18 h16 => tx_ q18 h16))
    (fun q3 h1 => tx_ q3 h1) := by
  rw [fj_run_eq d (by decide) h [(4, x0), (0, x1), (0, x2)] (Nat.le_of_ble_eq_true (by rw [nl_366]; rfl))]
  show gG (fj_run d) 366 0 [(0, (4, x0)), (1, (0, x1)), (2, (0, x2))] [] h = _
  exact
    have D : fk_D 366 [(0, none, .aload_n 0, 1, 0, 0, 0), (1, none, .getfield 19, 3, 353, 118, 12), (4, none, .invokevirtual 100, 3, 0, 225, 1), (7, none, .tableswitch 149 0 3 #[29, 48, 87, 87], 29, 0, 0, 0)] := fq_of3 cd_366 ow_366 cl_366 rfl (pc := 0) (by decide +kernel)
    j_aldn (pc := 0) D rfl rfl rfl fun D =>
    j_gf (pc := 1) (a := x0.toNat) D rfl rfl (nz_cls H.2.1 hk (by decide)) rfl hk rfl fun D =>
    j_ivu (pc := 4) (dd := 225) (a := []) (rest := []) H.2.1 D rfl rfl rfl rfl rfl (fun m4 v2 h1 e1 D =>
      have T := fj_run_ok _ _ _ _ _ _ H.1 e1
      have ht356 := fin_st H.1 T.2 hk (by decide) (by decide +kernel) ht356 (by decide)
      have hk := cls_st H.1 T.2 hk (by decide)
      have H := shp_st H T
      have N : fk_ni (v2) [] := trivial
      j_tc (pc := 7) 0 (t := 36) D N rfl (by decide +kernel) (fun q =>
        have D : fk_D 366 [(36, none, .aload_n 0, 1, 0, 0, 0), (37, none, .getfield 3, 3, 356, 118, 12), (40, none, .iload_n 1, 1, 0, 0, 0), (41, none, .aload_n 0, 1, 0, 0, 0), (42, none, .getfield 49, 3, 340, 118, 12), (45, none, .aload_n 0, 1, 0, 0, 0), (46, none, .getfield 49, 3, 340, 118, 12), (49, none, .iconst 1, 1, 0, 1, 0), (50, none, .invokevirtual 104, 3, 4, 221, 0), (53, none, .iconst 0, 1, 0, 0, 0), (54, none, .ireturn, 1, 0, 0, 0)] := fq_of2 cd_366 ow_366 cl_366 rfl (pc := 36) (by decide +kernel)
        j_aldn (pc := 36) D rfl rfl rfl fun D =>
        j_gfc (pc := 37) (a := x0.toNat) D rfl rfl (nz_cls H.2.1 hk (by decide)) rfl hk rfl ht356 fun D =>
        j_ildn (pc := 40) D rfl rfl rfl fun D =>
        j_aldn (pc := 41) D rfl rfl rfl fun D =>
        j_gf (pc := 42) (a := x0.toNat) D rfl rfl (nz_cls H.2.1 hk (by decide)) rfl hk rfl fun D =>
        j_aldn (pc := 45) D rfl rfl rfl fun D =>
        j_gf (pc := 46) (a := x0.toNat) D rfl rfl (nz_cls H.2.1 hk (by decide)) rfl hk rfl fun D =>
        j_ic (pc := 49) D rfl fun D =>
        j_ivv (pc := 50) (m := 346) (dd := 221) (a := [(0, x1), (4, h1 340 x0.toNat 0), (4, h1 340 x0.toNat 0), (0, 1)]) (rest := []) D rfl rfl rfl rfl rfl (by decide) (s0_303 H) (by decide +kernel) (fun h5 e1 D =>
          have T := fj_run_ok _ _ _ _ _ _ H.1 e1
          have ht356 := fin_st H.1 T.2 hk (by decide) (by decide +kernel) ht356 (by decide)
          have hk := cls_st H.1 T.2 hk (by decide)
          have H := shp_st H T
          j_ic (pc := 53) D rfl fun D =>
          j_zret D rt_366 (gy (by decide))) (fun q7 h5 e1 =>
          j_tx (hx_366 _))) (fun N =>
        j_tc 1 (t := 55) D N rfl (by decide +kernel) (fun q =>
          have D : fk_D 366 [(55, none, .aload_n 0, 1, 0, 0, 0), (56, none, .getfield 3, 3, 356, 118, 12), (59, none, .getfield 45, 3, 213, 100, 12), (62, none, .getfield 108, 3, 115, 119, 12), (65, none, .iload_n 1, 1, 0, 0, 0), (66, none, .dup2, 1, 0, 0, 0), (67, none, .iaload, 1, 0, 0, 0), (68, none, .aload_n 0, 1, 0, 0, 0), (69, none, .getfield 3, 3, 356, 118, 12), (72, none, .getfield 45, 3, 213, 100, 12), (75, none, .getfield 62, 3, 114, 119, 12), (78, none, .iload_n 1, 1, 0, 0, 0), (79, none, .iconst 1, 1, 0, 1, 0), (80, none, .iadd, 1, 0, 0, 0), (81, none, .baload, 1, 0, 0, 0), (82, none, .ifCond .eq 7, 3, 89, 0, 0), (85, none, .iconst 1, 1, 0, 1, 0), (86, none, .goto 4, 3, 90, 0, 0)] := fq_of2 cd_366 ow_366 cl_366 rfl (pc := 55) (by decide +kernel)
          j_aldn (pc := 55) D rfl rfl rfl fun D =>
          j_gfc (pc := 56) (a := x0.toNat) D rfl rfl (nz_cls H.2.1 hk (by decide)) rfl hk rfl ht356 fun D =>
          j_gfc (pc := 59) (a := 303) D rfl rfl (by decide) rfl (s0_303 H) rfl (sf_213_303 H) fun D =>
          j_gfc (pc := 62) (a := 309) D rfl rfl (by decide) rfl (s0_309 H) rfl (sf_115_309 H) fun D =>
          j_ildn (pc := 65) D rfl rfl rfl fun D =>
          j_sh (pc := 66) D rfl rfl rfl fun D =>
          j_al (pc := 67) (a := 311) (e := 10) D rfl rfl rfl (by decide) (s0_311 H) (s1_311 H) ⟨rfl, rfl, rfl⟩ rfl gn fun qb8 D =>
          j_aldn (pc := 68) D rfl rfl rfl fun D =>
          j_gfc (pc := 69) (a := x0.toNat) D rfl rfl (nz_cls H.2.1 hk (by decide)) rfl hk rfl ht356 fun D =>
          j_gfc (pc := 72) (a := 303) D rfl rfl (by decide) rfl (s0_303 H) rfl (sf_213_303 H) fun D =>
          j_gfc (pc := 75) (a := 309) D rfl rfl (by decide) rfl (s0_309 H) rfl (sf_114_309 H) fun D =>
          j_ildn (pc := 78) D rfl rfl rfl fun D =>
          j_ic (pc := 79) D rfl fun D =>
          j_iadd (pc := 80) D rfl fun D =>
          j_al (pc := 81) (a := 310) (e := 4) D rfl rfl rfl (by decide) (s0_310 H) (s1_310 H) ⟨rfl, rfl, rfl⟩ rfl gn fun qb9 D =>
          j_ifeq (pc := 82) D rfl (fun q =>
            have D : fk_D 366 [(89, none, .iconst 0, 1, 0, 0, 0)] := fq_of2 cd_366 ow_366 cl_366 rfl (pc := 89) (by decide +kernel)
            j_ic (pc := 89) D rfl fun D =>
            fk_jump cut_366_90 rfl rfl) (fun q D =>
            j_ic (pc := 85) D rfl fun D =>
            j_goto (pc := 86) D rfl <|
            fk_jump cut_366_90 rfl rfl)) (fun N =>
          j_tc 2 (t := 94) D N rfl (by decide +kernel) (fun q =>
            have D : fk_D 366 [(94, none, .aload_n 0, 1, 0, 0, 0), (95, none, .getfield 3, 3, 356, 118, 12), (98, none, .getfield 45, 3, 213, 100, 12), (101, none, .getfield 62, 3, 114, 119, 12), (104, none, .iload_n 1, 1, 0, 0, 0), (105, none, .aload_n 0, 1, 0, 0, 0), (106, none, .getfield 3, 3, 356, 118, 12), (109, none, .getfield 45, 3, 213, 100, 12), (112, none, .getfield 62, 3, 114, 119, 12), (115, none, .iload_n 1, 1, 0, 0, 0), (116, none, .iconst 1, 1, 0, 1, 0), (117, none, .iadd, 1, 0, 0, 0), (118, none, .baload, 1, 0, 0, 0), (119, none, .bastore, 1, 0, 0, 0), (120, none, .aload_n 0, 1, 0, 0, 0), (121, none, .getfield 3, 3, 356, 118, 12), (124, none, .getfield 45, 3, 213, 100, 12), (127, none, .getfield 62, 3, 114, 119, 12), (130, none, .iload_n 1, 1, 0, 0, 0), (131, none, .baload, 1, 0, 0, 0)] := fq_of2 cd_366 ow_366 cl_366 rfl (pc := 94) (by decide +kernel)
            j_aldn (pc := 94) D rfl rfl rfl fun D =>
            j_gfc (pc := 95) (a := x0.toNat) D rfl rfl (nz_cls H.2.1 hk (by decide)) rfl hk rfl ht356 fun D =>
            j_gfc (pc := 98) (a := 303) D rfl rfl (by decide) rfl (s0_303 H) rfl (sf_213_303 H) fun D =>
            j_gfc (pc := 101) (a := 309) D rfl rfl (by decide) rfl (s0_309 H) rfl (sf_114_309 H) fun D =>
            j_ildn (pc := 104) D rfl rfl rfl fun D =>
            j_aldn (pc := 105) D rfl rfl rfl fun D =>
            j_gfc (pc := 106) (a := x0.toNat) D rfl rfl (nz_cls H.2.1 hk (by decide)) rfl hk rfl ht356 fun D =>
            j_gfc (pc := 109) (a := 303) D rfl rfl (by decide) rfl (s0_303 H) rfl (sf_213_303 H) fun D =>
            j_gfc (pc := 112) (a := 309) D rfl rfl (by decide) rfl (s0_309 H) rfl (sf_114_309 H) fun D =>
            j_ildn (pc := 115) D rfl rfl rfl fun D =>
            j_ic (pc := 116) D rfl fun D =>
            j_iadd (pc := 117) D rfl fun D =>
            j_al (pc := 118) (a := 310) (e := 4) D rfl rfl rfl (by decide) (s0_310 H) (s1_310 H) ⟨rfl, rfl, rfl⟩ rfl gn fun qb10 D =>
            j_as (pc := 119) (a := 310) (e := 4) D rfl ⟨rfl, rfl⟩ rfl (by decide) (s0_310 H) (s1_310 H) ⟨rfl, rfl, rfl⟩ rfl gn gn fun h11 eh11 S qb12 D =>
            have T := fj_hs_ok H.1 S
            have ht356 := fin_st H.1 T.2 hk (by decide) (by decide +kernel) ht356 (by decide)
            have hk := cls_st H.1 T.2 hk (by decide)
            have H := shp_st H T
            j_aldn (pc := 120) D rfl rfl rfl fun D =>
            j_gfc (pc := 121) (a := x0.toNat) D rfl rfl (nz_cls H.2.1 hk (by decide)) rfl hk rfl ht356 fun D =>
            j_gfc (pc := 124) (a := 303) D rfl rfl (by decide) rfl (s0_303 H) rfl (sf_213_303 H) fun D =>
            j_gfc (pc := 127) (a := 309) D rfl rfl (by decide) rfl (s0_309 H) rfl (sf_114_309 H) fun D =>
            j_ildn (pc := 130) D rfl rfl rfl fun D =>
            j_al (pc := 131) (a := 310) (e := 4) D rfl rfl rfl (by decide) (s0_310 H) (s1_310 H) ⟨rfl, rfl, rfl⟩ rfl (gy qb12) fun q D =>
            have D : fk_D 366 [(132, none, .aload_n 0, 1, 0, 0, 0), (133, none, .getfield 19, 3, 353, 118, 12), (136, none, .getstatic 112, 3, 4, 56, 0), (139, none, .if_acmp .ne 7, 3, 146, 0, 0), (142, none, .iconst 1, 1, 0, 1, 0), (143, none, .goto 4, 3, 147, 0, 0)] := fq_of2 cd_366 ow_366 cl_366 rfl (pc := 132) (by decide +kernel)
            j_aldn (pc := 132) D rfl rfl rfl fun D =>
            j_gf (pc := 133) (a := x0.toNat) D rfl rfl (nz_cls H.2.1 hk (by decide)) rfl hk rfl fun D =>
            j_gs (pc := 136) D rfl fun D =>
            j_ane (pc := 139) D rfl (fun q D =>
              j_ic (pc := 142) D rfl fun D =>
              j_goto (pc := 143) D rfl <|
              fk_jump cut_366_147 rfl rfl) (fun q =>
              have D : fk_D 366 [(146, none, .iconst 0, 1, 0, 0, 0)] := fq_of2 cd_366 ow_366 cl_366 rfl (pc := 146) (by decide +kernel)
              j_ic (pc := 146) D rfl fun D =>
              fk_jump cut_366_147 rfl rfl)) (fun N =>
            j_tc 3 (t := 94) D N rfl (by decide +kernel) (fun q =>
              have D : fk_D 366 [(94, none, .aload_n 0, 1, 0, 0, 0), (95, none, .getfield 3, 3, 356, 118, 12), (98, none, .getfield 45, 3, 213, 100, 12), (101, none, .getfield 62, 3, 114, 119, 12), (104, none, .iload_n 1, 1, 0, 0, 0), (105, none, .aload_n 0, 1, 0, 0, 0), (106, none, .getfield 3, 3, 356, 118, 12), (109, none, .getfield 45, 3, 213, 100, 12), (112, none, .getfield 62, 3, 114, 119, 12), (115, none, .iload_n 1, 1, 0, 0, 0), (116, none, .iconst 1, 1, 0, 1, 0), (117, none, .iadd, 1, 0, 0, 0), (118, none, .baload, 1, 0, 0, 0), (119, none, .bastore, 1, 0, 0, 0), (120, none, .aload_n 0, 1, 0, 0, 0), (121, none, .getfield 3, 3, 356, 118, 12), (124, none, .getfield 45, 3, 213, 100, 12), (127, none, .getfield 62, 3, 114, 119, 12), (130, none, .iload_n 1, 1, 0, 0, 0), (131, none, .baload, 1, 0, 0, 0)] := fq_of2 cd_366 ow_366 cl_366 rfl (pc := 94) (by decide +kernel)
              j_aldn (pc := 94) D rfl rfl rfl fun D =>
              j_gfc (pc := 95) (a := x0.toNat) D rfl rfl (nz_cls H.2.1 hk (by decide)) rfl hk rfl ht356 fun D =>
              j_gfc (pc := 98) (a := 303) D rfl rfl (by decide) rfl (s0_303 H) rfl (sf_213_303 H) fun D =>
              j_gfc (pc := 101) (a := 309) D rfl rfl (by decide) rfl (s0_309 H) rfl (sf_114_309 H) fun D =>
              j_ildn (pc := 104) D rfl rfl rfl fun D =>
              j_aldn (pc := 105) D rfl rfl rfl fun D =>
              j_gfc (pc := 106) (a := x0.toNat) D rfl rfl (nz_cls H.2.1 hk (by decide)) rfl hk rfl ht356 fun D =>
              j_gfc (pc := 109) (a := 303) D rfl rfl (by decide) rfl (s0_303 H) rfl (sf_213_303 H) fun D =>
              j_gfc (pc := 112) (a := 309) D rfl rfl (by decide) rfl (s0_309 H) rfl (sf_114_309 H) fun D =>
              j_ildn (pc := 115) D rfl rfl rfl fun D =>
              j_ic (pc := 116) D rfl fun D =>
              j_iadd (pc := 117) D rfl fun D =>
              j_al (pc := 118) (a := 310) (e := 4) D rfl rfl rfl (by decide) (s0_310 H) (s1_310 H) ⟨rfl, rfl, rfl⟩ rfl gn fun qb13 D =>
              j_as (pc := 119) (a := 310) (e := 4) D rfl ⟨rfl, rfl⟩ rfl (by decide) (s0_310 H) (s1_310 H) ⟨rfl, rfl, rfl⟩ rfl gn gn fun h14 eh14 S qb15 D =>
              have T := fj_hs_ok H.1 S
              have ht356 := fin_st H.1 T.2 hk (by decide) (by decide +kernel) ht356 (by decide)
              have hk := cls_st H.1 T.2 hk (by decide)
              have H := shp_st H T
              j_aldn (pc := 120) D rfl rfl rfl fun D =>
              j_gfc (pc := 121) (a := x0.toNat) D rfl rfl (nz_cls H.2.1 hk (by decide)) rfl hk rfl ht356 fun D =>
              j_gfc (pc := 124) (a := 303) D rfl rfl (by decide) rfl (s0_303 H) rfl (sf_213_303 H) fun D =>
              j_gfc (pc := 127) (a := 309) D rfl rfl (by decide) rfl (s0_309 H) rfl (sf_114_309 H) fun D =>
              j_ildn (pc := 130) D rfl rfl rfl fun D =>
              j_al (pc := 131) (a := 310) (e := 4) D rfl rfl rfl (by decide) (s0_310 H) (s1_310 H) ⟨rfl, rfl, rfl⟩ rfl (gy qb15) fun q D =>
              have D : fk_D 366 [(132, none, .aload_n 0, 1, 0, 0, 0), (133, none, .getfield 19, 3, 353, 118, 12), (136, none, .getstatic 112, 3, 4, 56, 0), (139, none, .if_acmp .ne 7, 3, 146, 0, 0), (142, none, .iconst 1, 1, 0, 1, 0), (143, none, .goto 4, 3, 147, 0, 0)] := fq_of2 cd_366 ow_366 cl_366 rfl (pc := 132) (by decide +kernel)
              j_aldn (pc := 132) D rfl rfl rfl fun D =>
              j_gf (pc := 133) (a := x0.toNat) D rfl rfl (nz_cls H.2.1 hk (by decide)) rfl hk rfl fun D =>
              j_gs (pc := 136) D rfl fun D =>
              j_ane (pc := 139) D rfl (fun q D =>
                j_ic (pc := 142) D rfl fun D =>
                j_goto (pc := 143) D rfl <|
                fk_jump cut_366_147 rfl rfl) (fun q =>
                have D : fk_D 366 [(146, none, .iconst 0, 1, 0, 0, 0)] := fq_of2 cd_366 ow_366 cl_366 rfl (pc := 146) (by decide +kernel)
                j_ic (pc := 146) D rfl fun D =>
                fk_jump cut_366_147 rfl rfl)) (fun N =>
              j_td (t := 156) D N rfl (by decide +kernel) (by decide +kernel) <|
              have D : fk_D 366 [(156, none, .iload_n 2, 1, 0, 0, 0), (157, none, .ifCond .eq 22, 3, 179, 0, 0), (160, none, .aload_n 0, 1, 0, 0, 0), (161, none, .getfield 3, 3, 356, 118, 12), (164, none, .iload_n 1, 1, 0, 0, 0), (165, none, .aload_n 0, 1, 0, 0, 0), (166, none, .getfield 49, 3, 340, 118, 12), (169, none, .aload_n 0, 1, 0, 0, 0), (170, none, .getfield 49, 3, 340, 118, 12), (173, none, .invokevirtual 115, 3, 3, 226, 1), (176, none, .goto 4, 3, 180, 0, 0)] := fq_of2 cd_366 ow_366 cl_366 rfl (pc := 156) (by decide +kernel)
              j_ildn (pc := 156) D rfl rfl rfl fun D =>
              j_ifeq (pc := 157) D rfl (fun q =>
                have D : fk_D 366 [(179, none, .iconst 0, 1, 0, 0, 0)] := fq_of2 cd_366 ow_366 cl_366 rfl (pc := 179) (by decide +kernel)
                j_ic (pc := 179) D rfl fun D =>
                fk_jump cut_366_180 rfl rfl) (fun q D =>
                j_aldn (pc := 160) D rfl rfl rfl fun D =>
                j_gfc (pc := 161) (a := x0.toNat) D rfl rfl (nz_cls H.2.1 hk (by decide)) rfl hk rfl ht356 fun D =>
                j_ildn (pc := 164) D rfl rfl rfl fun D =>
                j_aldn (pc := 165) D rfl rfl rfl fun D =>
                j_gf (pc := 166) (a := x0.toNat) D rfl rfl (nz_cls H.2.1 hk (by decide)) rfl hk rfl fun D =>
                j_aldn (pc := 169) D rfl rfl rfl fun D =>
                j_gf (pc := 170) (a := x0.toNat) D rfl rfl (nz_cls H.2.1 hk (by decide)) rfl hk rfl fun D =>
                j_iv (pc := 173) (m := 342) (dd := 226) (a := [(0, x1), (4, h1 340 x0.toNat 0), (4, h1 340 x0.toNat 0)]) (rest := []) D rfl rfl rfl rfl rfl (by decide) (s0_303 H) (by decide +kernel) (fun v17 h16 e1 D =>
                  have T := fj_run_ok _ _ _ _ _ _ H.1 e1
                  have ht356 := fin_st H.1 T.2 hk (by decide) (by decide +kernel) ht356 (by decide)
                  have hk := cls_st H.1 T.2 hk (by decide)
                  have H := shp_st H T
                  j_goto (pc := 176) D rfl <|
                  fk_jump cut_366_180 rfl rfl) (fun q18 h16 e1 =>
                  j_tx (hx_366 _)))))))) (fun m4 q3 h1 e1 =>
      j_tx (hx_366 _))
/-! 367 StatuteHouse$Calendar.first(I)I -/
theorem cd_367 : fi_code 367 = prog_3_method_10_code := rfl
theorem hx_367 : ∀ pc, fi_hat 367 pc = none := fun pc => by unfold fi_hat; rw [show fi_hh 367 = [] from rfl]; rfl
theorem rt_367 : fi_ret 367 = some .int := rfl
theorem nl_367 : fi_nl 367 = 2 := rfl
theorem ow_367 : fi_ow 367 = 1 := rfl
theorem cl_367 : fj_cutT.getD 367 [] = [] := rfl
theorem m_367 (d : Nat) (x0 x1 : Int) {h : fi_H} (H : Shp h) (hk : h 0 x0.toNat 0 = 101) : fj_run (d + 1) 367 h [(4, x0), (0, x1)] =
  cv_ (fj_run d 40 h [(4, x0), (0, x1)])
    (fun h1 =>
    some (.inl (some (0, wI ((wI (x1 - (h1 113 x0.toNat 0))) + 1))), h1))
    (fun q3 h1 => tx_ q3 h1) := by
  rw [fj_run_eq d (by decide) h [(4, x0), (0, x1)] (Nat.le_of_ble_eq_true (by rw [nl_367]; rfl))]
  show gG (fj_run d) 367 0 [(0, (4, x0)), (1, (0, x1))] [] h = _
  exact
    have D : fk_D 367 [(0, none, .aload_n 0, 1, 0, 0, 0), (1, none, .iload_n 1, 1, 0, 0, 0), (2, none, .invokevirtual 44, 3, 1, 108, 0), (5, none, .iload_n 1, 1, 0, 0, 0), (6, none, .aload_n 0, 1, 0, 0, 0), (7, none, .getfield 15, 3, 113, 101, 10), (10, none, .isub, 1, 0, 0, 0), (11, none, .iconst 1, 1, 0, 1, 0), (12, none, .iadd, 1, 0, 0, 0), (13, none, .ireturn, 1, 0, 0, 0)] := fq_of2 cd_367 ow_367 cl_367 rfl (pc := 0) (by decide +kernel)
    j_aldn (pc := 0) D rfl rfl rfl fun D =>
    j_ildn (pc := 1) D rfl rfl rfl fun D =>
    j_ivv (pc := 2) (m := 40) (dd := 108) (a := [(0, x1)]) (rest := []) D rfl rfl rfl rfl rfl (nz_cls H.2.1 hk (by decide)) hk (by decide +kernel) (fun h1 e1 D =>
      have T := fj_run_ok _ _ _ _ _ _ H.1 e1
      have hk := cls_st H.1 T.2 hk (by decide)
      have H := shp_st H T
      j_ildn (pc := 5) D rfl rfl rfl fun D =>
      j_aldn (pc := 6) D rfl rfl rfl fun D =>
      j_gf (pc := 7) (a := x0.toNat) D rfl rfl (nz_cls H.2.1 hk (by decide)) rfl hk rfl fun D =>
      j_isub (pc := 10) D rfl fun D =>
      j_ic (pc := 11) D rfl fun D =>
      j_iadd (pc := 12) D rfl fun D =>
      j_iret D rt_367) (fun q3 h1 e1 =>
      j_tx (hx_367 _))
/-! 368 StatuteHouse$Function$1.work(LStatuteHouse;ILStatuteHouse$Kind;)V -/
theorem cd_368 : fi_code 368 = prog_13_method_3_code := rfl
theorem hx_368 : ∀ pc, fi_hat 368 pc = none := fun pc => by unfold fi_hat; rw [show fi_hh 368 = [] from rfl]; rfl
theorem rt_368 : fi_ret 368 = none := rfl
theorem nl_368 : fi_nl 368 = 4 := rfl
theorem ow_368 : fi_ow 368 = 35 := rfl
theorem cl_368 : fj_cutT.getD 368 [] = [] := rfl
theorem m_368 (d : Nat) (x0 x1 x2 x3 : Int) {h : fi_H} {k0 : Int} (H : Shp h) (hk : h 0 x0.toNat 0 = k0) (hk0 : k0 ≠ 0) : fj_run (d + 1) 368 h [(4, x0), (4, x1), (0, x2), (4, x3)] =
  some (.inl none, h) := by
  rw [fj_run_eq d (by decide) h [(4, x0), (4, x1), (0, x2), (4, x3)] (Nat.le_of_ble_eq_true (by rw [nl_368]; rfl))]
  show gG (fj_run d) 368 0 [(0, (4, x0)), (1, (4, x1)), (2, (0, x2)), (3, (4, x3))] [] h = _
  exact
    have D : fk_D 368 [(0, none, .return_, 1, 0, 0, 0)] := fq_of2 cd_368 ow_368 cl_368 rfl (pc := 0) (by decide +kernel)
    j_vret D rt_368
/-! 369 StatuteHouse$Function$10.work(LStatuteHouse;ILStatuteHouse$Kind;)V -/
theorem cd_369 : fi_code 369 = prog_14_method_3_code := rfl
theorem hx_369 : ∀ pc, fi_hat 369 pc = none := fun pc => by unfold fi_hat; rw [show fi_hh 369 = [] from rfl]; rfl
theorem rt_369 : fi_ret 369 = none := rfl
theorem nl_369 : fi_nl 369 = 4 := rfl
theorem ow_369 : fi_ow 369 = 36 := rfl
theorem cl_369 : fj_cutT.getD 369 [] = [] := rfl
theorem m_369 (d : Nat) (x0 x1 x2 x3 : Int) {h : fi_H} {k0 : Int} (H : Shp h) (hk : h 0 x0.toNat 0 = k0) (hk0 : k0 ≠ 0) : fj_run (d + 1) 369 h [(4, x0), (4, x1), (0, x2), (4, x3)] =
  dv_ (fi_vt 494 (h 0 x1.toNat 0)) fun m4 => cv_ (fj_run d m4 h [(4, x1), (4, 14), (0, x2)])
    (fun h1 =>
    some (.inl none, h1))
    (fun q3 h1 => tx_ q3 h1) := by
  rw [fj_run_eq d (by decide) h [(4, x0), (4, x1), (0, x2), (4, x3)] (Nat.le_of_ble_eq_true (by rw [nl_369]; rfl))]
  show gG (fj_run d) 369 0 [(0, (4, x0)), (1, (4, x1)), (2, (0, x2)), (3, (4, x3))] [] h = _
  exact
    have D : fk_D 369 [(0, none, .aload_n 1, 1, 0, 0, 0), (1, none, .getstatic 11, 3, 4, 14, 0), (4, none, .iload_n 2, 1, 0, 0, 0), (5, none, .invokevirtual 17, 3, 2, 494, 0), (8, none, .return_, 1, 0, 0, 0)] := fq_of2 cd_369 ow_369 cl_369 rfl (pc := 0) (by decide +kernel)
    j_aldn (pc := 0) D rfl rfl rfl fun D =>
    j_gs (pc := 1) D rfl fun D =>
    j_ildn (pc := 4) D rfl rfl rfl fun D =>
    j_ivuv (pc := 5) (dd := 494) (a := [(4, 14), (0, x2)]) (rest := []) H.2.1 D rfl rfl rfl rfl rfl (fun m4 h1 e1 D =>
      have T := fj_run_ok _ _ _ _ _ _ H.1 e1
      have hk := cls_st H.1 T.2 hk hk0
      have H := shp_st H T
      j_vret D rt_369) (fun m4 q3 h1 e1 =>
      j_tx (hx_369 _))
/-! 370 StatuteHouse.rounds(LStatuteHouse$Mode;I)V -/
theorem cd_370 : fi_code 370 = prog_1_method_24_code := rfl
theorem hx_370 : ∀ pc, fi_hat 370 pc = none := fun pc => by unfold fi_hat; rw [show fi_hh 370 = [] from rfl]; rfl
theorem rt_370 : fi_ret 370 = none := rfl
theorem nl_370 : fi_nl 370 = 5 := rfl
theorem ow_370 : fi_ow 370 = 0 := rfl
theorem cl_370 : fj_cutT.getD 370 [] = [] := rfl
theorem m_370 (d : Nat) (x1 x2 : Int) {h : fi_H} (H : Shp h) : fj_run (d + 1) 370 h [(4, 303), (4, x1), (0, x2)] =
  if 0 ≤ wI (x2 + 1) ∧ wI (x2 + 1) < 700 then
  if 0 < lc_ (h 11 315 (wI (x2 + 1)).toNat) 0 then
    if 0 ≤ x2 ∧ x2 < 700 then
    dv_ (fi_vt 125 (h 0 x1.toNat 0)) fun m6 => ca_ (fj_run d m6 h [(4, x1), (1, h 11 315 x2.toNat), (1, h 11 315 (wI (x2 + 1)).toNat)]) 1
      (fun v4 h3 =>
      cv_ (fj_run d 347 h3 [(4, 303), (0, x2), (1, v4)])
        (fun h7 =>
        some (.inl none, h7))
        (fun q9 h7 => tx_ q9 h7))
      (fun q5 h3 => tx_ q5 h3)
    else none
  else
    ca_ (fj_run d 310 h [(4, 303), (0, 7)]) 4
      (fun v11 h10 =>
      if v11 ≠ 0 then
      tx_ v11.toNat h10
      else none)
      (fun q12 h10 => tx_ q12 h10)
  else none := by
  rw [fj_run_eq d (by decide) h [(4, 303), (4, x1), (0, x2)] (Nat.le_of_ble_eq_true (by rw [nl_370]; rfl))]
  show gG (fj_run d) 370 0 [(0, (4, 303)), (1, (4, x1)), (2, (0, x2))] [] h = _
  exact
    have D : fk_D 370 [(0, none, .aload_n 0, 1, 0, 0, 0), (1, none, .getfield 113, 3, 213, 100, 12), (4, none, .getfield 66, 3, 119, 119, 12), (7, none, .iload_n 2, 1, 0, 0, 0), (8, none, .iconst 1, 1, 0, 1, 0), (9, none, .iadd, 1, 0, 0, 0), (10, none, .laload, 1, 0, 0, 0), (11, none, .lstore_n 3, 1, 0, 0, 0), (12, none, .lload_n 3, 1, 0, 0, 0), (13, none, .lconst 0, 1, 0, 0, 0), (14, none, .lcmp, 1, 0, 0, 0), (15, none, .ifCond .gt 10, 3, 25, 0, 0), (18, none, .aload_n 0, 1, 0, 0, 0), (19, none, .bipush 7, 2, 0, 7, 0), (21, none, .invokevirtual 109, 3, 1, 112, 5), (24, none, .athrow, 1, 0, 0, 0)] := fq_of2 cd_370 ow_370 cl_370 rfl (pc := 0) (by decide +kernel)
    j_aldn (pc := 0) D rfl rfl rfl fun D =>
    j_gfc (pc := 1) (a := 303) D rfl rfl (by decide) rfl (s0_303 H) rfl (sf_213_303 H) fun D =>
    j_gfc (pc := 4) (a := 309) D rfl rfl (by decide) rfl (s0_309 H) rfl (sf_119_309 H) fun D =>
    j_ildn (pc := 7) D rfl rfl rfl fun D =>
    j_ic (pc := 8) D rfl fun D =>
    j_iadd (pc := 9) D rfl fun D =>
    j_al (pc := 10) (a := 315) (e := 11) D rfl rfl rfl (by decide) (s0_315 H) (s1_315 H) ⟨rfl, rfl, rfl⟩ rfl gn fun qb1 D =>
    j_lstn (pc := 11) (L' := [(3, (1, h 11 315 (wI (x2 + 1)).toNat)), (0, (4, 303)), (1, (4, x1)), (2, (0, x2))]) D rfl nl_370 rfl rfl fun D =>
    j_lldn (pc := 12) D rfl rfl rfl fun D =>
    j_c0 (pc := 13) (v := (1, 0)) D rfl rfl (by decide +kernel) fun D =>
    j_lcmp (pc := 14) D rfl fun D =>
    j_ifgt (pc := 15) D rfl (fun q =>
      have D : fk_D 370 [(25, none, .aload_n 0, 1, 0, 0, 0), (26, none, .iload_n 2, 1, 0, 0, 0), (27, none, .aload_n 1, 1, 0, 0, 0), (28, none, .aload_n 0, 1, 0, 0, 0), (29, none, .getfield 113, 3, 213, 100, 12), (32, none, .getfield 66, 3, 119, 119, 12), (35, none, .iload_n 2, 1, 0, 0, 0), (36, none, .laload, 1, 0, 0, 0), (37, none, .lload_n 3, 1, 0, 0, 0), (38, none, .invokevirtual 203, 3, 2, 125, 2), (41, none, .invokevirtual 155, 3, 2, 116, 0), (44, none, .return_, 1, 0, 0, 0)] := fq_of2 cd_370 ow_370 cl_370 rfl (pc := 25) (by decide +kernel)
      j_aldn (pc := 25) D rfl rfl rfl fun D =>
      j_ildn (pc := 26) D rfl rfl rfl fun D =>
      j_aldn (pc := 27) D rfl rfl rfl fun D =>
      j_aldn (pc := 28) D rfl rfl rfl fun D =>
      j_gfc (pc := 29) (a := 303) D rfl rfl (by decide) rfl (s0_303 H) rfl (sf_213_303 H) fun D =>
      j_gfc (pc := 32) (a := 309) D rfl rfl (by decide) rfl (s0_309 H) rfl (sf_119_309 H) fun D =>
      j_ildn (pc := 35) D rfl rfl rfl fun D =>
      j_al (pc := 36) (a := 315) (e := 11) D rfl rfl rfl (by decide) (s0_315 H) (s1_315 H) ⟨rfl, rfl, rfl⟩ rfl gn fun qb2 D =>
      j_lldn (pc := 37) D rfl rfl rfl fun D =>
      j_ivu (pc := 38) (dd := 125) (a := [(1, h 11 315 x2.toNat), (1, h 11 315 (wI (x2 + 1)).toNat)]) (rest := [(0, x2), (4, 303)]) H.2.1 D rfl rfl rfl rfl rfl (fun m6 v4 h3 e1 D =>
        have T := fj_run_ok _ _ _ _ _ _ H.1 e1
        have H := shp_st H T
        j_ivv (pc := 41) (m := 347) (dd := 116) (a := [(0, x2), (1, v4)]) (rest := []) D rfl rfl rfl rfl rfl (by decide) (s0_303 H) (by decide +kernel) (fun h7 e1 D =>
          have T := fj_run_ok _ _ _ _ _ _ H.1 e1
          have H := shp_st H T
          j_vret D rt_370) (fun q9 h7 e1 =>
          j_tx (hx_370 _))) (fun m6 q5 h3 e1 =>
        j_tx (hx_370 _))) (fun q D =>
      j_aldn (pc := 18) D rfl rfl rfl fun D =>
      j_bp (pc := 19) D rfl fun D =>
      j_iv (pc := 21) (m := 310) (dd := 112) (a := [(0, 7)]) (rest := []) D rfl rfl rfl rfl rfl (by decide) (s0_303 H) (by decide +kernel) (fun v11 h10 e1 D =>
        have T := fj_run_ok _ _ _ _ _ _ H.1 e1
        have H := shp_st H T
        j_at (pc := 24) D gn <|
        j_tx (hx_370 _)) (fun q12 h10 e1 =>
        j_tx (hx_370 _)))
/-! 371 StatuteHouse$Mode$1.rounded(JJ)J -/
theorem cd_371 : fi_code 371 = prog_42_method_2_code := rfl
theorem hx_371 : ∀ pc, fi_hat 371 pc = none := fun pc => by unfold fi_hat; rw [show fi_hh 371 = [] from rfl]; rfl
theorem rt_371 : fi_ret 371 = some .long := rfl
theorem nl_371 : fi_nl 371 = 5 := rfl
theorem ow_371 : fi_ow 371 = 60 := rfl
theorem cl_371 : fj_cutT.getD 371 [] = [] := rfl
theorem m_371 (d : Nat) (x0 x1 x3 : Int) {h : fi_H} {k0 : Int} (H : Shp h) (hk : h 0 x0.toNat 0 = k0) (hk0 : k0 ≠ 0) : fj_run (d + 1) 371 h [(4, x0), (1, x1), (1, x3)] =
  some (.inl (some (1, x1)), h) := by
  rw [fj_run_eq d (by decide) h [(4, x0), (1, x1), (1, x3)] (Nat.le_of_ble_eq_true (by rw [nl_371]; rfl))]
  show gG (fj_run d) 371 0 [(0, (4, x0)), (1, (1, x1)), (3, (1, x3))] [] h = _
  exact
    have D : fk_D 371 [(0, none, .lload_n 1, 1, 0, 0, 0), (1, none, .lreturn, 1, 0, 0, 0)] := fq_of2 cd_371 ow_371 cl_371 rfl (pc := 0) (by decide +kernel)
    j_lldn (pc := 0) D rfl rfl rfl fun D =>
    j_lret D rt_371
