/-! forms of methods 202..222, printed by gen/forms.py -/
set_option maxRecDepth 100000
/-! 202 StatuteHouse$EasterDay.<init>(I)V -/
theorem cd_202 : fi_code 202 = prog_7_method_1_code := rfl
theorem hx_202 : ∀ pc, fi_hat 202 pc = none := fun pc => by unfold fi_hat; rw [show fi_hh 202 = [] from rfl]; rfl
theorem rt_202 : fi_ret 202 = none := rfl
theorem nl_202 : fi_nl 202 = 2 := rfl
theorem ow_202 : fi_ow 202 = 5 := rfl
theorem cl_202 : fj_cutT.getD 202 [] = [] := rfl
theorem m_202 (d : Nat) (x0 x1 : Int) {h : fi_H} (H : Shp h) (hk : h 0 x0.toNat 0 = 105) : fj_run (d + 1) 202 h [(4, x0), (0, x1)] =
  cv_ (fj_run d 1009 h [(4, x0)])
    (fun h1 =>
    if 302 < x0 then
    if h1 333 x0.toNat 0 = 0 then
    lt_ (fi_upd h1 333 x0.toNat 0 x1) fun h4 =>
    some (.inl none, h4)
    else none
    else none)
    (fun q3 h1 => tx_ q3 h1) := by
  rw [fj_run_eq d (by decide) h [(4, x0), (0, x1)] (Nat.le_of_ble_eq_true (by rw [nl_202]; rfl))]
  show gG (fj_run d) 202 0 [(0, (4, x0)), (1, (0, x1))] [] h = _
  exact
    have D : fk_D 202 [(0, none, .aload_n 0, 1, 0, 0, 0), (1, none, .invokespecial 1, 3, 0, 1009, 0), (4, none, .aload_n 0, 1, 0, 0, 0), (5, none, .iload_n 1, 1, 0, 0, 0), (6, none, .putfield 7, 3, 333, 105, 110), (9, none, .return_, 1, 0, 0, 0)] := fq_of2 cd_202 ow_202 cl_202 rfl (pc := 0) (by decide +kernel)
    j_aldn (pc := 0) D rfl rfl rfl fun D =>
    j_spv (pc := 1) (m := 1009) (a := []) (rest := []) D rfl rfl rfl rfl (by rw [show h 0 x0.toNat 0 = 105 from hk]; decide) (nz_cls H.2.1 hk (by decide)) (fun h1 e1 D =>
      have T := fj_run_ok _ _ _ _ _ _ H.1 e1
      have hk := cls_st H.1 T.2 hk (by decide)
      have H := shp_st H T
      j_aldn (pc := 4) D rfl rfl rfl fun D =>
      j_ildn (pc := 5) D rfl rfl rfl fun D =>
      j_pfF (pc := 6) (a := x0.toNat) (ty := 10) D rfl rfl rfl hk ⟨rfl, rfl⟩ rfl gn (gy rfl) gn fun h4 eh4 S D =>
      have T := fj_hs_ok H.1 S
      have hk := cls_st H.1 T.2 hk (by decide)
      have H := shp_st H T
      j_vret D rt_202) (fun q3 h1 e1 =>
      j_tx (hx_202 _))
/-! 203 StatuteHouse$Reader.byWeek()LStatuteHouse$Holiday; -/
theorem cd_203 : fi_code 203 = prog_53_method_45_code := rfl
theorem hx_203 : ∀ pc, fi_hat 203 pc = none := fun pc => by unfold fi_hat; rw [show fi_hh 203 = [] from rfl]; rfl
theorem rt_203 : fj_ft (fi_ret 203) = 5 := rfl
theorem nl_203 : fi_nl 203 = 3 := rfl
theorem ow_203 : fi_ow 203 = 15 := rfl
theorem cl_203 : fj_cutT.getD 203 [] = [] := rfl
theorem m_203 (d : Nat) {h : fi_H} (H : Shp h) : fj_run (d + 1) 203 h [(4, 377)] =
  ca_ (fj_run d 162 h [(4, 377), (4, 103)]) 0
    (fun v2 h1 =>
    cv_ (fj_run d 166 h1 [(4, 377)])
      (fun h4 =>
      ca_ (fj_run d 204 h4 [(4, 377)]) 0
        (fun v8 h7 =>
        cv_ (fj_run d 166 h7 [(4, 377)])
          (fun h10 =>
          cv_ (fj_run d 205 h10 [(4, 377), (4, 179)])
            (fun h13 =>
            nw_ h13 127 3 0 fun r16 h17 =>
            ca_ (fj_run d 188 h17 [(4, 377), (0, 1), (0, 12)]) 0
              (fun v19 h18 =>
              cv_ (fj_run d 206 h18 [(4, r16), (0, v2), (0, v8), (0, v19)])
                (fun h21 =>
                some (.inl (some (4, r16)), h21))
                (fun q23 h21 => tx_ q23 h21))
              (fun q20 h18 => tx_ q20 h18))
            (fun q15 h13 => tx_ q15 h13))
          (fun q12 h10 => tx_ q12 h10))
        (fun q9 h7 => tx_ q9 h7))
      (fun q6 h4 => tx_ q6 h4))
    (fun q3 h1 => tx_ q3 h1) := by
  rw [fj_run_eq d (by decide) h [(4, 377)] (Nat.le_of_ble_eq_true (by rw [nl_203]; rfl))]
  show gG (fj_run d) 203 0 [(0, (4, 377))] [] h = _
  exact
    have D : fk_D 203 [(0, none, .aload_n 0, 1, 0, 0, 0), (1, none, .ldc 232, 2, 4, 103, 0), (3, none, .invokevirtual 209, 3, 1, 262, 1), (6, none, .istore_n 1, 1, 0, 0, 0), (7, none, .aload_n 0, 1, 0, 0, 0), (8, none, .invokevirtual 206, 3, 0, 261, 0), (11, none, .aload_n 0, 1, 0, 0, 0), (12, none, .invokevirtual 574, 3, 0, 286, 1), (15, none, .istore_n 2, 1, 0, 0, 0), (16, none, .aload_n 0, 1, 0, 0, 0), (17, none, .invokevirtual 206, 3, 0, 261, 0), (20, none, .aload_n 0, 1, 0, 0, 0), (21, none, .ldc 234, 2, 4, 179, 0), (23, none, .invokevirtual 524, 3, 1, 280, 0), (26, none, .new 577, 3, 127, 3, 0), (29, none, .dup, 1, 0, 0, 0), (30, none, .iload_n 1, 1, 0, 0, 0), (31, none, .iload_n 2, 1, 0, 0, 0), (32, none, .aload_n 0, 1, 0, 0, 0), (33, none, .iconst 1, 1, 0, 1, 0)] := fq_of2 cd_203 ow_203 cl_203 rfl (pc := 0) (by decide +kernel)
    j_aldn (pc := 0) D rfl rfl rfl fun D =>
    j_ldc (pc := 1) D rfl fun D =>
    j_iv (pc := 3) (m := 162) (dd := 262) (a := [(4, 103)]) (rest := []) D rfl rfl rfl rfl rfl (by decide) (s0_377 H) (by decide +kernel) (fun v2 h1 e1 D =>
      have T := fj_run_ok _ _ _ _ _ _ H.1 e1
      have H := shp_st H T
      j_istn (pc := 6) (L' := [(1, (0, v2)), (0, (4, 377))]) D rfl nl_203 rfl rfl fun D =>
      j_aldn (pc := 7) D rfl rfl rfl fun D =>
      j_ivv (pc := 8) (m := 166) (dd := 261) (a := []) (rest := []) D rfl rfl rfl rfl rfl (by decide) (s0_377 H) (by decide +kernel) (fun h4 e1 D =>
        have T := fj_run_ok _ _ _ _ _ _ H.1 e1
        have H := shp_st H T
        j_aldn (pc := 11) D rfl rfl rfl fun D =>
        j_iv (pc := 12) (m := 204) (dd := 286) (a := []) (rest := []) D rfl rfl rfl rfl rfl (by decide) (s0_377 H) (by decide +kernel) (fun v8 h7 e1 D =>
          have T := fj_run_ok _ _ _ _ _ _ H.1 e1
          have H := shp_st H T
          j_istn (pc := 15) (L' := [(2, (0, v8)), (1, (0, v2)), (0, (4, 377))]) D rfl nl_203 rfl rfl fun D =>
          j_aldn (pc := 16) D rfl rfl rfl fun D =>
          j_ivv (pc := 17) (m := 166) (dd := 261) (a := []) (rest := []) D rfl rfl rfl rfl rfl (by decide) (s0_377 H) (by decide +kernel) (fun h10 e1 D =>
            have T := fj_run_ok _ _ _ _ _ _ H.1 e1
            have H := shp_st H T
            j_aldn (pc := 20) D rfl rfl rfl fun D =>
            j_ldc (pc := 21) D rfl fun D =>
            j_ivv (pc := 23) (m := 205) (dd := 280) (a := [(4, 179)]) (rest := []) D rfl rfl rfl rfl rfl (by decide) (s0_377 H) (by decide +kernel) (fun h13 e1 D =>
              have T := fj_run_ok _ _ _ _ _ _ H.1 e1
              have H := shp_st H T
              j_new (pc := 26) D rfl fun r16 h17 er eh17 S D =>
              have gt_r16 := nw_gt H.1 er
              have kc_r16 := nw_cls H.1 er eh17
              have T := fj_hs_ok H.1 S
              have H := shp_st H T
              j_sh (pc := 29) D rfl rfl rfl fun D =>
              j_ildn (pc := 30) D rfl rfl rfl fun D =>
              j_ildn (pc := 31) D rfl rfl rfl fun D =>
              j_aldn (pc := 32) D rfl rfl rfl fun D =>
              j_ic (pc := 33) D rfl fun D =>
              have D : fk_D 203 [(34, none, .bipush 12, 2, 0, 12, 0), (36, none, .invokevirtual 508, 3, 2, 277, 1), (39, none, .invokespecial 579, 3, 3, 206, 0), (42, none, .areturn, 1, 0, 0, 0)] := fq_of2 cd_203 ow_203 cl_203 rfl (pc := 34) (by decide +kernel)
              j_bp (pc := 34) D rfl fun D =>
              j_iv (pc := 36) (m := 188) (dd := 277) (a := [(0, 1), (0, 12)]) (rest := [(0, v8), (0, v2), (4, r16), (4, r16)]) D rfl rfl rfl rfl rfl (by decide) (s0_377 H) (by decide +kernel) (fun v19 h18 e1 D =>
                have T := fj_run_ok _ _ _ _ _ _ H.1 e1
                have kc_r16 := cls_st H.1 T.2 kc_r16 (by decide)
                have H := shp_st H T
                j_spv (pc := 39) (m := 206) (a := [(0, v2), (0, v8), (0, v19)]) (rest := [(4, r16)]) D rfl rfl rfl rfl (by rw [show h18 0 r16.toNat 0 = 127 from kc_r16]; decide) (gt_nz gt_r16) (fun h21 e1 D =>
                  have T := fj_run_ok _ _ _ _ _ _ H.1 e1
                  have kc_r16 := cls_st H.1 T.2 kc_r16 (by decide)
                  have H := shp_st H T
                  j_aret D rt_203) (fun q23 h21 e1 =>
                  j_tx (hx_203 _))) (fun q20 h18 e1 =>
                j_tx (hx_203 _))) (fun q15 h13 e1 =>
              j_tx (hx_203 _))) (fun q12 h10 e1 =>
            j_tx (hx_203 _))) (fun q9 h7 e1 =>
          j_tx (hx_203 _))) (fun q6 h4 e1 =>
        j_tx (hx_203 _))) (fun q3 h1 e1 =>
      j_tx (hx_203 _))
/-! 204 StatuteHouse$Reader.weekday()I -/
theorem cd_204 : fi_code 204 = prog_53_method_41_code := rfl
theorem hx_204 : ∀ pc, fi_hat 204 pc = none := fun pc => by unfold fi_hat; rw [show fi_hh 204 = [] from rfl]; rfl
theorem rt_204 : fi_ret 204 = some .int := rfl
theorem nl_204 : fi_nl 204 = 3 := rfl
theorem ow_204 : fi_ow 204 = 15 := rfl
theorem cl_204 : fj_cutT.getD 204 [] = [(196, [0, 2])] := rfl
theorem cut_204_196 : fj_cut 204 196 = some [0, 2] := by decide +kernel
noncomputable def c_204_196 (d : Nat) (x2 : Int) (h : fi_H) : fk_R := gG (fj_run d) 204 196 [(0, (4, 377)), (2, (0, x2))] [] h
theorem e_204_196 (d : Nat) (x2 : Int) {h : fi_H} (H : Shp h) : c_204_196 d x2 h =
  if x2 = 0 then
    some (.inl (some (0, 0)), h)
  else if x2 = 1 then
    some (.inl (some (0, 1)), h)
  else if x2 = 2 then
    some (.inl (some (0, 2)), h)
  else if x2 = 3 then
    some (.inl (some (0, 3)), h)
  else if x2 = 4 then
    some (.inl (some (0, 4)), h)
  else if x2 = 5 then
    some (.inl (some (0, 5)), h)
  else if x2 = 6 then
    some (.inl (some (0, 6)), h)
  else 
    ca_ (fj_run d 164 h [(4, 377), (0, 1)]) 4
      (fun v2 h1 =>
      if v2 ≠ 0 then
      tx_ v2.toNat h1
      else none)
      (fun q3 h1 => tx_ q3 h1) := by
  unfold c_204_196
  exact
    have D : fk_D 204 [(196, some [0, 2], .iload_n 2, 1, 0, 0, 0), (197, none, .tableswitch 58 0 6 #[43, 45, 47, 49, 51, 53, 55], 43, 0, 0, 0)] := fq_of3 cd_204 ow_204 cl_204 rfl (pc := 196) (by decide +kernel)
    j_ildn (pc := 196) D rfl rfl rfl fun D =>
    have N : fk_ni (x2) [] := trivial
    j_tc (pc := 197) 0 (t := 240) D N rfl (by decide +kernel) (fun q =>
      have D : fk_D 204 [(240, none, .iconst 0, 1, 0, 0, 0), (241, none, .ireturn, 1, 0, 0, 0)] := fq_of2 cd_204 ow_204 cl_204 rfl (pc := 240) (by decide +kernel)
      j_ic (pc := 240) D rfl fun D =>
      j_iret D rt_204) (fun N =>
      j_tc 1 (t := 242) D N rfl (by decide +kernel) (fun q =>
        have D : fk_D 204 [(242, none, .iconst 1, 1, 0, 1, 0), (243, none, .ireturn, 1, 0, 0, 0)] := fq_of2 cd_204 ow_204 cl_204 rfl (pc := 242) (by decide +kernel)
        j_ic (pc := 242) D rfl fun D =>
        j_iret D rt_204) (fun N =>
        j_tc 2 (t := 244) D N rfl (by decide +kernel) (fun q =>
          have D : fk_D 204 [(244, none, .iconst 2, 1, 0, 2, 0), (245, none, .ireturn, 1, 0, 0, 0)] := fq_of2 cd_204 ow_204 cl_204 rfl (pc := 244) (by decide +kernel)
          j_ic (pc := 244) D rfl fun D =>
          j_iret D rt_204) (fun N =>
          j_tc 3 (t := 246) D N rfl (by decide +kernel) (fun q =>
            have D : fk_D 204 [(246, none, .iconst 3, 1, 0, 3, 0), (247, none, .ireturn, 1, 0, 0, 0)] := fq_of2 cd_204 ow_204 cl_204 rfl (pc := 246) (by decide +kernel)
            j_ic (pc := 246) D rfl fun D =>
            j_iret D rt_204) (fun N =>
            j_tc 4 (t := 248) D N rfl (by decide +kernel) (fun q =>
              have D : fk_D 204 [(248, none, .iconst 4, 1, 0, 4, 0), (249, none, .ireturn, 1, 0, 0, 0)] := fq_of2 cd_204 ow_204 cl_204 rfl (pc := 248) (by decide +kernel)
              j_ic (pc := 248) D rfl fun D =>
              j_iret D rt_204) (fun N =>
              j_tc 5 (t := 250) D N rfl (by decide +kernel) (fun q =>
                have D : fk_D 204 [(250, none, .iconst 5, 1, 0, 5, 0), (251, none, .ireturn, 1, 0, 0, 0)] := fq_of2 cd_204 ow_204 cl_204 rfl (pc := 250) (by decide +kernel)
                j_ic (pc := 250) D rfl fun D =>
                j_iret D rt_204) (fun N =>
                j_tc 6 (t := 252) D N rfl (by decide +kernel) (fun q =>
                  have D : fk_D 204 [(252, none, .bipush 6, 2, 0, 6, 0), (254, none, .ireturn, 1, 0, 0, 0)] := fq_of2 cd_204 ow_204 cl_204 rfl (pc := 252) (by decide +kernel)
                  j_bp (pc := 252) D rfl fun D =>
                  j_iret D rt_204) (fun N =>
                  j_td (t := 255) D N rfl (by decide +kernel) (by decide +kernel) <|
                  have D : fk_D 204 [(255, none, .aload_n 0, 1, 0, 0, 0), (256, none, .iconst 1, 1, 0, 1, 0), (257, none, .invokevirtual 190, 3, 1, 258, 5), (260, none, .athrow, 1, 0, 0, 0)] := fq_of2 cd_204 ow_204 cl_204 rfl (pc := 255) (by decide +kernel)
                  j_aldn (pc := 255) D rfl rfl rfl fun D =>
                  j_ic (pc := 256) D rfl fun D =>
                  j_iv (pc := 257) (m := 164) (dd := 258) (a := [(0, 1)]) (rest := []) D rfl rfl rfl rfl rfl (by decide) (s0_377 H) (by decide +kernel) (fun v2 h1 e1 D =>
                    have T := fj_run_ok _ _ _ _ _ _ H.1 e1
                    have H := shp_st H T
                    j_at (pc := 260) D gn <|
                    j_tx (hx_204 _)) (fun q3 h1 e1 =>
                    j_tx (hx_204 _)))))))))
theorem m_204 (d : Nat) {h : fi_H} (H : Shp h) : fj_run (d + 1) 204 h [(4, 377)] =
  if 0 ≤ h 158 377 0 ∧ h 158 377 0 < 1202 then
  if h 8 378 (h 158 377 0).toNat = 2 then
    dv_ (fi_vt 215 (h 0 (h 12 383 (h 158 377 0).toNat).toNat 0)) fun m5 => ca_ (fj_run d m5 h [(4, h 12 383 (h 158 377 0).toNat)]) 0
      (fun v3 h2 =>
      if v3 = (-2114201671) then
        dv_ (fi_vt 216 (h2 0 (h 12 383 (h 158 377 0).toNat).toNat 0)) fun m9 => ca_ (fj_run d m9 h2 [(4, h 12 383 (h 158 377 0).toNat), (4, 191)]) 0
          (fun v7 h6 =>
          if v7 = 0 then
            c_204_196 d (-1) h6
          else
            c_204_196 d 5 h6)
          (fun q8 h6 => tx_ q8 h6)
      else if v3 = (-1266285217) then
        dv_ (fi_vt 216 (h2 0 (h 12 383 (h 158 377 0).toNat).toNat 0)) fun m13 => ca_ (fj_run d m13 h2 [(4, h 12 383 (h 158 377 0).toNat), (4, 189)]) 0
          (fun v11 h10 =>
          if v11 = 0 then
            c_204_196 d (-1) h10
          else
            c_204_196 d 4 h10)
          (fun q12 h10 => tx_ q12 h10)
      else if v3 = (-1068502768) then
        dv_ (fi_vt 216 (h2 0 (h 12 383 (h 158 377 0).toNat).toNat 0)) fun m17 => ca_ (fj_run d m17 h2 [(4, h 12 383 (h 158 377 0).toNat), (4, 181)]) 0
          (fun v15 h14 =>
          if v15 = 0 then
            c_204_196 d (-1) h14
          else
            c_204_196 d 0 h14)
          (fun q16 h14 => tx_ q16 h14)
      else if v3 = (-977343923) then
        dv_ (fi_vt 216 (h2 0 (h 12 383 (h 158 377 0).toNat).toNat 0)) fun m21 => ca_ (fj_run d m21 h2 [(4, h 12 383 (h 158 377 0).toNat), (4, 183)]) 0
          (fun v19 h18 =>
          if v19 = 0 then
            c_204_196 d (-1) h18
          else
            c_204_196 d 1 h18)
          (fun q20 h18 => tx_ q20 h18)
      else if v3 = (-891186736) then
        dv_ (fi_vt 216 (h2 0 (h 12 383 (h 158 377 0).toNat).toNat 0)) fun m25 => ca_ (fj_run d m25 h2 [(4, h 12 383 (h 158 377 0).toNat), (4, 193)]) 0
          (fun v23 h22 =>
          if v23 = 0 then
            c_204_196 d (-1) h22
          else
            c_204_196 d 6 h22)
          (fun q24 h22 => tx_ q24 h22)
      else if v3 = 1393530710 then
        dv_ (fi_vt 216 (h2 0 (h 12 383 (h 158 377 0).toNat).toNat 0)) fun m29 => ca_ (fj_run d m29 h2 [(4, h 12 383 (h 158 377 0).toNat), (4, 185)]) 0
          (fun v27 h26 =>
          if v27 = 0 then
            c_204_196 d (-1) h26
          else
            c_204_196 d 2 h26)
          (fun q28 h26 => tx_ q28 h26)
      else if v3 = 1572055514 then
        dv_ (fi_vt 216 (h2 0 (h 12 383 (h 158 377 0).toNat).toNat 0)) fun m33 => ca_ (fj_run d m33 h2 [(4, h 12 383 (h 158 377 0).toNat), (4, 187)]) 0
          (fun v31 h30 =>
          if v31 = 0 then
            c_204_196 d (-1) h30
          else
            c_204_196 d 3 h30)
          (fun q32 h30 => tx_ q32 h30)
      else 
        c_204_196 d (-1) h2)
      (fun q4 h2 => tx_ q4 h2)
  else
    ca_ (fj_run d 164 h [(4, 377), (0, 1)]) 4
      (fun v35 h34 =>
      if v35 ≠ 0 then
      tx_ v35.toNat h34
      else none)
      (fun q36 h34 => tx_ q36 h34)
  else none := by
  rw [fj_run_eq d (by decide) h [(4, 377)] (Nat.le_of_ble_eq_true (by rw [nl_204]; rfl))]
  show gG (fj_run d) 204 0 [(0, (4, 377))] [] h = _
  exact
    have D : fk_D 204 [(0, none, .aload_n 0, 1, 0, 0, 0), (1, none, .getfield 15, 3, 149, 115, 12), (4, none, .aload_n 0, 1, 0, 0, 0), (5, none, .getfield 104, 3, 158, 115, 10), (8, none, .baload, 1, 0, 0, 0), (9, none, .iconst 2, 1, 0, 2, 0), (10, none, .if_icmp .eq 9, 3, 19, 0, 0), (13, none, .aload_n 0, 1, 0, 0, 0), (14, none, .iconst 1, 1, 0, 1, 0), (15, none, .invokevirtual 190, 3, 1, 258, 5), (18, none, .athrow, 1, 0, 0, 0)] := fq_of2 cd_204 ow_204 cl_204 rfl (pc := 0) (by decide +kernel)
    j_aldn (pc := 0) D rfl rfl rfl fun D =>
    j_gfc (pc := 1) (a := 377) D rfl rfl (by decide) rfl (s0_377 H) rfl (sf_149_377 H) fun D =>
    j_aldn (pc := 4) D rfl rfl rfl fun D =>
    j_gf (pc := 5) (a := 377) D rfl rfl (by decide) rfl (s0_377 H) rfl fun D =>
    j_al (pc := 8) (a := 378) (e := 8) D rfl rfl rfl (by decide) (s0_378 H) (s1_378 H) ⟨rfl, rfl, rfl⟩ rfl gn fun qb1 D =>
    j_ic (pc := 9) D rfl fun D =>
    j_ieq (pc := 10) D rfl (fun q =>
      have D : fk_D 204 [(19, none, .aload_n 0, 1, 0, 0, 0), (20, none, .getfield 37, 3, 154, 115, 12), (23, none, .aload_n 0, 1, 0, 0, 0), (24, none, .getfield 104, 3, 158, 115, 10), (27, none, .aaload, 1, 0, 0, 0), (28, none, .astore_n 1, 1, 0, 0, 0), (29, none, .iconst (-1), 1, 0, (-1), 0), (30, none, .istore_n 2, 1, 0, 0, 0), (31, none, .aload_n 1, 1, 0, 0, 0), (32, none, .invokevirtual 220, 3, 0, 215, 1), (35, none, .lookupswitch 161 #[(-2114201671, 135), (-1266285217, 121), (-1068502768, 65), (-977343923, 79), (-891186736, 149), (1393530710, 93), (1572055514, 107)], 65, 0, 0, 0)] := fq_of3 cd_204 ow_204 cl_204 rfl (pc := 19) (by decide +kernel)
      j_aldn (pc := 19) D rfl rfl rfl fun D =>
      j_gfc (pc := 20) (a := 377) D rfl rfl (by decide) rfl (s0_377 H) rfl (sf_154_377 H) fun D =>
      j_aldn (pc := 23) D rfl rfl rfl fun D =>
      j_gf (pc := 24) (a := 377) D rfl rfl (by decide) rfl (s0_377 H) rfl fun D =>
      j_al (pc := 27) (a := 383) (e := 12) D rfl rfl rfl (by decide) (s0_383 H) (s1_383 H) ⟨rfl, rfl, rfl⟩ rfl (gy qb1) fun q D =>
      j_astn (pc := 28) (L' := [(1, (4, h 12 383 (h 158 377 0).toNat)), (0, (4, 377))]) D rfl nl_204 rfl rfl fun D =>
      j_ic (pc := 29) D rfl fun D =>
      j_istn (pc := 30) (L' := [(2, (0, (-1))), (1, (4, h 12 383 (h 158 377 0).toNat)), (0, (4, 377))]) D rfl nl_204 rfl rfl fun D =>
      j_aldn (pc := 31) D rfl rfl rfl fun D =>
      j_ivu (pc := 32) (dd := 215) (a := []) (rest := []) H.2.1 D rfl rfl rfl rfl rfl (fun m5 v3 h2 e1 D =>
        have T := fj_run_ok _ _ _ _ _ _ H.1 e1
        have H := shp_st H T
        have N : fk_ni (v3) [] := trivial
        j_lc (pc := 35) (-2114201671) (t := 170) D N rfl (by decide +kernel) (by decide +kernel) (fun q =>
          have D : fk_D 204 [(170, none, .aload_n 1, 1, 0, 0, 0), (171, none, .ldc 246, 2, 4, 191, 0), (173, none, .invokevirtual 194, 3, 1, 216, 1), (176, none, .ifCond .eq 20, 3, 196, 0, 0), (179, none, .iconst 5, 1, 0, 5, 0), (180, none, .istore_n 2, 1, 0, 0, 0), (181, none, .goto 15, 3, 196, 0, 0)] := fq_of2 cd_204 ow_204 cl_204 rfl (pc := 170) (by decide +kernel)
          j_aldn (pc := 170) D rfl rfl rfl fun D =>
          j_ldc (pc := 171) D rfl fun D =>
          j_ivu (pc := 173) (dd := 216) (a := [(4, 191)]) (rest := []) H.2.1 D rfl rfl rfl rfl rfl (fun m9 v7 h6 e1 D =>
            have T := fj_run_ok _ _ _ _ _ _ H.1 e1
            have H := shp_st H T
            j_ifeq (pc := 176) D rfl (fun q =>
              fk_jump cut_204_196 rfl rfl) (fun q D =>
              j_ic (pc := 179) D rfl fun D =>
              j_istn (pc := 180) (L' := [(2, (0, 5)), (1, (4, h 12 383 (h 158 377 0).toNat)), (0, (4, 377))]) D rfl nl_204 rfl rfl fun D =>
              j_goto (pc := 181) D rfl <|
              fk_jump cut_204_196 rfl rfl)) (fun m9 q8 h6 e1 =>
            j_tx (hx_204 _))) (fun N =>
          j_lc (-1266285217) (t := 156) D N rfl (by decide +kernel) (by decide +kernel) (fun q =>
            have D : fk_D 204 [(156, none, .aload_n 1, 1, 0, 0, 0), (157, none, .ldc 244, 2, 4, 189, 0), (159, none, .invokevirtual 194, 3, 1, 216, 1), (162, none, .ifCond .eq 34, 3, 196, 0, 0), (165, none, .iconst 4, 1, 0, 4, 0), (166, none, .istore_n 2, 1, 0, 0, 0), (167, none, .goto 29, 3, 196, 0, 0)] := fq_of2 cd_204 ow_204 cl_204 rfl (pc := 156) (by decide +kernel)
            j_aldn (pc := 156) D rfl rfl rfl fun D =>
            j_ldc (pc := 157) D rfl fun D =>
            j_ivu (pc := 159) (dd := 216) (a := [(4, 189)]) (rest := []) H.2.1 D rfl rfl rfl rfl rfl (fun m13 v11 h10 e1 D =>
              have T := fj_run_ok _ _ _ _ _ _ H.1 e1
              have H := shp_st H T
              j_ifeq (pc := 162) D rfl (fun q =>
                fk_jump cut_204_196 rfl rfl) (fun q D =>
                j_ic (pc := 165) D rfl fun D =>
                j_istn (pc := 166) (L' := [(2, (0, 4)), (1, (4, h 12 383 (h 158 377 0).toNat)), (0, (4, 377))]) D rfl nl_204 rfl rfl fun D =>
                j_goto (pc := 167) D rfl <|
                fk_jump cut_204_196 rfl rfl)) (fun m13 q12 h10 e1 =>
              j_tx (hx_204 _))) (fun N =>
            j_lc (-1068502768) (t := 100) D N rfl (by decide +kernel) (by decide +kernel) (fun q =>
              have D : fk_D 204 [(100, none, .aload_n 1, 1, 0, 0, 0), (101, none, .ldc 236, 2, 4, 181, 0), (103, none, .invokevirtual 194, 3, 1, 216, 1), (106, none, .ifCond .eq 90, 3, 196, 0, 0), (109, none, .iconst 0, 1, 0, 0, 0), (110, none, .istore_n 2, 1, 0, 0, 0), (111, none, .goto 85, 3, 196, 0, 0)] := fq_of2 cd_204 ow_204 cl_204 rfl (pc := 100) (by decide +kernel)
              j_aldn (pc := 100) D rfl rfl rfl fun D =>
              j_ldc (pc := 101) D rfl fun D =>
              j_ivu (pc := 103) (dd := 216) (a := [(4, 181)]) (rest := []) H.2.1 D rfl rfl rfl rfl rfl (fun m17 v15 h14 e1 D =>
                have T := fj_run_ok _ _ _ _ _ _ H.1 e1
                have H := shp_st H T
                j_ifeq (pc := 106) D rfl (fun q =>
                  fk_jump cut_204_196 rfl rfl) (fun q D =>
                  j_ic (pc := 109) D rfl fun D =>
                  j_istn (pc := 110) (L' := [(2, (0, 0)), (1, (4, h 12 383 (h 158 377 0).toNat)), (0, (4, 377))]) D rfl nl_204 rfl rfl fun D =>
                  j_goto (pc := 111) D rfl <|
                  fk_jump cut_204_196 rfl rfl)) (fun m17 q16 h14 e1 =>
                j_tx (hx_204 _))) (fun N =>
              j_lc (-977343923) (t := 114) D N rfl (by decide +kernel) (by decide +kernel) (fun q =>
                have D : fk_D 204 [(114, none, .aload_n 1, 1, 0, 0, 0), (115, none, .ldc 238, 2, 4, 183, 0), (117, none, .invokevirtual 194, 3, 1, 216, 1), (120, none, .ifCond .eq 76, 3, 196, 0, 0), (123, none, .iconst 1, 1, 0, 1, 0), (124, none, .istore_n 2, 1, 0, 0, 0), (125, none, .goto 71, 3, 196, 0, 0)] := fq_of2 cd_204 ow_204 cl_204 rfl (pc := 114) (by decide +kernel)
                j_aldn (pc := 114) D rfl rfl rfl fun D =>
                j_ldc (pc := 115) D rfl fun D =>
                j_ivu (pc := 117) (dd := 216) (a := [(4, 183)]) (rest := []) H.2.1 D rfl rfl rfl rfl rfl (fun m21 v19 h18 e1 D =>
                  have T := fj_run_ok _ _ _ _ _ _ H.1 e1
                  have H := shp_st H T
                  j_ifeq (pc := 120) D rfl (fun q =>
                    fk_jump cut_204_196 rfl rfl) (fun q D =>
                    j_ic (pc := 123) D rfl fun D =>
                    j_istn (pc := 124) (L' := [(2, (0, 1)), (1, (4, h 12 383 (h 158 377 0).toNat)), (0, (4, 377))]) D rfl nl_204 rfl rfl fun D =>
                    j_goto (pc := 125) D rfl <|
                    fk_jump cut_204_196 rfl rfl)) (fun m21 q20 h18 e1 =>
                  j_tx (hx_204 _))) (fun N =>
                j_lc (-891186736) (t := 184) D N rfl (by decide +kernel) (by decide +kernel) (fun q =>
                  have D : fk_D 204 [(184, none, .aload_n 1, 1, 0, 0, 0), (185, none, .ldc 248, 2, 4, 193, 0), (187, none, .invokevirtual 194, 3, 1, 216, 1), (190, none, .ifCond .eq 6, 3, 196, 0, 0), (193, none, .bipush 6, 2, 0, 6, 0), (195, none, .istore_n 2, 1, 0, 0, 0)] := fq_of2 cd_204 ow_204 cl_204 rfl (pc := 184) (by decide +kernel)
                  j_aldn (pc := 184) D rfl rfl rfl fun D =>
                  j_ldc (pc := 185) D rfl fun D =>
                  j_ivu (pc := 187) (dd := 216) (a := [(4, 193)]) (rest := []) H.2.1 D rfl rfl rfl rfl rfl (fun m25 v23 h22 e1 D =>
                    have T := fj_run_ok _ _ _ _ _ _ H.1 e1
                    have H := shp_st H T
                    j_ifeq (pc := 190) D rfl (fun q =>
                      fk_jump cut_204_196 rfl rfl) (fun q D =>
                      j_bp (pc := 193) D rfl fun D =>
                      j_istn (pc := 195) (L' := [(2, (0, 6)), (1, (4, h 12 383 (h 158 377 0).toNat)), (0, (4, 377))]) D rfl nl_204 rfl rfl fun D =>
                      fk_jump cut_204_196 rfl rfl)) (fun m25 q24 h22 e1 =>
                    j_tx (hx_204 _))) (fun N =>
                  j_lc 1393530710 (t := 128) D N rfl (by decide +kernel) (by decide +kernel) (fun q =>
                    have D : fk_D 204 [(128, none, .aload_n 1, 1, 0, 0, 0), (129, none, .ldc 240, 2, 4, 185, 0), (131, none, .invokevirtual 194, 3, 1, 216, 1), (134, none, .ifCond .eq 62, 3, 196, 0, 0), (137, none, .iconst 2, 1, 0, 2, 0), (138, none, .istore_n 2, 1, 0, 0, 0), (139, none, .goto 57, 3, 196, 0, 0)] := fq_of2 cd_204 ow_204 cl_204 rfl (pc := 128) (by decide +kernel)
                    j_aldn (pc := 128) D rfl rfl rfl fun D =>
                    j_ldc (pc := 129) D rfl fun D =>
                    j_ivu (pc := 131) (dd := 216) (a := [(4, 185)]) (rest := []) H.2.1 D rfl rfl rfl rfl rfl (fun m29 v27 h26 e1 D =>
                      have T := fj_run_ok _ _ _ _ _ _ H.1 e1
                      have H := shp_st H T
                      j_ifeq (pc := 134) D rfl (fun q =>
                        fk_jump cut_204_196 rfl rfl) (fun q D =>
                        j_ic (pc := 137) D rfl fun D =>
                        j_istn (pc := 138) (L' := [(2, (0, 2)), (1, (4, h 12 383 (h 158 377 0).toNat)), (0, (4, 377))]) D rfl nl_204 rfl rfl fun D =>
                        j_goto (pc := 139) D rfl <|
                        fk_jump cut_204_196 rfl rfl)) (fun m29 q28 h26 e1 =>
                      j_tx (hx_204 _))) (fun N =>
                    j_lc 1572055514 (t := 142) D N rfl (by decide +kernel) (by decide +kernel) (fun q =>
                      have D : fk_D 204 [(142, none, .aload_n 1, 1, 0, 0, 0), (143, none, .ldc 242, 2, 4, 187, 0), (145, none, .invokevirtual 194, 3, 1, 216, 1), (148, none, .ifCond .eq 48, 3, 196, 0, 0), (151, none, .iconst 3, 1, 0, 3, 0), (152, none, .istore_n 2, 1, 0, 0, 0), (153, none, .goto 43, 3, 196, 0, 0)] := fq_of2 cd_204 ow_204 cl_204 rfl (pc := 142) (by decide +kernel)
                      j_aldn (pc := 142) D rfl rfl rfl fun D =>
                      j_ldc (pc := 143) D rfl fun D =>
                      j_ivu (pc := 145) (dd := 216) (a := [(4, 187)]) (rest := []) H.2.1 D rfl rfl rfl rfl rfl (fun m33 v31 h30 e1 D =>
                        have T := fj_run_ok _ _ _ _ _ _ H.1 e1
                        have H := shp_st H T
                        j_ifeq (pc := 148) D rfl (fun q =>
                          fk_jump cut_204_196 rfl rfl) (fun q D =>
                          j_ic (pc := 151) D rfl fun D =>
                          j_istn (pc := 152) (L' := [(2, (0, 3)), (1, (4, h 12 383 (h 158 377 0).toNat)), (0, (4, 377))]) D rfl nl_204 rfl rfl fun D =>
                          j_goto (pc := 153) D rfl <|
                          fk_jump cut_204_196 rfl rfl)) (fun m33 q32 h30 e1 =>
                        j_tx (hx_204 _))) (fun N =>
                      j_ldf (t := 196) D N rfl (by decide +kernel) (by decide +kernel) (by decide +kernel) <|
                      fk_jump cut_204_196 rfl rfl)))))))) (fun m5 q4 h2 e1 =>
        j_tx (hx_204 _))) (fun q D =>
      j_aldn (pc := 13) D rfl rfl rfl fun D =>
      j_ic (pc := 14) D rfl fun D =>
      j_iv (pc := 15) (m := 164) (dd := 258) (a := [(0, 1)]) (rest := []) D rfl rfl rfl rfl rfl (by decide) (s0_377 H) (by decide +kernel) (fun v35 h34 e1 D =>
        have T := fj_run_ok _ _ _ _ _ _ H.1 e1
        have H := shp_st H T
        j_at (pc := 18) D gn <|
        j_tx (hx_204 _)) (fun q36 h34 e1 =>
        j_tx (hx_204 _)))
/-! 205 StatuteHouse$Reader.needWord(Ljava/lang/String;)V -/
theorem cd_205 : fi_code 205 = prog_53_method_17_code := rfl
theorem hx_205 : ∀ pc, fi_hat 205 pc = none := fun pc => by unfold fi_hat; rw [show fi_hh 205 = [] from rfl]; rfl
theorem rt_205 : fi_ret 205 = none := rfl
theorem nl_205 : fi_nl 205 = 2 := rfl
theorem ow_205 : fi_ow 205 = 15 := rfl
theorem cl_205 : fj_cutT.getD 205 [] = [] := rfl
theorem m_205 (d : Nat) (x1 : Int) {h : fi_H} (H : Shp h) : fj_run (d + 1) 205 h [(4, 377), (4, x1)] =
  ca_ (fj_run d 162 h [(4, 377), (4, x1)]) 0
    (fun v2 h1 =>
    if v2 = 0 then
      ca_ (fj_run d 164 h1 [(4, 377), (0, 1)]) 4
        (fun v5 h4 =>
        if v5 ≠ 0 then
        tx_ v5.toNat h4
        else none)
        (fun q6 h4 => tx_ q6 h4)
    else
      cv_ (fj_run d 166 h1 [(4, 377)])
        (fun h7 =>
        some (.inl none, h7))
        (fun q9 h7 => tx_ q9 h7))
    (fun q3 h1 => tx_ q3 h1) := by
  rw [fj_run_eq d (by decide) h [(4, 377), (4, x1)] (Nat.le_of_ble_eq_true (by rw [nl_205]; rfl))]
  show gG (fj_run d) 205 0 [(0, (4, 377)), (1, (4, x1))] [] h = _
  exact
    have D : fk_D 205 [(0, none, .aload_n 0, 1, 0, 0, 0), (1, none, .aload_n 1, 1, 0, 0, 0), (2, none, .invokevirtual 209, 3, 1, 262, 1), (5, none, .ifCond .ne 9, 3, 14, 0, 0), (8, none, .aload_n 0, 1, 0, 0, 0), (9, none, .iconst 1, 1, 0, 1, 0), (10, none, .invokevirtual 190, 3, 1, 258, 5), (13, none, .athrow, 1, 0, 0, 0)] := fq_of2 cd_205 ow_205 cl_205 rfl (pc := 0) (by decide +kernel)
    j_aldn (pc := 0) D rfl rfl rfl fun D =>
    j_aldn (pc := 1) D rfl rfl rfl fun D =>
    j_iv (pc := 2) (m := 162) (dd := 262) (a := [(4, x1)]) (rest := []) D rfl rfl rfl rfl rfl (by decide) (s0_377 H) (by decide +kernel) (fun v2 h1 e1 D =>
      have T := fj_run_ok _ _ _ _ _ _ H.1 e1
      have H := shp_st H T
      j_ifne (pc := 5) D rfl (fun q D =>
        j_aldn (pc := 8) D rfl rfl rfl fun D =>
        j_ic (pc := 9) D rfl fun D =>
        j_iv (pc := 10) (m := 164) (dd := 258) (a := [(0, 1)]) (rest := []) D rfl rfl rfl rfl rfl (by decide) (s0_377 H) (by decide +kernel) (fun v5 h4 e1 D =>
          have T := fj_run_ok _ _ _ _ _ _ H.1 e1
          have H := shp_st H T
          j_at (pc := 13) D gn <|
          j_tx (hx_205 _)) (fun q6 h4 e1 =>
          j_tx (hx_205 _))) (fun q =>
        have D : fk_D 205 [(14, none, .aload_n 0, 1, 0, 0, 0), (15, none, .invokevirtual 206, 3, 0, 261, 0), (18, none, .return_, 1, 0, 0, 0)] := fq_of2 cd_205 ow_205 cl_205 rfl (pc := 14) (by decide +kernel)
        j_aldn (pc := 14) D rfl rfl rfl fun D =>
        j_ivv (pc := 15) (m := 166) (dd := 261) (a := []) (rest := []) D rfl rfl rfl rfl rfl (by decide) (s0_377 H) (by decide +kernel) (fun h7 e1 D =>
          have T := fj_run_ok _ _ _ _ _ _ H.1 e1
          have H := shp_st H T
          j_vret D rt_205) (fun q9 h7 e1 =>
          j_tx (hx_205 _)))) (fun q3 h1 e1 =>
      j_tx (hx_205 _))
/-! 206 StatuteHouse$WeekDay.<init>(ZII)V -/
theorem cd_206 : fi_code 206 = prog_66_method_1_code := rfl
theorem hx_206 : ∀ pc, fi_hat 206 pc = none := fun pc => by unfold fi_hat; rw [show fi_hh 206 = [] from rfl]; rfl
theorem rt_206 : fi_ret 206 = none := rfl
theorem nl_206 : fi_nl 206 = 4 := rfl
theorem ow_206 : fi_ow 206 = 27 := rfl
theorem cl_206 : fj_cutT.getD 206 [] = [] := rfl
theorem m_206 (d : Nat) (x0 x1 x2 x3 : Int) {h : fi_H} (H : Shp h) (hk : h 0 x0.toNat 0 = 127) : fj_run (d + 1) 206 h [(4, x0), (0, x1), (0, x2), (0, x3)] =
  cv_ (fj_run d 1009 h [(4, x0)])
    (fun h1 =>
    if 302 < x0 then
    if fi_rg 4 x1 = true then
    if h1 334 x0.toNat 0 = 0 then
    lt_ (fi_upd h1 334 x0.toNat 0 x1) fun h4 =>
    if 302 < x0 then
    if h4 335 x0.toNat 0 = 0 then
    lt_ (fi_upd h4 335 x0.toNat 0 x2) fun h5 =>
    if 302 < x0 then
    if h5 336 x0.toNat 0 = 0 then
    lt_ (fi_upd h5 336 x0.toNat 0 x3) fun h6 =>
    some (.inl none, h6)
    else none
    else none
    else none
    else none
    else none
    else none
    else none)
    (fun q3 h1 => tx_ q3 h1) := by
  rw [fj_run_eq d (by decide) h [(4, x0), (0, x1), (0, x2), (0, x3)] (Nat.le_of_ble_eq_true (by rw [nl_206]; rfl))]
  show gG (fj_run d) 206 0 [(0, (4, x0)), (1, (0, x1)), (2, (0, x2)), (3, (0, x3))] [] h = _
  exact
    have D : fk_D 206 [(0, none, .aload_n 0, 1, 0, 0, 0), (1, none, .invokespecial 1, 3, 0, 1009, 0), (4, none, .aload_n 0, 1, 0, 0, 0), (5, none, .iload_n 1, 1, 0, 0, 0), (6, none, .putfield 7, 3, 334, 127, 104), (9, none, .aload_n 0, 1, 0, 0, 0), (10, none, .iload_n 2, 1, 0, 0, 0), (11, none, .putfield 13, 3, 335, 127, 110), (14, none, .aload_n 0, 1, 0, 0, 0), (15, none, .iload_n 3, 1, 0, 0, 0), (16, none, .putfield 17, 3, 336, 127, 110), (19, none, .return_, 1, 0, 0, 0)] := fq_of2 cd_206 ow_206 cl_206 rfl (pc := 0) (by decide +kernel)
    j_aldn (pc := 0) D rfl rfl rfl fun D =>
    j_spv (pc := 1) (m := 1009) (a := []) (rest := []) D rfl rfl rfl rfl (by rw [show h 0 x0.toNat 0 = 127 from hk]; decide) (nz_cls H.2.1 hk (by decide)) (fun h1 e1 D =>
      have T := fj_run_ok _ _ _ _ _ _ H.1 e1
      have hk := cls_st H.1 T.2 hk (by decide)
      have H := shp_st H T
      j_aldn (pc := 4) D rfl rfl rfl fun D =>
      j_ildn (pc := 5) D rfl rfl rfl fun D =>
      j_pfF (pc := 6) (a := x0.toNat) (ty := 4) D rfl rfl rfl hk ⟨rfl, rfl⟩ rfl gn gn gn fun h4 eh4 S D =>
      have T := fj_hs_ok H.1 S
      have hk := cls_st H.1 T.2 hk (by decide)
      have H := shp_st H T
      j_aldn (pc := 9) D rfl rfl rfl fun D =>
      j_ildn (pc := 10) D rfl rfl rfl fun D =>
      j_pfF (pc := 11) (a := x0.toNat) (ty := 10) D rfl rfl rfl hk ⟨rfl, rfl⟩ rfl gn (gy rfl) gn fun h5 eh5 S D =>
      have T := fj_hs_ok H.1 S
      have hk := cls_st H.1 T.2 hk (by decide)
      have H := shp_st H T
      j_aldn (pc := 14) D rfl rfl rfl fun D =>
      j_ildn (pc := 15) D rfl rfl rfl fun D =>
      j_pfF (pc := 16) (a := x0.toNat) (ty := 10) D rfl rfl rfl hk ⟨rfl, rfl⟩ rfl gn (gy rfl) gn fun h6 eh6 S D =>
      have T := fj_hs_ok H.1 S
      have hk := cls_st H.1 T.2 hk (by decide)
      have H := shp_st H T
      j_vret D rt_206) (fun q3 h1 e1 =>
      j_tx (hx_206 _))
/-! 207 StatuteHouse.facts()I -/
theorem cd_207 : fi_code 207 = prog_1_method_61_code := rfl
theorem rt_207 : fi_ret 207 = some .int := rfl
theorem nl_207 : fi_nl 207 = 4 := rfl
theorem ow_207 : fi_ow 207 = 0 := rfl
theorem cl_207 : fj_cutT.getD 207 [] = [(17, [0]), (40, [0, 1]), (115, [0, 1, 2, 3]), (165, [0, 1])] := rfl
theorem cut_207_17 : fj_cut 207 17 = some [0] := by decide +kernel
noncomputable def c_207_17 (d : Nat) (s0 : Int) (h : fi_H) : fk_R := gG (fj_run d) 207 17 [(0, (4, 303))] [(4, s0)] h
theorem cut_207_40 : fj_cut 207 40 = some [0, 1] := by decide +kernel
noncomputable def c_207_40 (d : Nat) (x1 : Int) (h : fi_H) : fk_R := gG (fj_run d) 207 40 [(0, (4, 303)), (1, (0, x1))] [] h
theorem cut_207_115 : fj_cut 207 115 = some [0, 1, 2, 3] := by decide +kernel
noncomputable def c_207_115 (d : Nat) (x1 x2 x3 : Int) (h : fi_H) : fk_R := gG (fj_run d) 207 115 [(0, (4, 303)), (1, (0, x1)), (2, (0, x2)), (3, (0, x3))] [] h
theorem cut_207_165 : fj_cut 207 165 = some [0, 1] := by decide +kernel
noncomputable def c_207_165 (d : Nat) (x1 : Int) (h : fi_H) : fk_R := gG (fj_run d) 207 165 [(0, (4, 303)), (1, (0, x1))] [] h
theorem e_207_17 (d : Nat) (s0 : Int) {h : fi_H} (H : Shp h) : c_207_17 d s0 h =
  if h 0 s0.toNat 0 = 128 then
  cv_ (fj_run d 196 h [(4, 303), (0, h 107 s0.toNat 0), (0, h 108 s0.toNat 0)])
    (fun h2 =>
    some (.inl (some (0, (-1))), h2))
    (fun q4 h2 => tx_ q4 h2)
  else none := by
  unfold c_207_17
  exact
    have D : fk_D 207 [(17, some [0], .astore_n 1, 1, 0, 0, 0), (18, none, .aload_n 0, 1, 0, 0, 0), (19, none, .aload_n 1, 1, 0, 0, 0), (20, none, .getfield 7, 3, 107, (-128), 10), (23, none, .aload_n 1, 1, 0, 0, 0), (24, none, .getfield 13, 3, 108, 128, 10), (27, none, .invokevirtual 793, 3, 2, 161, 0), (30, none, .iconst (-1), 1, 0, (-1), 0), (31, none, .ireturn, 1, 0, 0, 0)] := fq_of2 cd_207 ow_207 cl_207 rfl (pc := 17) (by decide +kernel)
    j_astn (pc := 17) (L' := [(1, (4, s0)), (0, (4, 303))]) D rfl nl_207 rfl rfl fun D =>
    j_aldn (pc := 18) D rfl rfl rfl fun D =>
    j_aldn (pc := 19) D rfl rfl rfl fun D =>
    j_gfo (pc := 20) H.2.1 D rfl rfl rfl rfl fun kc1 D =>
    j_aldn (pc := 23) D rfl rfl rfl fun D =>
    j_gf (pc := 24) (a := s0.toNat) D rfl rfl (nz_cls H.2.1 kc1 (by decide)) rfl kc1 rfl fun D =>
    j_ivv (pc := 27) (m := 196) (dd := 161) (a := [(0, h 107 s0.toNat 0), (0, h 108 s0.toNat 0)]) (rest := []) D rfl rfl rfl rfl rfl (by decide) (s0_303 H) (by decide +kernel) (fun h2 e1 D =>
      have T := fj_run_ok _ _ _ _ _ _ H.1 e1
      have kc1 := cls_st H.1 T.2 kc1 (by decide)
      have H := shp_st H T
      j_ic (pc := 30) D rfl fun D =>
      j_iret D rt_207) (fun q4 h2 e1 =>
      j_tx (by decide +kernel))
theorem e_207_40 (d : Nat) (x1 : Int) {h : fi_H} (H : Shp h) : c_207_40 d x1 h =
  if x1 < h 178 377 0 then
    if 0 ≤ x1 ∧ x1 < 500 then
    ca_ (fj_run d 214 h [(4, 322), (0, h 8 388 x1.toNat), (0, h 8 389 x1.toNat), (0, h 5 392 x1.toNat), (0, h 5 393 x1.toNat)]) 0
      (fun v3 h2 =>
      if 0 ≤ v3 ∧ v3 < 500 then
      if fi_rg 4 (h2 4 391 x1.toNat) = true then
      lt_ (fi_upd h2 4 334 v3.toNat (h2 4 391 x1.toNat)) fun h5 =>
      c_207_115 d x1 (h 8 389 x1.toNat) v3 h5
      else none
      else none)
      (fun q4 h2 => tx_ q4 h2)
    else none
  else
    some (.inl (some (0, h 178 377 0)), h) := by
  unfold c_207_40
  exact
    have D : fk_D 207 [(40, some [0, 1], .iload_n 1, 1, 0, 0, 0), (41, none, .aload_n 0, 1, 0, 0, 0), (42, none, .getfield 680, 3, 269, 100, 12), (45, none, .getfield 804, 3, 178, 115, 10), (48, none, .if_icmp .ge 123, 3, 171, 0, 0), (51, none, .aload_n 0, 1, 0, 0, 0), (52, none, .getfield 680, 3, 269, 100, 12), (55, none, .getfield 807, 3, 171, 115, 12), (58, none, .iload_n 1, 1, 0, 0, 0), (59, none, .baload, 1, 0, 0, 0), (60, none, .istore_n 2, 1, 0, 0, 0), (61, none, .aload_n 0, 1, 0, 0, 0), (62, none, .getfield 234, 3, 218, 100, 12), (65, none, .aload_n 0, 1, 0, 0, 0), (66, none, .getfield 680, 3, 269, 100, 12), (69, none, .getfield 810, 3, 170, 115, 12), (72, none, .iload_n 1, 1, 0, 0, 0), (73, none, .baload, 1, 0, 0, 0), (74, none, .iload_n 2, 1, 0, 0, 0), (75, none, .aload_n 0, 1, 0, 0, 0)] := fq_of2 cd_207 ow_207 cl_207 rfl (pc := 40) (by decide +kernel)
    j_ildn (pc := 40) D rfl rfl rfl fun D =>
    j_aldn (pc := 41) D rfl rfl rfl fun D =>
    j_gfc (pc := 42) (a := 303) D rfl rfl (by decide) rfl (s0_303 H) rfl (sf_269_303 H) fun D =>
    j_gf (pc := 45) (a := 377) D rfl rfl (by decide) rfl (s0_377 H) rfl fun D =>
    j_ige (pc := 48) D rfl (fun q D =>
      j_aldn (pc := 51) D rfl rfl rfl fun D =>
      j_gfc (pc := 52) (a := 303) D rfl rfl (by decide) rfl (s0_303 H) rfl (sf_269_303 H) fun D =>
      j_gfc (pc := 55) (a := 377) D rfl rfl (by decide) rfl (s0_377 H) rfl (sf_171_377 H) fun D =>
      j_ildn (pc := 58) D rfl rfl rfl fun D =>
      j_al (pc := 59) (a := 389) (e := 8) D rfl rfl rfl (by decide) (s0_389 H) (s1_389 H) ⟨rfl, rfl, rfl⟩ rfl gn fun qb1 D =>
      j_istn (pc := 60) (L' := [(2, (0, h 8 389 x1.toNat)), (0, (4, 303)), (1, (0, x1))]) D rfl nl_207 rfl rfl fun D =>
      j_aldn (pc := 61) D rfl rfl rfl fun D =>
      j_gfc (pc := 62) (a := 303) D rfl rfl (by decide) rfl (s0_303 H) rfl (sf_218_303 H) fun D =>
      j_aldn (pc := 65) D rfl rfl rfl fun D =>
      j_gfc (pc := 66) (a := 303) D rfl rfl (by decide) rfl (s0_303 H) rfl (sf_269_303 H) fun D =>
      j_gfc (pc := 69) (a := 377) D rfl rfl (by decide) rfl (s0_377 H) rfl (sf_170_377 H) fun D =>
      j_ildn (pc := 72) D rfl rfl rfl fun D =>
      j_al (pc := 73) (a := 388) (e := 8) D rfl rfl rfl (by decide) (s0_388 H) (s1_388 H) ⟨rfl, rfl, rfl⟩ rfl (gy qb1) fun q D =>
      j_ildn (pc := 74) D rfl rfl rfl fun D =>
      j_aldn (pc := 75) D rfl rfl rfl fun D =>
      have D : fk_D 207 [(76, none, .getfield 680, 3, 269, 100, 12), (79, none, .getfield 813, 3, 174, 115, 12), (82, none, .iload_n 1, 1, 0, 0, 0), (83, none, .caload, 1, 0, 0, 0), (84, none, .aload_n 0, 1, 0, 0, 0), (85, none, .getfield 680, 3, 269, 100, 12), (88, none, .getfield 816, 3, 175, 115, 12), (91, none, .iload_n 1, 1, 0, 0, 0), (92, none, .caload, 1, 0, 0, 0), (93, none, .invokevirtual 819, 3, 4, 164, 1), (96, none, .istore_n 3, 1, 0, 0, 0), (97, none, .aload_n 0, 1, 0, 0, 0), (98, none, .getfield 234, 3, 218, 100, 12), (101, none, .getfield 823, 3, 125, 116, 12), (104, none, .iload_n 3, 1, 0, 0, 0), (105, none, .aload_n 0, 1, 0, 0, 0), (106, none, .getfield 680, 3, 269, 100, 12), (109, none, .getfield 825, 3, 173, 115, 12), (112, none, .iload_n 1, 1, 0, 0, 0), (113, none, .baload, 1, 0, 0, 0)] := fq_of2 cd_207 ow_207 cl_207 rfl (pc := 76) (by decide +kernel)
      j_gfc (pc := 76) (a := 303) D rfl rfl (by decide) rfl (s0_303 H) rfl (sf_269_303 H) fun D =>
      j_gfc (pc := 79) (a := 377) D rfl rfl (by decide) rfl (s0_377 H) rfl (sf_174_377 H) fun D =>
      j_ildn (pc := 82) D rfl rfl rfl fun D =>
      j_al (pc := 83) (a := 392) (e := 5) D rfl rfl rfl (by decide) (s0_392 H) (s1_392 H) ⟨rfl, rfl, rfl⟩ rfl (gy qb1) fun q D =>
      j_aldn (pc := 84) D rfl rfl rfl fun D =>
      j_gfc (pc := 85) (a := 303) D rfl rfl (by decide) rfl (s0_303 H) rfl (sf_269_303 H) fun D =>
      j_gfc (pc := 88) (a := 377) D rfl rfl (by decide) rfl (s0_377 H) rfl (sf_175_377 H) fun D =>
      j_ildn (pc := 91) D rfl rfl rfl fun D =>
      j_al (pc := 92) (a := 393) (e := 5) D rfl rfl rfl (by decide) (s0_393 H) (s1_393 H) ⟨rfl, rfl, rfl⟩ rfl (gy qb1) fun q D =>
      j_iv (pc := 93) (m := 214) (dd := 164) (a := [(0, h 8 388 x1.toNat), (0, h 8 389 x1.toNat), (0, h 5 392 x1.toNat), (0, h 5 393 x1.toNat)]) (rest := []) D rfl rfl rfl rfl rfl (by decide) (s0_322 H) (by decide +kernel) (fun v3 h2 e1 D =>
        have T := fj_run_ok _ _ _ _ _ _ H.1 e1
        have H := shp_st H T
        j_istn (pc := 96) (L' := [(3, (0, v3)), (2, (0, h 8 389 x1.toNat)), (0, (4, 303)), (1, (0, x1))]) D rfl nl_207 rfl rfl fun D =>
        j_aldn (pc := 97) D rfl rfl rfl fun D =>
        j_gfc (pc := 98) (a := 303) D rfl rfl (by decide) rfl (s0_303 H) rfl (sf_218_303 H) fun D =>
        j_gfc (pc := 101) (a := 322) D rfl rfl (by decide) rfl (s0_322 H) rfl (sf_125_322 H) fun D =>
        j_ildn (pc := 104) D rfl rfl rfl fun D =>
        j_aldn (pc := 105) D rfl rfl rfl fun D =>
        j_gfc (pc := 106) (a := 303) D rfl rfl (by decide) rfl (s0_303 H) rfl (sf_269_303 H) fun D =>
        j_gfc (pc := 109) (a := 377) D rfl rfl (by decide) rfl (s0_377 H) rfl (sf_173_377 H) fun D =>
        j_ildn (pc := 112) D rfl rfl rfl fun D =>
        j_al (pc := 113) (a := 391) (e := 4) D rfl rfl rfl (by decide) (s0_391 H) (s1_391 H) ⟨rfl, rfl, rfl⟩ rfl (gy qb1) fun q D =>
        have D : fk_D 207 [(114, none, .bastore, 1, 0, 0, 0)] := fq_of2 cd_207 ow_207 cl_207 rfl (pc := 114) (by decide +kernel)
        j_as (pc := 114) (a := 334) (e := 4) D rfl ⟨rfl, rfl⟩ rfl (by decide) (s0_334 H) (s1_334 H) ⟨rfl, rfl, rfl⟩ rfl gn gn fun h5 eh5 S qb6 D =>
        have T := fj_hs_ok H.1 S
        have H := shp_st H T
        fk_jump cut_207_115 rfl rfl) (fun q4 h2 e1 =>
        j_tx (by decide +kernel))) (fun q =>
      have D : fk_D 207 [(171, none, .aload_n 0, 1, 0, 0, 0), (172, none, .getfield 680, 3, 269, 100, 12), (175, none, .getfield 804, 3, 178, 115, 10), (178, none, .ireturn, 1, 0, 0, 0)] := fq_of2 cd_207 ow_207 cl_207 rfl (pc := 171) (by decide +kernel)
      j_aldn (pc := 171) D rfl rfl rfl fun D =>
      j_gfc (pc := 172) (a := 303) D rfl rfl (by decide) rfl (s0_303 H) rfl (sf_269_303 H) fun D =>
      j_gf (pc := 175) (a := 377) D rfl rfl (by decide) rfl (s0_377 H) rfl fun D =>
      j_iret D rt_207)
theorem e_207_115 (d : Nat) (x1 x2 x3 : Int) {h : fi_H} (H : Shp h) : c_207_115 d x1 x2 x3 h =
  if 0 ≤ x1 ∧ x1 < 500 then
  if h 4 391 x1.toNat = 0 then
    c_207_165 d x1 h
  else
    if 0 ≤ x2 ∧ x2 < 40 then
    if h 0 (h 12 320 x2.toNat).toNat 0 = 124 then
    cv_ (fj_run d 215 h [(4, 323), (0, x3), (4, h 324 (h 12 320 x2.toNat).toNat 0), (1, h 11 394 x1.toNat), (1, h 11 395 x1.toNat)])
      (fun h4 =>
      c_207_165 d x1 h4)
      (fun q6 h4 => tx_ q6 h4)
    else none
    else none
  else none := by
  unfold c_207_115
  exact
    have D : fk_D 207 [(115, some [0, 1, 2, 3], .aload_n 0, 1, 0, 0, 0), (116, none, .getfield 680, 3, 269, 100, 12), (119, none, .getfield 825, 3, 173, 115, 12), (122, none, .iload_n 1, 1, 0, 0, 0), (123, none, .baload, 1, 0, 0, 0), (124, none, .ifCond .eq 41, 3, 165, 0, 0), (127, none, .aload_n 0, 1, 0, 0, 0), (128, none, .getfield 234, 3, 218, 100, 12), (131, none, .getfield 246, 3, 124, 116, 12), (134, none, .iload_n 3, 1, 0, 0, 0), (135, none, .aload_n 0, 1, 0, 0, 0), (136, none, .getfield 255, 3, 214, 100, 12), (139, none, .iload_n 2, 1, 0, 0, 0), (140, none, .aaload, 1, 0, 0, 0), (141, none, .getfield 283, 3, 324, (-124), 12), (144, none, .aload_n 0, 1, 0, 0, 0), (145, none, .getfield 680, 3, 269, 100, 12), (148, none, .getfield 828, 3, 176, 115, 12), (151, none, .iload_n 1, 1, 0, 0, 0), (152, none, .laload, 1, 0, 0, 0)] := fq_of2 cd_207 ow_207 cl_207 rfl (pc := 115) (by decide +kernel)
    j_aldn (pc := 115) D rfl rfl rfl fun D =>
    j_gfc (pc := 116) (a := 303) D rfl rfl (by decide) rfl (s0_303 H) rfl (sf_269_303 H) fun D =>
    j_gfc (pc := 119) (a := 377) D rfl rfl (by decide) rfl (s0_377 H) rfl (sf_173_377 H) fun D =>
    j_ildn (pc := 122) D rfl rfl rfl fun D =>
    j_al (pc := 123) (a := 391) (e := 4) D rfl rfl rfl (by decide) (s0_391 H) (s1_391 H) ⟨rfl, rfl, rfl⟩ rfl gn fun qb1 D =>
    j_ifeq (pc := 124) D rfl (fun q =>
      fk_jump cut_207_165 rfl rfl) (fun q D =>
      j_aldn (pc := 127) D rfl rfl rfl fun D =>
      j_gfc (pc := 128) (a := 303) D rfl rfl (by decide) rfl (s0_303 H) rfl (sf_218_303 H) fun D =>
      j_gfc (pc := 131) (a := 322) D rfl rfl (by decide) rfl (s0_322 H) rfl (sf_124_322 H) fun D =>
      j_ildn (pc := 134) D rfl rfl rfl fun D =>
      j_aldn (pc := 135) D rfl rfl rfl fun D =>
      j_gfc (pc := 136) (a := 303) D rfl rfl (by decide) rfl (s0_303 H) rfl (sf_214_303 H) fun D =>
      j_ildn (pc := 139) D rfl rfl rfl fun D =>
      j_al (pc := 140) (a := 320) (e := 12) D rfl rfl rfl (by decide) (s0_320 H) (s1_320 H) ⟨rfl, rfl, rfl⟩ rfl gn fun qb2 D =>
      j_gfo (pc := 141) H.2.1 D rfl rfl rfl rfl fun kc3 D =>
      j_aldn (pc := 144) D rfl rfl rfl fun D =>
      j_gfc (pc := 145) (a := 303) D rfl rfl (by decide) rfl (s0_303 H) rfl (sf_269_303 H) fun D =>
      j_gfc (pc := 148) (a := 377) D rfl rfl (by decide) rfl (s0_377 H) rfl (sf_176_377 H) fun D =>
      j_ildn (pc := 151) D rfl rfl rfl fun D =>
      j_al (pc := 152) (a := 394) (e := 11) D rfl rfl rfl (by decide) (s0_394 H) (s1_394 H) ⟨rfl, rfl, rfl⟩ rfl (gy qb1) fun q D =>
      have D : fk_D 207 [(153, none, .aload_n 0, 1, 0, 0, 0), (154, none, .getfield 680, 3, 269, 100, 12), (157, none, .getfield 831, 3, 177, 115, 12), (160, none, .iload_n 1, 1, 0, 0, 0), (161, none, .laload, 1, 0, 0, 0), (162, none, .invokestatic 299, 3, 5, 215, 0)] := fq_of2 cd_207 ow_207 cl_207 rfl (pc := 153) (by decide +kernel)
      j_aldn (pc := 153) D rfl rfl rfl fun D =>
      j_gfc (pc := 154) (a := 303) D rfl rfl (by decide) rfl (s0_303 H) rfl (sf_269_303 H) fun D =>
      j_gfc (pc := 157) (a := 377) D rfl rfl (by decide) rfl (s0_377 H) rfl (sf_177_377 H) fun D =>
      j_ildn (pc := 160) D rfl rfl rfl fun D =>
      j_al (pc := 161) (a := 395) (e := 11) D rfl rfl rfl (by decide) (s0_395 H) (s1_395 H) ⟨rfl, rfl, rfl⟩ rfl (gy qb1) fun q D =>
      j_isv (pc := 162) (m := 215) (a := [(4, 323), (0, x3), (4, h 324 (h 12 320 x2.toNat).toNat 0), (1, h 11 394 x1.toNat), (1, h 11 395 x1.toNat)]) (rest := []) D rfl rfl rfl rfl (fun h4 e1 D =>
        have T := fj_run_ok _ _ _ _ _ _ H.1 e1
        have H := shp_st H T
        fk_jump cut_207_165 rfl rfl) (fun q6 h4 e1 =>
        j_tx (by decide +kernel)))
theorem e_207_165 (d : Nat) (x1 : Int) {h : fi_H} (H : Shp h) : c_207_165 d x1 h =
  c_207_40 d (wI (x1 + 1)) h := by
  unfold c_207_165
  exact
    have D : fk_D 207 [(165, some [0, 1], .iinc 1 1, 3, 0, 1, 0), (168, none, .goto (-128), 3, 40, 0, 0)] := fq_of2 cd_207 ow_207 cl_207 rfl (pc := 165) (by decide +kernel)
    j_inc (pc := 165) (L' := [(1, (0, wI (x1 + 1))), (0, (4, 303))]) D rfl rfl rfl (by decide +kernel) rfl fun D =>
    j_goto (pc := 168) D rfl <|
    fk_jump cut_207_40 rfl rfl
theorem m_207 (d : Nat) {h : fi_H} (H : Shp h) : fj_run (d + 1) 207 h [(4, 303)] =
  cv_ (fj_run d 111 h [(4, 377)])
    (fun h1 =>
    cv_ (fj_run d 208 h1 [(4, 377)])
      (fun h4 =>
      cv_ (fj_run d 196 h4 [(4, 303), (0, 0), (0, (-1))])
        (fun h7 =>
        c_207_40 d 0 h7)
        (fun q9 h7 => tx_ q9 h7))
      (fun q6 h4 => tc_ 128 q6 h4 (c_207_17 d (q6 : Int) h4)))
    (fun q3 h1 => tx_ q3 h1) := by
  rw [fj_run_eq d (by decide) h [(4, 303)] (Nat.le_of_ble_eq_true (by rw [nl_207]; rfl))]
  show gG (fj_run d) 207 0 [(0, (4, 303))] [] h = _
  exact
    have D : fk_D 207 [(0, none, .aload_n 0, 1, 0, 0, 0), (1, none, .getfield 680, 3, 269, 100, 12), (4, none, .invokevirtual 790, 3, 0, 159, 0), (7, none, .aload_n 0, 1, 0, 0, 0), (8, none, .getfield 680, 3, 269, 100, 12), (11, none, .invokevirtual 801, 3, 0, 163, 0), (14, none, .goto 18, 3, 32, 0, 0)] := fq_of2 cd_207 ow_207 cl_207 rfl (pc := 0) (by decide +kernel)
    j_aldn (pc := 0) D rfl rfl rfl fun D =>
    j_gfc (pc := 1) (a := 303) D rfl rfl (by decide) rfl (s0_303 H) rfl (sf_269_303 H) fun D =>
    j_ivv (pc := 4) (m := 111) (dd := 159) (a := []) (rest := []) D rfl rfl rfl rfl rfl (by decide) (s0_377 H) (by decide +kernel) (fun h1 e1 D =>
      have T := fj_run_ok _ _ _ _ _ _ H.1 e1
      have H := shp_st H T
      j_aldn (pc := 7) D rfl rfl rfl fun D =>
      j_gfc (pc := 8) (a := 303) D rfl rfl (by decide) rfl (s0_303 H) rfl (sf_269_303 H) fun D =>
      j_ivv (pc := 11) (m := 208) (dd := 163) (a := []) (rest := []) D rfl rfl rfl rfl rfl (by decide) (s0_377 H) (by decide +kernel) (fun h4 e1 D =>
        have T := fj_run_ok _ _ _ _ _ _ H.1 e1
        have H := shp_st H T
        j_goto (pc := 14) D rfl <|
        have D : fk_D 207 [(32, none, .aload_n 0, 1, 0, 0, 0), (33, none, .iconst 0, 1, 0, 0, 0), (34, none, .iconst (-1), 1, 0, (-1), 0), (35, none, .invokevirtual 793, 3, 2, 161, 0), (38, none, .iconst 0, 1, 0, 0, 0), (39, none, .istore_n 1, 1, 0, 0, 0)] := fq_of2 cd_207 ow_207 cl_207 rfl (pc := 32) (by decide +kernel)
        j_aldn (pc := 32) D rfl rfl rfl fun D =>
        j_ic (pc := 33) D rfl fun D =>
        j_ic (pc := 34) D rfl fun D =>
        j_ivv (pc := 35) (m := 196) (dd := 161) (a := [(0, 0), (0, (-1))]) (rest := []) D rfl rfl rfl rfl rfl (by decide) (s0_303 H) (by decide +kernel) (fun h7 e1 D =>
          have T := fj_run_ok _ _ _ _ _ _ H.1 e1
          have H := shp_st H T
          j_ic (pc := 38) D rfl fun D =>
          j_istn (pc := 39) (L' := [(1, (0, 0)), (0, (4, 303))]) D rfl nl_207 rfl rfl fun D =>
          fk_jump cut_207_40 rfl rfl) (fun q9 h7 e1 =>
          j_tx (by decide +kernel))) (fun q6 h4 e1 =>
        j_tc_ (n := 128) (fk_at (cu := none) (by decide +kernel) rfl) (s := 7) (e := 14) (hp := 17) (ct := 8) (by decide +kernel) rfl (by decide +kernel) <|
        fk_jump cut_207_17 rfl rfl)) (fun q3 h1 e1 =>
      j_tx (by decide +kernel))
/-! 208 StatuteHouse$Reader.facts()V -/
theorem cd_208 : fi_code 208 = prog_53_method_37_code := rfl
theorem hx_208 : ∀ pc, fi_hat 208 pc = none := fun pc => by unfold fi_hat; rw [show fi_hh 208 = [] from rfl]; rfl
theorem rt_208 : fi_ret 208 = none := rfl
theorem nl_208 : fi_nl 208 = 2 := rfl
theorem ow_208 : fi_ow 208 = 15 := rfl
theorem cl_208 : fj_cutT.getD 208 [] = [(7, [0, 1]), (29, [0])] := rfl
theorem cut_208_7 : fj_cut 208 7 = some [0, 1] := by decide +kernel
noncomputable def c_208_7 (d : Nat) (x1 : Int) (h : fi_H) : fk_R := gG (fj_run d) 208 7 [(0, (4, 377)), (1, (0, x1))] [] h
theorem cut_208_29 : fj_cut 208 29 = some [0] := by decide +kernel
noncomputable def c_208_29 (d : Nat) (h : fi_H) : fk_R := gG (fj_run d) 208 29 [(0, (4, 377))] [] h
theorem e_208_7 (d : Nat) (x1 : Int) {h : fi_H} (H : Shp h) : c_208_7 d x1 h =
  if x1 < 1200 then
    if 0 ≤ x1 ∧ x1 < 1200 then
    lt_ (fi_upd h 8 390 x1.toNat 0) fun h1 =>
    c_208_7 d (wI (x1 + 1)) h1
    else none
  else
    c_208_29 d h := by
  unfold c_208_7
  exact
    have D : fk_D 208 [(7, some [0, 1], .iload_n 1, 1, 0, 0, 0), (8, none, .aload_n 0, 1, 0, 0, 0), (9, none, .getfield 66, 3, 172, 115, 12), (12, none, .arraylength, 1, 0, 0, 0), (13, none, .if_icmp .ge 16, 3, 29, 0, 0), (16, none, .aload_n 0, 1, 0, 0, 0), (17, none, .getfield 66, 3, 172, 115, 12), (20, none, .iload_n 1, 1, 0, 0, 0), (21, none, .iconst 0, 1, 0, 0, 0), (22, none, .bastore, 1, 0, 0, 0), (23, none, .iinc 1 1, 3, 0, 1, 0), (26, none, .goto (-19), 3, 7, 0, 0)] := fq_of2 cd_208 ow_208 cl_208 rfl (pc := 7) (by decide +kernel)
    j_ildn (pc := 7) D rfl rfl rfl fun D =>
    j_aldn (pc := 8) D rfl rfl rfl fun D =>
    j_gfc (pc := 9) (a := 377) D rfl rfl (by decide) rfl (s0_377 H) rfl (sf_172_377 H) fun D =>
    j_len (pc := 12) (a := 390) D rfl rfl (by decide) (s0_390 H) rfl (s1_390 H) fun D =>
    j_ige (pc := 13) D rfl (fun q D =>
      j_aldn (pc := 16) D rfl rfl rfl fun D =>
      j_gfc (pc := 17) (a := 377) D rfl rfl (by decide) rfl (s0_377 H) rfl (sf_172_377 H) fun D =>
      j_ildn (pc := 20) D rfl rfl rfl fun D =>
      j_ic (pc := 21) D rfl fun D =>
      j_as (pc := 22) (a := 390) (e := 8) D rfl ⟨rfl, rfl⟩ rfl (by decide) (s0_390 H) (s1_390 H) ⟨rfl, rfl, rfl⟩ rfl gn (gy (by decide)) fun h1 eh1 S qb2 D =>
      have T := fj_hs_ok H.1 S
      have H := shp_st H T
      j_inc (pc := 23) (L' := [(1, (0, wI (x1 + 1))), (0, (4, 377))]) D rfl rfl rfl (by decide +kernel) rfl fun D =>
      j_goto (pc := 26) D rfl <|
      fk_jump cut_208_7 rfl rfl) (fun q =>
      fk_jump cut_208_29 rfl rfl)
theorem e_208_29 (d : Nat) {h : fi_H} (H : Shp h) : c_208_29 d h =
  if 0 ≤ h 158 377 0 ∧ h 158 377 0 < 1202 then
  if h 8 378 (h 158 377 0).toNat = 0 then
    some (.inl none, h)
  else
    cv_ (fj_run d 209 h [(4, 377)])
      (fun h2 =>
      c_208_29 d h2)
      (fun q4 h2 => tx_ q4 h2)
  else none := by
  unfold c_208_29
  exact
    have D : fk_D 208 [(29, some [0], .aload_n 0, 1, 0, 0, 0), (30, none, .getfield 15, 3, 149, 115, 12), (33, none, .aload_n 0, 1, 0, 0, 0), (34, none, .getfield 104, 3, 158, 115, 10), (37, none, .baload, 1, 0, 0, 0), (38, none, .ifCond .eq 10, 3, 48, 0, 0), (41, none, .aload_n 0, 1, 0, 0, 0), (42, none, .invokevirtual 521, 3, 0, 279, 0), (45, none, .goto (-16), 3, 29, 0, 0)] := fq_of2 cd_208 ow_208 cl_208 rfl (pc := 29) (by decide +kernel)
    j_aldn (pc := 29) D rfl rfl rfl fun D =>
    j_gfc (pc := 30) (a := 377) D rfl rfl (by decide) rfl (s0_377 H) rfl (sf_149_377 H) fun D =>
    j_aldn (pc := 33) D rfl rfl rfl fun D =>
    j_gf (pc := 34) (a := 377) D rfl rfl (by decide) rfl (s0_377 H) rfl fun D =>
    j_al (pc := 37) (a := 378) (e := 8) D rfl rfl rfl (by decide) (s0_378 H) (s1_378 H) ⟨rfl, rfl, rfl⟩ rfl gn fun qb1 D =>
    j_ifeq (pc := 38) D rfl (fun q =>
      have D : fk_D 208 [(48, none, .return_, 1, 0, 0, 0)] := fq_of2 cd_208 ow_208 cl_208 rfl (pc := 48) (by decide +kernel)
      j_vret D rt_208) (fun q D =>
      j_aldn (pc := 41) D rfl rfl rfl fun D =>
      j_ivv (pc := 42) (m := 209) (dd := 279) (a := []) (rest := []) D rfl rfl rfl rfl rfl (by decide) (s0_377 H) (by decide +kernel) (fun h2 e1 D =>
        have T := fj_run_ok _ _ _ _ _ _ H.1 e1
        have H := shp_st H T
        j_goto (pc := 45) D rfl <|
        fk_jump cut_208_29 rfl rfl) (fun q4 h2 e1 =>
        j_tx (hx_208 _)))
theorem m_208 (d : Nat) {h : fi_H} (H : Shp h) : fj_run (d + 1) 208 h [(4, 377)] =
  lt_ (fi_upd h 178 377 0 0) fun h1 =>
  c_208_7 d 0 h1 := by
  rw [fj_run_eq d (by decide) h [(4, 377)] (Nat.le_of_ble_eq_true (by rw [nl_208]; rfl))]
  show gG (fj_run d) 208 0 [(0, (4, 377))] [] h = _
  exact
    have D : fk_D 208 [(0, none, .aload_n 0, 1, 0, 0, 0), (1, none, .iconst 0, 1, 0, 0, 0), (2, none, .putfield 518, 3, 178, 115, 10), (5, none, .iconst 0, 1, 0, 0, 0), (6, none, .istore_n 1, 1, 0, 0, 0)] := fq_of2 cd_208 ow_208 cl_208 rfl (pc := 0) (by decide +kernel)
    j_aldn (pc := 0) D rfl rfl rfl fun D =>
    j_ic (pc := 1) D rfl fun D =>
    j_pf (pc := 2) (a := 377) D rfl rfl rfl (s0_377 H) rfl rfl (gy (by decide)) (gy rfl) fun h1 eh1 S D =>
    have T := fj_hs_ok H.1 S
    have H := shp_st H T
    j_ic (pc := 5) D rfl fun D =>
    j_istn (pc := 6) (L' := [(1, (0, 0)), (0, (4, 377))]) D rfl nl_208 rfl rfl fun D =>
    fk_jump cut_208_7 rfl rfl
/-! 209 StatuteHouse$Reader.record()V -/
theorem cd_209 : fi_code 209 = prog_53_method_38_code := rfl
theorem hx_209 : ∀ pc, fi_hat 209 pc = none := fun pc => by unfold fi_hat; rw [show fi_hh 209 = [] from rfl]; rfl
theorem rt_209 : fi_ret 209 = none := rfl
theorem nl_209 : fi_nl 209 = 4 := rfl
theorem ow_209 : fi_ow 209 = 15 := rfl
theorem cl_209 : fj_cutT.getD 209 [] = [(92, [0, 1]), (150, [0, 2, 3]), (182, [0, 2, 3]), (232, [0, 2, 3]), (299, [0, 2, 3]), (313, [0, 2, 3]), (367, [])] := rfl
theorem cut_209_92 : fj_cut 209 92 = some [0, 1] := by decide +kernel
noncomputable def c_209_92 (d : Nat) (x1 : Int) (h : fi_H) : fk_R := gG (fj_run d) 209 92 [(0, (4, 377)), (1, (0, x1))] [] h
theorem cut_209_150 : fj_cut 209 150 = some [0, 2, 3] := by decide +kernel
noncomputable def c_209_150 (d : Nat) (x2 x3 : Int) (h : fi_H) : fk_R := gG (fj_run d) 209 150 [(0, (4, 377)), (2, (0, x2)), (3, (0, x3))] [] h
theorem cut_209_182 : fj_cut 209 182 = some [0, 2, 3] := by decide +kernel
noncomputable def c_209_182 (d : Nat) (x2 x3 : Int) (h : fi_H) : fk_R := gG (fj_run d) 209 182 [(0, (4, 377)), (2, (0, x2)), (3, (0, x3))] [] h
theorem cut_209_232 : fj_cut 209 232 = some [0, 2, 3] := by decide +kernel
noncomputable def c_209_232 (d : Nat) (x2 x3 : Int) (h : fi_H) : fk_R := gG (fj_run d) 209 232 [(0, (4, 377)), (2, (0, x2)), (3, (0, x3))] [] h
theorem cut_209_299 : fj_cut 209 299 = some [0, 2, 3] := by decide +kernel
noncomputable def c_209_299 (d : Nat) (x2 x3 : Int) (h : fi_H) : fk_R := gG (fj_run d) 209 299 [(0, (4, 377)), (2, (0, x2)), (3, (0, x3))] [] h
theorem cut_209_313 : fj_cut 209 313 = some [0, 2, 3] := by decide +kernel
noncomputable def c_209_313 (d : Nat) (x2 x3 : Int) (h : fi_H) : fk_R := gG (fj_run d) 209 313 [(0, (4, 377)), (2, (0, x2)), (3, (0, x3))] [] h
theorem cut_209_367 : fj_cut 209 367 = some [] := by decide +kernel
noncomputable def c_209_367 (d : Nat) (h : fi_H) : fk_R := gG (fj_run d) 209 367 [] [] h
theorem e_209_92 (d : Nat) (x1 : Int) {h : fi_H} (H : Shp h) : c_209_92 d x1 h =
  ca_ (fj_run d 165 h [(4, 303), (0, 4), (0, x1)]) 4
    (fun v2 h1 =>
    if v2 ≠ 0 then
    tx_ v2.toNat h1
    else none)
    (fun q3 h1 => tx_ q3 h1) := by
  unfold c_209_92
  exact
    have D : fk_D 209 [(92, some [0, 1], .aload_n 0, 1, 0, 0, 0), (93, none, .getfield 3, 3, 182, 115, 12), (96, none, .iconst 4, 1, 0, 4, 0), (97, none, .iload_n 1, 1, 0, 0, 0), (98, none, .invokevirtual 186, 3, 2, 257, 5), (101, none, .athrow, 1, 0, 0, 0)] := fq_of2 cd_209 ow_209 cl_209 rfl (pc := 92) (by decide +kernel)
    j_aldn (pc := 92) D rfl rfl rfl fun D =>
    j_gfc (pc := 93) (a := 377) D rfl rfl (by decide) rfl (s0_377 H) rfl (sf_182_377 H) fun D =>
    j_ic (pc := 96) D rfl fun D =>
    j_ildn (pc := 97) D rfl rfl rfl fun D =>
    j_iv (pc := 98) (m := 165) (dd := 257) (a := [(0, 4), (0, x1)]) (rest := []) D rfl rfl rfl rfl rfl (by decide) (s0_303 H) (by decide +kernel) (fun v2 h1 e1 D =>
      have T := fj_run_ok _ _ _ _ _ _ H.1 e1
      have H := shp_st H T
      j_at (pc := 101) D gn <|
      j_tx (hx_209 _)) (fun q3 h1 e1 =>
      j_tx (hx_209 _))
theorem e_209_150 (d : Nat) (x2 x3 : Int) {h : fi_H} (H : Shp h) : c_209_150 d x2 x3 h =
  cv_ (fj_run d 166 h [(4, 377)])
    (fun h1 =>
    if 0 ≤ h1 178 377 0 ∧ h1 178 377 0 < 500 then
    if h1 4 391 (h1 178 377 0).toNat = 0 then
      c_209_182 d x2 x3 h1
    else
      if 0 ≤ x3 ∧ x3 < 40 then
      if h1 0 (h1 12 320 x3.toNat).toNat 0 = 124 then
      cv_ (fj_run d 213 h1 [(4, 377), (4, h1 324 (h1 12 320 x3.toNat).toNat 0)])
        (fun h7 =>
        c_209_182 d x2 x3 h7)
        (fun q9 h7 => tx_ q9 h7)
      else none
      else none
    else none)
    (fun q3 h1 => tx_ q3 h1) := by
  unfold c_209_150
  exact
    have D : fk_D 209 [(150, some [0, 2, 3], .aload_n 0, 1, 0, 0, 0), (151, none, .invokevirtual 206, 3, 0, 261, 0), (154, none, .aload_n 0, 1, 0, 0, 0), (155, none, .getfield 69, 3, 173, 115, 12), (158, none, .aload_n 0, 1, 0, 0, 0), (159, none, .getfield 518, 3, 178, 115, 10), (162, none, .baload, 1, 0, 0, 0), (163, none, .ifCond .eq 19, 3, 182, 0, 0), (166, none, .aload_n 0, 1, 0, 0, 0), (167, none, .aload_n 0, 1, 0, 0, 0), (168, none, .getfield 3, 3, 182, 115, 12), (171, none, .getfield 368, 3, 214, 100, 12), (174, none, .iload_n 3, 1, 0, 0, 0), (175, none, .aaload, 1, 0, 0, 0), (176, none, .getfield 448, 3, 324, (-124), 12), (179, none, .invokevirtual 543, 3, 1, 282, 0)] := fq_of2 cd_209 ow_209 cl_209 rfl (pc := 150) (by decide +kernel)
    j_aldn (pc := 150) D rfl rfl rfl fun D =>
    j_ivv (pc := 151) (m := 166) (dd := 261) (a := []) (rest := []) D rfl rfl rfl rfl rfl (by decide) (s0_377 H) (by decide +kernel) (fun h1 e1 D =>
      have T := fj_run_ok _ _ _ _ _ _ H.1 e1
      have H := shp_st H T
      j_aldn (pc := 154) D rfl rfl rfl fun D =>
      j_gfc (pc := 155) (a := 377) D rfl rfl (by decide) rfl (s0_377 H) rfl (sf_173_377 H) fun D =>
      j_aldn (pc := 158) D rfl rfl rfl fun D =>
      j_gf (pc := 159) (a := 377) D rfl rfl (by decide) rfl (s0_377 H) rfl fun D =>
      j_al (pc := 162) (a := 391) (e := 4) D rfl rfl rfl (by decide) (s0_391 H) (s1_391 H) ⟨rfl, rfl, rfl⟩ rfl gn fun qb4 D =>
      j_ifeq (pc := 163) D rfl (fun q =>
        fk_jump cut_209_182 rfl rfl) (fun q D =>
        j_aldn (pc := 166) D rfl rfl rfl fun D =>
        j_aldn (pc := 167) D rfl rfl rfl fun D =>
        j_gfc (pc := 168) (a := 377) D rfl rfl (by decide) rfl (s0_377 H) rfl (sf_182_377 H) fun D =>
        j_gfc (pc := 171) (a := 303) D rfl rfl (by decide) rfl (s0_303 H) rfl (sf_214_303 H) fun D =>
        j_ildn (pc := 174) D rfl rfl rfl fun D =>
        j_al (pc := 175) (a := 320) (e := 12) D rfl rfl rfl (by decide) (s0_320 H) (s1_320 H) ⟨rfl, rfl, rfl⟩ rfl gn fun qb5 D =>
        j_gfo (pc := 176) H.2.1 D rfl rfl rfl rfl fun kc6 D =>
        j_ivv (pc := 179) (m := 213) (dd := 282) (a := [(4, h1 324 (h1 12 320 x3.toNat).toNat 0)]) (rest := []) D rfl rfl rfl rfl rfl (by decide) (s0_377 H) (by decide +kernel) (fun h7 e1 D =>
          have T := fj_run_ok _ _ _ _ _ _ H.1 e1
          have H := shp_st H T
          fk_jump cut_209_182 rfl rfl) (fun q9 h7 e1 =>
          j_tx (hx_209 _)))) (fun q3 h1 e1 =>
      j_tx (hx_209 _))
theorem e_209_182 (d : Nat) (x2 x3 : Int) {h : fi_H} (H : Shp h) : c_209_182 d x2 x3 h =
  if 0 ≤ h 178 377 0 ∧ h 178 377 0 < 500 then
  lt_ (fi_upd h 5 392 (h 178 377 0).toNat 0) fun h1 =>
  if 0 ≤ h1 178 377 0 ∧ h1 178 377 0 < 500 then
  lt_ (fi_upd h1 5 393 (h1 178 377 0).toNat 65535) fun h3 =>
  ca_ (fj_run d 162 h3 [(4, 377), (4, 215)]) 0
    (fun v6 h5 =>
    if v6 = 0 then
      c_209_232 d x2 x3 h5
    else
      cv_ (fj_run d 166 h5 [(4, 377)])
        (fun h8 =>
        ca_ (fj_run d 195 h8 [(4, 377)]) 0
          (fun v12 h11 =>
          if 0 ≤ h8 178 377 0 ∧ h8 178 377 0 < 500 then
          lt_ (fi_upd h11 5 392 (h8 178 377 0).toNat (wC v12)) fun h14 =>
          c_209_232 d x2 x3 h14
          else none)
          (fun q13 h11 => tx_ q13 h11))
        (fun q10 h8 => tx_ q10 h8))
    (fun q7 h5 => tx_ q7 h5)
  else none
  else none := by
  unfold c_209_182
  exact
    have D : fk_D 209 [(182, some [0, 2, 3], .aload_n 0, 1, 0, 0, 0), (183, none, .getfield 73, 3, 174, 115, 12), (186, none, .aload_n 0, 1, 0, 0, 0), (187, none, .getfield 518, 3, 178, 115, 10), (190, none, .iconst 0, 1, 0, 0, 0), (191, none, .castore, 1, 0, 0, 0), (192, none, .aload_n 0, 1, 0, 0, 0), (193, none, .getfield 76, 3, 175, 115, 12), (196, none, .aload_n 0, 1, 0, 0, 0), (197, none, .getfield 518, 3, 178, 115, 10), (200, none, .ldc_w 546, 3, 0, 65535, 0), (203, none, .castore, 1, 0, 0, 0), (204, none, .aload_n 0, 1, 0, 0, 0), (205, none, .ldc_w 292, 3, 4, 215, 0), (208, none, .invokevirtual 209, 3, 1, 262, 1), (211, none, .ifCond .eq 21, 3, 232, 0, 0), (214, none, .aload_n 0, 1, 0, 0, 0), (215, none, .invokevirtual 206, 3, 0, 261, 0), (218, none, .aload_n 0, 1, 0, 0, 0), (219, none, .getfield 73, 3, 174, 115, 12)] := fq_of2 cd_209 ow_209 cl_209 rfl (pc := 182) (by decide +kernel)
    j_aldn (pc := 182) D rfl rfl rfl fun D =>
    j_gfc (pc := 183) (a := 377) D rfl rfl (by decide) rfl (s0_377 H) rfl (sf_174_377 H) fun D =>
    j_aldn (pc := 186) D rfl rfl rfl fun D =>
    j_gf (pc := 187) (a := 377) D rfl rfl (by decide) rfl (s0_377 H) rfl fun D =>
    j_ic (pc := 190) D rfl fun D =>
    j_as (pc := 191) (a := 392) (e := 5) D rfl ⟨rfl, rfl⟩ rfl (by decide) (s0_392 H) (s1_392 H) ⟨rfl, rfl, rfl⟩ rfl gn (gy (by decide)) fun h1 eh1 S qb2 D =>
    have T := fj_hs_ok H.1 S
    have H := shp_st H T
    j_aldn (pc := 192) D rfl rfl rfl fun D =>
    j_gfc (pc := 193) (a := 377) D rfl rfl (by decide) rfl (s0_377 H) rfl (sf_175_377 H) fun D =>
    j_aldn (pc := 196) D rfl rfl rfl fun D =>
    j_gf (pc := 197) (a := 377) D rfl rfl (by decide) rfl (s0_377 H) rfl fun D =>
    j_ldcw (pc := 200) D rfl fun D =>
    j_as (pc := 203) (a := 393) (e := 5) D rfl ⟨rfl, rfl⟩ rfl (by decide) (s0_393 H) (s1_393 H) ⟨rfl, rfl, rfl⟩ rfl gn (gy (by decide)) fun h3 eh3 S qb4 D =>
    have T := fj_hs_ok H.1 S
    have H := shp_st H T
    j_aldn (pc := 204) D rfl rfl rfl fun D =>
    j_ldcw (pc := 205) D rfl fun D =>
    j_iv (pc := 208) (m := 162) (dd := 262) (a := [(4, 215)]) (rest := []) D rfl rfl rfl rfl rfl (by decide) (s0_377 H) (by decide +kernel) (fun v6 h5 e1 D =>
      have T := fj_run_ok _ _ _ _ _ _ H.1 e1
      have H := shp_st H T
      j_ifeq (pc := 211) D rfl (fun q =>
        fk_jump cut_209_232 rfl rfl) (fun q D =>
        j_aldn (pc := 214) D rfl rfl rfl fun D =>
        j_ivv (pc := 215) (m := 166) (dd := 261) (a := []) (rest := []) D rfl rfl rfl rfl rfl (by decide) (s0_377 H) (by decide +kernel) (fun h8 e1 D =>
          have T := fj_run_ok _ _ _ _ _ _ H.1 e1
          have H := shp_st H T
          j_aldn (pc := 218) D rfl rfl rfl fun D =>
          j_gfc (pc := 219) (a := 377) D rfl rfl (by decide) rfl (s0_377 H) rfl (sf_174_377 H) fun D =>
          have D : fk_D 209 [(222, none, .aload_n 0, 1, 0, 0, 0), (223, none, .getfield 518, 3, 178, 115, 10), (226, none, .aload_n 0, 1, 0, 0, 0), (227, none, .invokevirtual 437, 3, 0, 270, 1), (230, none, .i2c, 1, 0, 0, 0), (231, none, .castore, 1, 0, 0, 0)] := fq_of2 cd_209 ow_209 cl_209 rfl (pc := 222) (by decide +kernel)
          j_aldn (pc := 222) D rfl rfl rfl fun D =>
          j_gf (pc := 223) (a := 377) D rfl rfl (by decide) rfl (s0_377 H) rfl fun D =>
          j_aldn (pc := 226) D rfl rfl rfl fun D =>
          j_iv (pc := 227) (m := 195) (dd := 270) (a := []) (rest := [(0, h8 178 377 0), (4, 392)]) D rfl rfl rfl rfl rfl (by decide) (s0_377 H) (by decide +kernel) (fun v12 h11 e1 D =>
            have T := fj_run_ok _ _ _ _ _ _ H.1 e1
            have H := shp_st H T
            j_i2c (pc := 230) D rfl fun D =>
            j_as (pc := 231) (a := 392) (e := 5) D rfl ⟨rfl, rfl⟩ rfl (by decide) (s0_392 H) (s1_392 H) ⟨rfl, rfl, rfl⟩ rfl gn (gy (fk_rgC _)) fun h14 eh14 S qb15 D =>
            have T := fj_hs_ok H.1 S
            have H := shp_st H T
            fk_jump cut_209_232 rfl rfl) (fun q13 h11 e1 =>
            j_tx (hx_209 _))) (fun q10 h8 e1 =>
          j_tx (hx_209 _)))) (fun q7 h5 e1 =>
      j_tx (hx_209 _))
theorem e_209_232 (d : Nat) (x2 x3 : Int) {h : fi_H} (H : Shp h) : c_209_232 d x2 x3 h =
  ca_ (fj_run d 162 h [(4, 377), (4, 263)]) 0
    (fun v2 h1 =>
    if v2 = 0 then
      c_209_313 d x2 x3 h1
    else
      cv_ (fj_run d 166 h1 [(4, 377)])
        (fun h4 =>
        if 0 ≤ h4 158 377 0 ∧ h4 158 377 0 < 1202 then
        if h4 8 378 (h4 158 377 0).toNat = 5 then
          if h4 10 380 (h4 158 377 0).toNat = (-1) then
            c_209_299 d x2 x3 h4
          else
            if 0 ≤ h4 178 377 0 ∧ h4 178 377 0 < 500 then
            if h4 10 380 (h4 158 377 0).toNat < h4 5 392 (h4 178 377 0).toNat then
              ca_ (fj_run d 164 h4 [(4, 377), (0, 3)]) 4
                (fun v10 h9 =>
                if v10 ≠ 0 then
                tx_ v10.toNat h9
                else none)
                (fun q11 h9 => tx_ q11 h9)
            else
              c_209_299 d x2 x3 h4
            else none
        else
          c_209_299 d x2 x3 h4
        else none)
        (fun q6 h4 => tx_ q6 h4))
    (fun q3 h1 => tx_ q3 h1) := by
  unfold c_209_232
  exact
    have D : fk_D 209 [(232, some [0, 2, 3], .aload_n 0, 1, 0, 0, 0), (233, none, .ldc_w 354, 3, 4, 263, 0), (236, none, .invokevirtual 209, 3, 1, 262, 1), (239, none, .ifCond .eq 74, 3, 313, 0, 0), (242, none, .aload_n 0, 1, 0, 0, 0), (243, none, .invokevirtual 206, 3, 0, 261, 0), (246, none, .aload_n 0, 1, 0, 0, 0), (247, none, .getfield 15, 3, 149, 115, 12), (250, none, .aload_n 0, 1, 0, 0, 0), (251, none, .getfield 104, 3, 158, 115, 10), (254, none, .baload, 1, 0, 0, 0), (255, none, .iconst 5, 1, 0, 5, 0), (256, none, .if_icmp .ne 43, 3, 299, 0, 0), (259, none, .aload_n 0, 1, 0, 0, 0), (260, none, .getfield 23, 3, 151, 115, 12), (263, none, .aload_n 0, 1, 0, 0, 0), (264, none, .getfield 104, 3, 158, 115, 10), (267, none, .iaload, 1, 0, 0, 0), (268, none, .iconst (-1), 1, 0, (-1), 0), (269, none, .if_icmp .eq 30, 3, 299, 0, 0)] := fq_of2 cd_209 ow_209 cl_209 rfl (pc := 232) (by decide +kernel)
    j_aldn (pc := 232) D rfl rfl rfl fun D =>
    j_ldcw (pc := 233) D rfl fun D =>
    j_iv (pc := 236) (m := 162) (dd := 262) (a := [(4, 263)]) (rest := []) D rfl rfl rfl rfl rfl (by decide) (s0_377 H) (by decide +kernel) (fun v2 h1 e1 D =>
      have T := fj_run_ok _ _ _ _ _ _ H.1 e1
      have H := shp_st H T
      j_ifeq (pc := 239) D rfl (fun q =>
        fk_jump cut_209_313 rfl rfl) (fun q D =>
        j_aldn (pc := 242) D rfl rfl rfl fun D =>
        j_ivv (pc := 243) (m := 166) (dd := 261) (a := []) (rest := []) D rfl rfl rfl rfl rfl (by decide) (s0_377 H) (by decide +kernel) (fun h4 e1 D =>
          have T := fj_run_ok _ _ _ _ _ _ H.1 e1
          have H := shp_st H T
          j_aldn (pc := 246) D rfl rfl rfl fun D =>
          j_gfc (pc := 247) (a := 377) D rfl rfl (by decide) rfl (s0_377 H) rfl (sf_149_377 H) fun D =>
          j_aldn (pc := 250) D rfl rfl rfl fun D =>
          j_gf (pc := 251) (a := 377) D rfl rfl (by decide) rfl (s0_377 H) rfl fun D =>
          j_al (pc := 254) (a := 378) (e := 8) D rfl rfl rfl (by decide) (s0_378 H) (s1_378 H) ⟨rfl, rfl, rfl⟩ rfl gn fun qb7 D =>
          j_ic (pc := 255) D rfl fun D =>
          j_ine (pc := 256) D rfl (fun q D =>
            j_aldn (pc := 259) D rfl rfl rfl fun D =>
            j_gfc (pc := 260) (a := 377) D rfl rfl (by decide) rfl (s0_377 H) rfl (sf_151_377 H) fun D =>
            j_aldn (pc := 263) D rfl rfl rfl fun D =>
            j_gf (pc := 264) (a := 377) D rfl rfl (by decide) rfl (s0_377 H) rfl fun D =>
            j_al (pc := 267) (a := 380) (e := 10) D rfl rfl rfl (by decide) (s0_380 H) (s1_380 H) ⟨rfl, rfl, rfl⟩ rfl (gy qb7) fun q D =>
            j_ic (pc := 268) D rfl fun D =>
            j_ieq (pc := 269) D rfl (fun q =>
              fk_jump cut_209_299 rfl rfl) (fun q D =>
              have D : fk_D 209 [(272, none, .aload_n 0, 1, 0, 0, 0), (273, none, .getfield 23, 3, 151, 115, 12), (276, none, .aload_n 0, 1, 0, 0, 0), (277, none, .getfield 104, 3, 158, 115, 10), (280, none, .iaload, 1, 0, 0, 0), (281, none, .aload_n 0, 1, 0, 0, 0), (282, none, .getfield 73, 3, 174, 115, 12), (285, none, .aload_n 0, 1, 0, 0, 0), (286, none, .getfield 518, 3, 178, 115, 10), (289, none, .caload, 1, 0, 0, 0), (290, none, .if_icmp .ge 9, 3, 299, 0, 0), (293, none, .aload_n 0, 1, 0, 0, 0), (294, none, .iconst 3, 1, 0, 3, 0), (295, none, .invokevirtual 190, 3, 1, 258, 5), (298, none, .athrow, 1, 0, 0, 0)] := fq_of2 cd_209 ow_209 cl_209 rfl (pc := 272) (by decide +kernel)
              j_aldn (pc := 272) D rfl rfl rfl fun D =>
              j_gfc (pc := 273) (a := 377) D rfl rfl (by decide) rfl (s0_377 H) rfl (sf_151_377 H) fun D =>
              j_aldn (pc := 276) D rfl rfl rfl fun D =>
              j_gf (pc := 277) (a := 377) D rfl rfl (by decide) rfl (s0_377 H) rfl fun D =>
              j_al (pc := 280) (a := 380) (e := 10) D rfl rfl rfl (by decide) (s0_380 H) (s1_380 H) ⟨rfl, rfl, rfl⟩ rfl (gy qb7) fun q D =>
              j_aldn (pc := 281) D rfl rfl rfl fun D =>
              j_gfc (pc := 282) (a := 377) D rfl rfl (by decide) rfl (s0_377 H) rfl (sf_174_377 H) fun D =>
              j_aldn (pc := 285) D rfl rfl rfl fun D =>
              j_gf (pc := 286) (a := 377) D rfl rfl (by decide) rfl (s0_377 H) rfl fun D =>
              j_al (pc := 289) (a := 392) (e := 5) D rfl rfl rfl (by decide) (s0_392 H) (s1_392 H) ⟨rfl, rfl, rfl⟩ rfl gn fun qb8 D =>
              j_ige (pc := 290) D rfl (fun q D =>
                j_aldn (pc := 293) D rfl rfl rfl fun D =>
                j_ic (pc := 294) D rfl fun D =>
                j_iv (pc := 295) (m := 164) (dd := 258) (a := [(0, 3)]) (rest := []) D rfl rfl rfl rfl rfl (by decide) (s0_377 H) (by decide +kernel) (fun v10 h9 e1 D =>
                  have T := fj_run_ok _ _ _ _ _ _ H.1 e1
                  have H := shp_st H T
                  j_at (pc := 298) D gn <|
                  j_tx (hx_209 _)) (fun q11 h9 e1 =>
                  j_tx (hx_209 _))) (fun q =>
                fk_jump cut_209_299 rfl rfl))) (fun q =>
            fk_jump cut_209_299 rfl rfl)) (fun q6 h4 e1 =>
          j_tx (hx_209 _)))) (fun q3 h1 e1 =>
      j_tx (hx_209 _))
theorem e_209_299 (d : Nat) (x2 x3 : Int) {h : fi_H} (H : Shp h) : c_209_299 d x2 x3 h =
  ca_ (fj_run d 195 h [(4, 377)]) 0
    (fun v2 h1 =>
    if 0 ≤ h 178 377 0 ∧ h 178 377 0 < 500 then
    lt_ (fi_upd h1 5 393 (h 178 377 0).toNat (wC v2)) fun h4 =>
    c_209_313 d x2 x3 h4
    else none)
    (fun q3 h1 => tx_ q3 h1) := by
  unfold c_209_299
  exact
    have D : fk_D 209 [(299, some [0, 2, 3], .aload_n 0, 1, 0, 0, 0), (300, none, .getfield 76, 3, 175, 115, 12), (303, none, .aload_n 0, 1, 0, 0, 0), (304, none, .getfield 518, 3, 178, 115, 10), (307, none, .aload_n 0, 1, 0, 0, 0), (308, none, .invokevirtual 437, 3, 0, 270, 1), (311, none, .i2c, 1, 0, 0, 0), (312, none, .castore, 1, 0, 0, 0)] := fq_of2 cd_209 ow_209 cl_209 rfl (pc := 299) (by decide +kernel)
    j_aldn (pc := 299) D rfl rfl rfl fun D =>
    j_gfc (pc := 300) (a := 377) D rfl rfl (by decide) rfl (s0_377 H) rfl (sf_175_377 H) fun D =>
    j_aldn (pc := 303) D rfl rfl rfl fun D =>
    j_gf (pc := 304) (a := 377) D rfl rfl (by decide) rfl (s0_377 H) rfl fun D =>
    j_aldn (pc := 307) D rfl rfl rfl fun D =>
    j_iv (pc := 308) (m := 195) (dd := 270) (a := []) (rest := [(0, h 178 377 0), (4, 393)]) D rfl rfl rfl rfl rfl (by decide) (s0_377 H) (by decide +kernel) (fun v2 h1 e1 D =>
      have T := fj_run_ok _ _ _ _ _ _ H.1 e1
      have H := shp_st H T
      j_i2c (pc := 311) D rfl fun D =>
      j_as (pc := 312) (a := 393) (e := 5) D rfl ⟨rfl, rfl⟩ rfl (by decide) (s0_393 H) (s1_393 H) ⟨rfl, rfl, rfl⟩ rfl gn (gy (fk_rgC _)) fun h4 eh4 S qb5 D =>
      have T := fj_hs_ok H.1 S
      have H := shp_st H T
      fk_jump cut_209_313 rfl rfl) (fun q3 h1 e1 =>
      j_tx (hx_209 _))
theorem e_209_313 (d : Nat) (x2 x3 : Int) {h : fi_H} (H : Shp h) : c_209_313 d x2 x3 h =
  cv_ (fj_run d 182 h [(4, 377), (0, 59)])
    (fun h1 =>
    if 0 ≤ h1 178 377 0 ∧ h1 178 377 0 < 500 then
    lt_ (fi_upd h1 8 388 (h1 178 377 0).toNat (wB x2)) fun h4 =>
    if 0 ≤ h4 178 377 0 ∧ h4 178 377 0 < 500 then
    lt_ (fi_upd h4 8 389 (h4 178 377 0).toNat (wB x3)) fun h6 =>
    if 0 ≤ wI ((wI (40 * x2)) + x3) ∧ wI ((wI (40 * x2)) + x3) < 1200 then
    lt_ (fi_upd h6 8 390 (wI ((wI (40 * x2)) + x3)).toNat (wB (wI ((h6 8 390 (wI ((wI (40 * x2)) + x3)).toNat) + 1)))) fun h9 =>
    lt_ (fi_upd h9 178 377 0 (wI ((h9 178 377 0) + 1))) fun h10 =>
    c_209_367 d h10
    else none
    else none
    else none)
    (fun q3 h1 => tx_ q3 h1) := by
  unfold c_209_313
  exact
    have D : fk_D 209 [(313, some [0, 2, 3], .aload_n 0, 1, 0, 0, 0), (314, none, .bipush 59, 2, 0, 59, 0), (316, none, .invokevirtual 216, 3, 1, 264, 0), (319, none, .aload_n 0, 1, 0, 0, 0), (320, none, .getfield 60, 3, 170, 115, 12), (323, none, .aload_n 0, 1, 0, 0, 0), (324, none, .getfield 518, 3, 178, 115, 10), (327, none, .iload_n 2, 1, 0, 0, 0), (328, none, .i2b, 1, 0, 0, 0), (329, none, .bastore, 1, 0, 0, 0), (330, none, .aload_n 0, 1, 0, 0, 0), (331, none, .getfield 63, 3, 171, 115, 12), (334, none, .aload_n 0, 1, 0, 0, 0), (335, none, .getfield 518, 3, 178, 115, 10), (338, none, .iload_n 3, 1, 0, 0, 0), (339, none, .i2b, 1, 0, 0, 0), (340, none, .bastore, 1, 0, 0, 0), (341, none, .aload_n 0, 1, 0, 0, 0), (342, none, .getfield 66, 3, 172, 115, 12), (345, none, .bipush 40, 2, 0, 40, 0)] := fq_of2 cd_209 ow_209 cl_209 rfl (pc := 313) (by decide +kernel)
    j_aldn (pc := 313) D rfl rfl rfl fun D =>
    j_bp (pc := 314) D rfl fun D =>
    j_ivv (pc := 316) (m := 182) (dd := 264) (a := [(0, 59)]) (rest := []) D rfl rfl rfl rfl rfl (by decide) (s0_377 H) (by decide +kernel) (fun h1 e1 D =>
      have T := fj_run_ok _ _ _ _ _ _ H.1 e1
      have H := shp_st H T
      j_aldn (pc := 319) D rfl rfl rfl fun D =>
      j_gfc (pc := 320) (a := 377) D rfl rfl (by decide) rfl (s0_377 H) rfl (sf_170_377 H) fun D =>
      j_aldn (pc := 323) D rfl rfl rfl fun D =>
      j_gf (pc := 324) (a := 377) D rfl rfl (by decide) rfl (s0_377 H) rfl fun D =>
      j_ildn (pc := 327) D rfl rfl rfl fun D =>
      j_i2b (pc := 328) D rfl fun D =>
      j_as (pc := 329) (a := 388) (e := 8) D rfl ⟨rfl, rfl⟩ rfl (by decide) (s0_388 H) (s1_388 H) ⟨rfl, rfl, rfl⟩ rfl gn (gy (fk_rgB _)) fun h4 eh4 S qb5 D =>
      have T := fj_hs_ok H.1 S
      have H := shp_st H T
      j_aldn (pc := 330) D rfl rfl rfl fun D =>
      j_gfc (pc := 331) (a := 377) D rfl rfl (by decide) rfl (s0_377 H) rfl (sf_171_377 H) fun D =>
      j_aldn (pc := 334) D rfl rfl rfl fun D =>
      j_gf (pc := 335) (a := 377) D rfl rfl (by decide) rfl (s0_377 H) rfl fun D =>
      j_ildn (pc := 338) D rfl rfl rfl fun D =>
      j_i2b (pc := 339) D rfl fun D =>
      j_as (pc := 340) (a := 389) (e := 8) D rfl ⟨rfl, rfl⟩ rfl (by decide) (s0_389 H) (s1_389 H) ⟨rfl, rfl, rfl⟩ rfl gn (gy (fk_rgB _)) fun h6 eh6 S qb7 D =>
      have T := fj_hs_ok H.1 S
      have H := shp_st H T
      j_aldn (pc := 341) D rfl rfl rfl fun D =>
      j_gfc (pc := 342) (a := 377) D rfl rfl (by decide) rfl (s0_377 H) rfl (sf_172_377 H) fun D =>
      j_bp (pc := 345) D rfl fun D =>
      have D : fk_D 209 [(347, none, .iload_n 2, 1, 0, 0, 0), (348, none, .imul, 1, 0, 0, 0), (349, none, .iload_n 3, 1, 0, 0, 0), (350, none, .iadd, 1, 0, 0, 0), (351, none, .dup2, 1, 0, 0, 0), (352, none, .baload, 1, 0, 0, 0), (353, none, .iconst 1, 1, 0, 1, 0), (354, none, .iadd, 1, 0, 0, 0), (355, none, .i2b, 1, 0, 0, 0), (356, none, .bastore, 1, 0, 0, 0), (357, none, .aload_n 0, 1, 0, 0, 0), (358, none, .dup, 1, 0, 0, 0), (359, none, .getfield 518, 3, 178, 115, 10), (362, none, .iconst 1, 1, 0, 1, 0), (363, none, .iadd, 1, 0, 0, 0), (364, none, .putfield 518, 3, 178, 115, 10)] := fq_of2 cd_209 ow_209 cl_209 rfl (pc := 347) (by decide +kernel)
      j_ildn (pc := 347) D rfl rfl rfl fun D =>
      j_imul (pc := 348) D rfl fun D =>
      j_ildn (pc := 349) D rfl rfl rfl fun D =>
      j_iadd (pc := 350) D rfl fun D =>
      j_sh (pc := 351) D rfl rfl rfl fun D =>
      j_al (pc := 352) (a := 390) (e := 8) D rfl rfl rfl (by decide) (s0_390 H) (s1_390 H) ⟨rfl, rfl, rfl⟩ rfl gn fun qb8 D =>
      j_ic (pc := 353) D rfl fun D =>
      j_iadd (pc := 354) D rfl fun D =>
      j_i2b (pc := 355) D rfl fun D =>
      j_as (pc := 356) (a := 390) (e := 8) D rfl ⟨rfl, rfl⟩ rfl (by decide) (s0_390 H) (s1_390 H) ⟨rfl, rfl, rfl⟩ rfl (gy qb8) (gy (fk_rgB _)) fun h9 eh9 S q D =>
      have T := fj_hs_ok H.1 S
      have H := shp_st H T
      j_aldn (pc := 357) D rfl rfl rfl fun D =>
      j_sh (pc := 358) D rfl rfl rfl fun D =>
      j_gf (pc := 359) (a := 377) D rfl rfl (by decide) rfl (s0_377 H) rfl fun D =>
      j_ic (pc := 362) D rfl fun D =>
      j_iadd (pc := 363) D rfl fun D =>
      j_pf (pc := 364) (a := 377) D rfl rfl rfl (s0_377 H) rfl rfl (gy (by decide)) (gy rfl) fun h10 eh10 S D =>
      have T := fj_hs_ok H.1 S
      have H := shp_st H T
      fk_jump cut_209_367 rfl rfl) (fun q3 h1 e1 =>
      j_tx (hx_209 _))
theorem e_209_367 (d : Nat) {h : fi_H} (H : Shp h) : c_209_367 d h =
  some (.inl none, h) := by
  unfold c_209_367
  exact
    have D : fk_D 209 [(367, some [], .return_, 1, 0, 0, 0)] := fq_of2 cd_209 ow_209 cl_209 rfl (pc := 367) (by decide +kernel)
    j_vret D rt_209
theorem m_209 (d : Nat) {h : fi_H} (H : Shp h) : fj_run (d + 1) 209 h [(4, 377)] =
  if 0 ≤ h 158 377 0 ∧ h 158 377 0 < 1202 then
  cv_ (fj_run d 205 h [(4, 377), (4, 205)])
    (fun h2 =>
    ca_ (fj_run d 188 h2 [(4, 377), (0, 0), (0, wI ((h2 216 303 0) - 1))]) 0
      (fun v6 h5 =>
      ca_ (fj_run d 210 h5 [(4, 377)]) 0
        (fun v9 h8 =>
        if wI ((h8 132 322 0) + (h8 178 377 0)) = 500 then
          c_209_92 d (h 9 379 (h 158 377 0).toNat) h8
        else
          if 0 ≤ wI ((wI (40 * v6)) + v9) ∧ wI ((wI (40 * v6)) + v9) < 1200 then
          if wI ((h8 8 340 (wI ((wI (40 * v6)) + v9)).toNat) + (h8 8 390 (wI ((wI (40 * v6)) + v9)).toNat)) = 16 then
            c_209_92 d (h 9 379 (h 158 377 0).toNat) h8
          else
            cv_ (fj_run d 166 h8 [(4, 377)])
              (fun h12 =>
              ca_ (fj_run d 162 h12 [(4, 377), (4, 219)]) 0
                (fun v16 h15 =>
                if 0 ≤ h12 178 377 0 ∧ h12 178 377 0 < 500 then
                if fi_rg 4 v16 = true then
                lt_ (fi_upd h15 4 391 (h12 178 377 0).toNat v16) fun h18 =>
                if 0 ≤ h18 178 377 0 ∧ h18 178 377 0 < 500 then
                if h18 4 391 (h18 178 377 0).toNat = 0 then
                  ca_ (fj_run d 162 h18 [(4, 377), (4, 261)]) 0
                    (fun v22 h21 =>
                    if v22 = 0 then
                      ca_ (fj_run d 164 h21 [(4, 377), (0, 1)]) 4
                        (fun v25 h24 =>
                        if v25 ≠ 0 then
                        tx_ v25.toNat h24
                        else none)
                        (fun q26 h24 => tx_ q26 h24)
                    else
                      c_209_150 d v6 v9 h21)
                    (fun q23 h21 => tx_ q23 h21)
                else
                  c_209_150 d v6 v9 h18
                else none
                else none
                else none)
                (fun q17 h15 => tx_ q17 h15))
              (fun q14 h12 => tx_ q14 h12)
          else none)
        (fun q10 h8 => tx_ q10 h8))
      (fun q7 h5 => tx_ q7 h5))
    (fun q4 h2 => tx_ q4 h2)
  else none := by
  rw [fj_run_eq d (by decide) h [(4, 377)] (Nat.le_of_ble_eq_true (by rw [nl_209]; rfl))]
  show gG (fj_run d) 209 0 [(0, (4, 377))] [] h = _
  exact
    have D : fk_D 209 [(0, none, .aload_n 0, 1, 0, 0, 0), (1, none, .getfield 19, 3, 150, 115, 12), (4, none, .aload_n 0, 1, 0, 0, 0), (5, none, .getfield 104, 3, 158, 115, 10), (8, none, .saload, 1, 0, 0, 0), (9, none, .istore_n 1, 1, 0, 0, 0), (10, none, .aload_n 0, 1, 0, 0, 0), (11, none, .ldc_w 270, 3, 4, 205, 0), (14, none, .invokevirtual 524, 3, 1, 280, 0), (17, none, .aload_n 0, 1, 0, 0, 0), (18, none, .iconst 0, 1, 0, 0, 0), (19, none, .aload_n 0, 1, 0, 0, 0), (20, none, .getfield 3, 3, 182, 115, 12), (23, none, .getfield 528, 3, 216, 100, 10), (26, none, .iconst 1, 1, 0, 1, 0), (27, none, .isub, 1, 0, 0, 0), (28, none, .invokevirtual 508, 3, 2, 277, 1), (31, none, .istore_n 2, 1, 0, 0, 0), (32, none, .aload_n 0, 1, 0, 0, 0), (33, none, .invokevirtual 531, 3, 0, 281, 1)] := fq_of2 cd_209 ow_209 cl_209 rfl (pc := 0) (by decide +kernel)
    j_aldn (pc := 0) D rfl rfl rfl fun D =>
    j_gfc (pc := 1) (a := 377) D rfl rfl (by decide) rfl (s0_377 H) rfl (sf_150_377 H) fun D =>
    j_aldn (pc := 4) D rfl rfl rfl fun D =>
    j_gf (pc := 5) (a := 377) D rfl rfl (by decide) rfl (s0_377 H) rfl fun D =>
    j_al (pc := 8) (a := 379) (e := 9) D rfl rfl rfl (by decide) (s0_379 H) (s1_379 H) ⟨rfl, rfl, rfl⟩ rfl gn fun qb1 D =>
    j_istn (pc := 9) (L' := [(1, (0, h 9 379 (h 158 377 0).toNat)), (0, (4, 377))]) D rfl nl_209 rfl rfl fun D =>
    j_aldn (pc := 10) D rfl rfl rfl fun D =>
    j_ldcw (pc := 11) D rfl fun D =>
    j_ivv (pc := 14) (m := 205) (dd := 280) (a := [(4, 205)]) (rest := []) D rfl rfl rfl rfl rfl (by decide) (s0_377 H) (by decide +kernel) (fun h2 e1 D =>
      have T := fj_run_ok _ _ _ _ _ _ H.1 e1
      have H := shp_st H T
      j_aldn (pc := 17) D rfl rfl rfl fun D =>
      j_ic (pc := 18) D rfl fun D =>
      j_aldn (pc := 19) D rfl rfl rfl fun D =>
      j_gfc (pc := 20) (a := 377) D rfl rfl (by decide) rfl (s0_377 H) rfl (sf_182_377 H) fun D =>
      j_gf (pc := 23) (a := 303) D rfl rfl (by decide) rfl (s0_303 H) rfl fun D =>
      j_ic (pc := 26) D rfl fun D =>
      j_isub (pc := 27) D rfl fun D =>
      j_iv (pc := 28) (m := 188) (dd := 277) (a := [(0, 0), (0, wI ((h2 216 303 0) - 1))]) (rest := []) D rfl rfl rfl rfl rfl (by decide) (s0_377 H) (by decide +kernel) (fun v6 h5 e1 D =>
        have T := fj_run_ok _ _ _ _ _ _ H.1 e1
        have H := shp_st H T
        j_istn (pc := 31) (L' := [(2, (0, v6)), (1, (0, h 9 379 (h 158 377 0).toNat)), (0, (4, 377))]) D rfl nl_209 rfl rfl fun D =>
        j_aldn (pc := 32) D rfl rfl rfl fun D =>
        j_iv (pc := 33) (m := 210) (dd := 281) (a := []) (rest := []) D rfl rfl rfl rfl rfl (by decide) (s0_377 H) (by decide +kernel) (fun v9 h8 e1 D =>
          have T := fj_run_ok _ _ _ _ _ _ H.1 e1
          have H := shp_st H T
          have D : fk_D 209 [(36, none, .istore_n 3, 1, 0, 0, 0), (37, none, .aload_n 0, 1, 0, 0, 0), (38, none, .getfield 3, 3, 182, 115, 12), (41, none, .getfield 534, 3, 218, 100, 12), (44, none, .getfield 538, 3, 132, 116, 10), (47, none, .aload_n 0, 1, 0, 0, 0), (48, none, .getfield 518, 3, 178, 115, 10), (51, none, .iadd, 1, 0, 0, 0), (52, none, .sipush 500, 3, 0, 500, 0), (55, none, .if_icmp .eq 37, 3, 92, 0, 0), (58, none, .aload_n 0, 1, 0, 0, 0), (59, none, .getfield 3, 3, 182, 115, 12), (62, none, .getfield 534, 3, 218, 100, 12), (65, none, .getfield 541, 3, 131, 116, 12), (68, none, .bipush 40, 2, 0, 40, 0), (70, none, .iload_n 2, 1, 0, 0, 0), (71, none, .imul, 1, 0, 0, 0), (72, none, .iload_n 3, 1, 0, 0, 0), (73, none, .iadd, 1, 0, 0, 0), (74, none, .baload, 1, 0, 0, 0)] := fq_of2 cd_209 ow_209 cl_209 rfl (pc := 36) (by decide +kernel)
          j_istn (pc := 36) (L' := [(3, (0, v9)), (2, (0, v6)), (1, (0, h 9 379 (h 158 377 0).toNat)), (0, (4, 377))]) D rfl nl_209 rfl rfl fun D =>
          j_aldn (pc := 37) D rfl rfl rfl fun D =>
          j_gfc (pc := 38) (a := 377) D rfl rfl (by decide) rfl (s0_377 H) rfl (sf_182_377 H) fun D =>
          j_gfc (pc := 41) (a := 303) D rfl rfl (by decide) rfl (s0_303 H) rfl (sf_218_303 H) fun D =>
          j_gf (pc := 44) (a := 322) D rfl rfl (by decide) rfl (s0_322 H) rfl fun D =>
          j_aldn (pc := 47) D rfl rfl rfl fun D =>
          j_gf (pc := 48) (a := 377) D rfl rfl (by decide) rfl (s0_377 H) rfl fun D =>
          j_iadd (pc := 51) D rfl fun D =>
          j_sp (pc := 52) D rfl fun D =>
          j_ieq (pc := 55) D rfl (fun q =>
            fk_jump cut_209_92 rfl rfl) (fun q D =>
            j_aldn (pc := 58) D rfl rfl rfl fun D =>
            j_gfc (pc := 59) (a := 377) D rfl rfl (by decide) rfl (s0_377 H) rfl (sf_182_377 H) fun D =>
            j_gfc (pc := 62) (a := 303) D rfl rfl (by decide) rfl (s0_303 H) rfl (sf_218_303 H) fun D =>
            j_gfc (pc := 65) (a := 322) D rfl rfl (by decide) rfl (s0_322 H) rfl (sf_131_322 H) fun D =>
            j_bp (pc := 68) D rfl fun D =>
            j_ildn (pc := 70) D rfl rfl rfl fun D =>
            j_imul (pc := 71) D rfl fun D =>
            j_ildn (pc := 72) D rfl rfl rfl fun D =>
            j_iadd (pc := 73) D rfl fun D =>
            j_al (pc := 74) (a := 340) (e := 8) D rfl rfl rfl (by decide) (s0_340 H) (s1_340 H) ⟨rfl, rfl, rfl⟩ rfl gn fun qb11 D =>
            have D : fk_D 209 [(75, none, .aload_n 0, 1, 0, 0, 0), (76, none, .getfield 66, 3, 172, 115, 12), (79, none, .bipush 40, 2, 0, 40, 0), (81, none, .iload_n 2, 1, 0, 0, 0), (82, none, .imul, 1, 0, 0, 0), (83, none, .iload_n 3, 1, 0, 0, 0), (84, none, .iadd, 1, 0, 0, 0), (85, none, .baload, 1, 0, 0, 0), (86, none, .iadd, 1, 0, 0, 0), (87, none, .bipush 16, 2, 0, 16, 0), (89, none, .if_icmp .ne 13, 3, 102, 0, 0)] := fq_of2 cd_209 ow_209 cl_209 rfl (pc := 75) (by decide +kernel)
            j_aldn (pc := 75) D rfl rfl rfl fun D =>
            j_gfc (pc := 76) (a := 377) D rfl rfl (by decide) rfl (s0_377 H) rfl (sf_172_377 H) fun D =>
            j_bp (pc := 79) D rfl fun D =>
            j_ildn (pc := 81) D rfl rfl rfl fun D =>
            j_imul (pc := 82) D rfl fun D =>
            j_ildn (pc := 83) D rfl rfl rfl fun D =>
            j_iadd (pc := 84) D rfl fun D =>
            j_al (pc := 85) (a := 390) (e := 8) D rfl rfl rfl (by decide) (s0_390 H) (s1_390 H) ⟨rfl, rfl, rfl⟩ rfl (gy qb11) fun q D =>
            j_iadd (pc := 86) D rfl fun D =>
            j_bp (pc := 87) D rfl fun D =>
            j_ine (pc := 89) D rfl (fun q D =>
              fk_jump cut_209_92 rfl rfl) (fun q =>
              have D : fk_D 209 [(102, none, .aload_n 0, 1, 0, 0, 0), (103, none, .invokevirtual 206, 3, 0, 261, 0), (106, none, .aload_n 0, 1, 0, 0, 0), (107, none, .getfield 69, 3, 173, 115, 12), (110, none, .aload_n 0, 1, 0, 0, 0), (111, none, .getfield 518, 3, 178, 115, 10), (114, none, .aload_n 0, 1, 0, 0, 0), (115, none, .ldc_w 296, 3, 4, 219, 0), (118, none, .invokevirtual 209, 3, 1, 262, 1), (121, none, .bastore, 1, 0, 0, 0), (122, none, .aload_n 0, 1, 0, 0, 0), (123, none, .getfield 69, 3, 173, 115, 12), (126, none, .aload_n 0, 1, 0, 0, 0), (127, none, .getfield 518, 3, 178, 115, 10), (130, none, .baload, 1, 0, 0, 0), (131, none, .ifCond .ne 19, 3, 150, 0, 0), (134, none, .aload_n 0, 1, 0, 0, 0), (135, none, .ldc_w 352, 3, 4, 261, 0), (138, none, .invokevirtual 209, 3, 1, 262, 1), (141, none, .ifCond .ne 9, 3, 150, 0, 0)] := fq_of2 cd_209 ow_209 cl_209 rfl (pc := 102) (by decide +kernel)
              j_aldn (pc := 102) D rfl rfl rfl fun D =>
              j_ivv (pc := 103) (m := 166) (dd := 261) (a := []) (rest := []) D rfl rfl rfl rfl rfl (by decide) (s0_377 H) (by decide +kernel) (fun h12 e1 D =>
                have T := fj_run_ok _ _ _ _ _ _ H.1 e1
                have H := shp_st H T
                j_aldn (pc := 106) D rfl rfl rfl fun D =>
                j_gfc (pc := 107) (a := 377) D rfl rfl (by decide) rfl (s0_377 H) rfl (sf_173_377 H) fun D =>
                j_aldn (pc := 110) D rfl rfl rfl fun D =>
                j_gf (pc := 111) (a := 377) D rfl rfl (by decide) rfl (s0_377 H) rfl fun D =>
                j_aldn (pc := 114) D rfl rfl rfl fun D =>
                j_ldcw (pc := 115) D rfl fun D =>
                j_iv (pc := 118) (m := 162) (dd := 262) (a := [(4, 219)]) (rest := [(0, h12 178 377 0), (4, 391)]) D rfl rfl rfl rfl rfl (by decide) (s0_377 H) (by decide +kernel) (fun v16 h15 e1 D =>
                  have T := fj_run_ok _ _ _ _ _ _ H.1 e1
                  have H := shp_st H T
                  j_as (pc := 121) (a := 391) (e := 4) D rfl ⟨rfl, rfl⟩ rfl (by decide) (s0_391 H) (s1_391 H) ⟨rfl, rfl, rfl⟩ rfl gn gn fun h18 eh18 S qb19 D =>
                  have T := fj_hs_ok H.1 S
                  have H := shp_st H T
                  j_aldn (pc := 122) D rfl rfl rfl fun D =>
                  j_gfc (pc := 123) (a := 377) D rfl rfl (by decide) rfl (s0_377 H) rfl (sf_173_377 H) fun D =>
                  j_aldn (pc := 126) D rfl rfl rfl fun D =>
                  j_gf (pc := 127) (a := 377) D rfl rfl (by decide) rfl (s0_377 H) rfl fun D =>
                  j_al (pc := 130) (a := 391) (e := 4) D rfl rfl rfl (by decide) (s0_391 H) (s1_391 H) ⟨rfl, rfl, rfl⟩ rfl gn fun qb20 D =>
                  j_ifne (pc := 131) D rfl (fun q D =>
                    j_aldn (pc := 134) D rfl rfl rfl fun D =>
                    j_ldcw (pc := 135) D rfl fun D =>
                    j_iv (pc := 138) (m := 162) (dd := 262) (a := [(4, 261)]) (rest := []) D rfl rfl rfl rfl rfl (by decide) (s0_377 H) (by decide +kernel) (fun v22 h21 e1 D =>
                      have T := fj_run_ok _ _ _ _ _ _ H.1 e1
                      have H := shp_st H T
                      j_ifne (pc := 141) D rfl (fun q D =>
                        have D : fk_D 209 [(144, none, .aload_n 0, 1, 0, 0, 0), (145, none, .iconst 1, 1, 0, 1, 0), (146, none, .invokevirtual 190, 3, 1, 258, 5), (149, none, .athrow, 1, 0, 0, 0)] := fq_of2 cd_209 ow_209 cl_209 rfl (pc := 144) (by decide +kernel)
                        j_aldn (pc := 144) D rfl rfl rfl fun D =>
                        j_ic (pc := 145) D rfl fun D =>
                        j_iv (pc := 146) (m := 164) (dd := 258) (a := [(0, 1)]) (rest := []) D rfl rfl rfl rfl rfl (by decide) (s0_377 H) (by decide +kernel) (fun v25 h24 e1 D =>
                          have T := fj_run_ok _ _ _ _ _ _ H.1 e1
                          have H := shp_st H T
                          j_at (pc := 149) D gn <|
                          j_tx (hx_209 _)) (fun q26 h24 e1 =>
                          j_tx (hx_209 _))) (fun q =>
                        fk_jump cut_209_150 rfl rfl)) (fun q23 h21 e1 =>
                      j_tx (hx_209 _))) (fun q =>
                    fk_jump cut_209_150 rfl rfl)) (fun q17 h15 e1 =>
                  j_tx (hx_209 _))) (fun q14 h12 e1 =>
                j_tx (hx_209 _))))) (fun q10 h8 e1 =>
          j_tx (hx_209 _))) (fun q7 h5 e1 =>
        j_tx (hx_209 _))) (fun q4 h2 e1 =>
      j_tx (hx_209 _))
/-! 210 StatuteHouse$Reader.factName()I -/
theorem cd_210 : fi_code 210 = prog_53_method_76_code := rfl
theorem hx_210 : ∀ pc, fi_hat 210 pc = none := fun pc => by unfold fi_hat; rw [show fi_hh 210 = [] from rfl]; rfl
theorem rt_210 : fi_ret 210 = some .int := rfl
theorem nl_210 : fi_nl 210 = 2 := rfl
theorem ow_210 : fi_ow 210 = 15 := rfl
theorem cl_210 : fj_cutT.getD 210 [] = [] := rfl
theorem m_210 (d : Nat) {h : fi_H} (H : Shp h) : fj_run (d + 1) 210 h [(4, 377)] =
  ca_ (fj_run d 211 h [(4, 377)]) 0
    (fun v2 h1 =>
    if 0 ≤ v2 ∧ v2 < 40 then
    dv_ (fi_vt 177 (h1 0 (h1 12 320 v2.toNat).toNat 0)) fun m8 => ca_ (fj_run d m8 h1 [(4, h1 12 320 v2.toNat)]) 0
      (fun v6 h5 =>
      if v6 = 0 then
        ca_ (fj_run d 164 h5 [(4, 377), (0, 2)]) 4
          (fun v10 h9 =>
          if v10 ≠ 0 then
          tx_ v10.toNat h9
          else none)
          (fun q11 h9 => tx_ q11 h9)
      else
        some (.inl (some (0, v2)), h5))
      (fun q7 h5 => tx_ q7 h5)
    else none)
    (fun q3 h1 => tx_ q3 h1) := by
  rw [fj_run_eq d (by decide) h [(4, 377)] (Nat.le_of_ble_eq_true (by rw [nl_210]; rfl))]
  show gG (fj_run d) 210 0 [(0, (4, 377))] [] h = _
  exact
    have D : fk_D 210 [(0, none, .aload_n 0, 1, 0, 0, 0), (1, none, .invokevirtual 632, 3, 0, 293, 1), (4, none, .istore_n 1, 1, 0, 0, 0), (5, none, .aload_n 0, 1, 0, 0, 0), (6, none, .getfield 3, 3, 182, 115, 12), (9, none, .getfield 368, 3, 214, 100, 12), (12, none, .iload_n 1, 1, 0, 0, 0), (13, none, .aaload, 1, 0, 0, 0), (14, none, .invokevirtual 876, 3, 0, 177, 1), (17, none, .ifCond .ne 9, 3, 26, 0, 0), (20, none, .aload_n 0, 1, 0, 0, 0), (21, none, .iconst 2, 1, 0, 2, 0), (22, none, .invokevirtual 190, 3, 1, 258, 5), (25, none, .athrow, 1, 0, 0, 0)] := fq_of2 cd_210 ow_210 cl_210 rfl (pc := 0) (by decide +kernel)
    j_aldn (pc := 0) D rfl rfl rfl fun D =>
    j_iv (pc := 1) (m := 211) (dd := 293) (a := []) (rest := []) D rfl rfl rfl rfl rfl (by decide) (s0_377 H) (by decide +kernel) (fun v2 h1 e1 D =>
      have T := fj_run_ok _ _ _ _ _ _ H.1 e1
      have H := shp_st H T
      j_istn (pc := 4) (L' := [(1, (0, v2)), (0, (4, 377))]) D rfl nl_210 rfl rfl fun D =>
      j_aldn (pc := 5) D rfl rfl rfl fun D =>
      j_gfc (pc := 6) (a := 377) D rfl rfl (by decide) rfl (s0_377 H) rfl (sf_182_377 H) fun D =>
      j_gfc (pc := 9) (a := 303) D rfl rfl (by decide) rfl (s0_303 H) rfl (sf_214_303 H) fun D =>
      j_ildn (pc := 12) D rfl rfl rfl fun D =>
      j_al (pc := 13) (a := 320) (e := 12) D rfl rfl rfl (by decide) (s0_320 H) (s1_320 H) ⟨rfl, rfl, rfl⟩ rfl gn fun qb4 D =>
      j_ivu (pc := 14) (dd := 177) (a := []) (rest := []) H.2.1 D rfl rfl rfl rfl rfl (fun m8 v6 h5 e1 D =>
        have T := fj_run_ok _ _ _ _ _ _ H.1 e1
        have H := shp_st H T
        j_ifne (pc := 17) D rfl (fun q D =>
          j_aldn (pc := 20) D rfl rfl rfl fun D =>
          j_ic (pc := 21) D rfl fun D =>
          j_iv (pc := 22) (m := 164) (dd := 258) (a := [(0, 2)]) (rest := []) D rfl rfl rfl rfl rfl (by decide) (s0_377 H) (by decide +kernel) (fun v10 h9 e1 D =>
            have T := fj_run_ok _ _ _ _ _ _ H.1 e1
            have H := shp_st H T
            j_at (pc := 25) D gn <|
            j_tx (hx_210 _)) (fun q11 h9 e1 =>
            j_tx (hx_210 _))) (fun q =>
          have D : fk_D 210 [(26, none, .iload_n 1, 1, 0, 0, 0), (27, none, .ireturn, 1, 0, 0, 0)] := fq_of2 cd_210 ow_210 cl_210 rfl (pc := 26) (by decide +kernel)
          j_ildn (pc := 26) D rfl rfl rfl fun D =>
          j_iret D rt_210)) (fun m8 q7 h5 e1 =>
        j_tx (hx_210 _))) (fun q3 h1 e1 =>
      j_tx (hx_210 _))
/-! 211 StatuteHouse$Reader.name()I -/
theorem cd_211 : fi_code 211 = prog_53_method_25_code := rfl
theorem hx_211 : ∀ pc, fi_hat 211 pc = none := fun pc => by unfold fi_hat; rw [show fi_hh 211 = [] from rfl]; rfl
theorem rt_211 : fi_ret 211 = some .int := rfl
theorem nl_211 : fi_nl 211 = 2 := rfl
theorem ow_211 : fi_ow 211 = 15 := rfl
theorem cl_211 : fj_cutT.getD 211 [] = [] := rfl
theorem m_211 (d : Nat) {h : fi_H} (H : Shp h) : fj_run (d + 1) 211 h [(4, 377)] =
  ca_ (fj_run d 167 h [(4, 377)]) 0
    (fun v2 h1 =>
    if v2 = 0 then
      ca_ (fj_run d 164 h1 [(4, 377), (0, 1)]) 4
        (fun v5 h4 =>
        if v5 ≠ 0 then
        tx_ v5.toNat h4
        else none)
        (fun q6 h4 => tx_ q6 h4)
    else
      if 0 ≤ h1 158 377 0 ∧ h1 158 377 0 < 1202 then
      ca_ (fj_run d 181 h1 [(4, 377), (4, h1 12 383 (h1 158 377 0).toNat)]) 0
        (fun v9 h8 =>
        if v9 = (-1) then
          ca_ (fj_run d 164 h8 [(4, 377), (0, 2)]) 4
            (fun v12 h11 =>
            if v12 ≠ 0 then
            tx_ v12.toNat h11
            else none)
            (fun q13 h11 => tx_ q13 h11)
        else
          some (.inl (some (0, v9)), h8))
        (fun q10 h8 => tx_ q10 h8)
      else none)
    (fun q3 h1 => tx_ q3 h1) := by
  rw [fj_run_eq d (by decide) h [(4, 377)] (Nat.le_of_ble_eq_true (by rw [nl_211]; rfl))]
  show gG (fj_run d) 211 0 [(0, (4, 377))] [] h = _
  exact
    have D : fk_D 211 [(0, none, .aload_n 0, 1, 0, 0, 0), (1, none, .invokevirtual 377, 3, 0, 266, 1), (4, none, .ifCond .ne 9, 3, 13, 0, 0), (7, none, .aload_n 0, 1, 0, 0, 0), (8, none, .iconst 1, 1, 0, 1, 0), (9, none, .invokevirtual 190, 3, 1, 258, 5), (12, none, .athrow, 1, 0, 0, 0)] := fq_of2 cd_211 ow_211 cl_211 rfl (pc := 0) (by decide +kernel)
    j_aldn (pc := 0) D rfl rfl rfl fun D =>
    j_iv (pc := 1) (m := 167) (dd := 266) (a := []) (rest := []) D rfl rfl rfl rfl rfl (by decide) (s0_377 H) (by decide +kernel) (fun v2 h1 e1 D =>
      have T := fj_run_ok _ _ _ _ _ _ H.1 e1
      have H := shp_st H T
      j_ifne (pc := 4) D rfl (fun q D =>
        j_aldn (pc := 7) D rfl rfl rfl fun D =>
        j_ic (pc := 8) D rfl fun D =>
        j_iv (pc := 9) (m := 164) (dd := 258) (a := [(0, 1)]) (rest := []) D rfl rfl rfl rfl rfl (by decide) (s0_377 H) (by decide +kernel) (fun v5 h4 e1 D =>
          have T := fj_run_ok _ _ _ _ _ _ H.1 e1
          have H := shp_st H T
          j_at (pc := 12) D gn <|
          j_tx (hx_211 _)) (fun q6 h4 e1 =>
          j_tx (hx_211 _))) (fun q =>
        have D : fk_D 211 [(13, none, .aload_n 0, 1, 0, 0, 0), (14, none, .aload_n 0, 1, 0, 0, 0), (15, none, .getfield 37, 3, 154, 115, 12), (18, none, .aload_n 0, 1, 0, 0, 0), (19, none, .getfield 104, 3, 158, 115, 10), (22, none, .aaload, 1, 0, 0, 0), (23, none, .invokevirtual 381, 3, 1, 267, 1), (26, none, .istore_n 1, 1, 0, 0, 0), (27, none, .iload_n 1, 1, 0, 0, 0), (28, none, .iconst (-1), 1, 0, (-1), 0), (29, none, .if_icmp .ne 9, 3, 38, 0, 0), (32, none, .aload_n 0, 1, 0, 0, 0), (33, none, .iconst 2, 1, 0, 2, 0), (34, none, .invokevirtual 190, 3, 1, 258, 5), (37, none, .athrow, 1, 0, 0, 0)] := fq_of2 cd_211 ow_211 cl_211 rfl (pc := 13) (by decide +kernel)
        j_aldn (pc := 13) D rfl rfl rfl fun D =>
        j_aldn (pc := 14) D rfl rfl rfl fun D =>
        j_gfc (pc := 15) (a := 377) D rfl rfl (by decide) rfl (s0_377 H) rfl (sf_154_377 H) fun D =>
        j_aldn (pc := 18) D rfl rfl rfl fun D =>
        j_gf (pc := 19) (a := 377) D rfl rfl (by decide) rfl (s0_377 H) rfl fun D =>
        j_al (pc := 22) (a := 383) (e := 12) D rfl rfl rfl (by decide) (s0_383 H) (s1_383 H) ⟨rfl, rfl, rfl⟩ rfl gn fun qb7 D =>
        j_iv (pc := 23) (m := 181) (dd := 267) (a := [(4, h1 12 383 (h1 158 377 0).toNat)]) (rest := []) D rfl rfl rfl rfl rfl (by decide) (s0_377 H) (by decide +kernel) (fun v9 h8 e1 D =>
          have T := fj_run_ok _ _ _ _ _ _ H.1 e1
          have H := shp_st H T
          j_istn (pc := 26) (L' := [(1, (0, v9)), (0, (4, 377))]) D rfl nl_211 rfl rfl fun D =>
          j_ildn (pc := 27) D rfl rfl rfl fun D =>
          j_ic (pc := 28) D rfl fun D =>
          j_ine (pc := 29) D rfl (fun q D =>
            j_aldn (pc := 32) D rfl rfl rfl fun D =>
            j_ic (pc := 33) D rfl fun D =>
            j_iv (pc := 34) (m := 164) (dd := 258) (a := [(0, 2)]) (rest := []) D rfl rfl rfl rfl rfl (by decide) (s0_377 H) (by decide +kernel) (fun v12 h11 e1 D =>
              have T := fj_run_ok _ _ _ _ _ _ H.1 e1
              have H := shp_st H T
              j_at (pc := 37) D gn <|
              j_tx (hx_211 _)) (fun q13 h11 e1 =>
              j_tx (hx_211 _))) (fun q =>
            have D : fk_D 211 [(38, none, .iload_n 1, 1, 0, 0, 0), (39, none, .ireturn, 1, 0, 0, 0)] := fq_of2 cd_211 ow_211 cl_211 rfl (pc := 38) (by decide +kernel)
            j_ildn (pc := 38) D rfl rfl rfl fun D =>
            j_iret D rt_211)) (fun q10 h8 e1 =>
          j_tx (hx_211 _)))) (fun q3 h1 e1 =>
      j_tx (hx_211 _))
/-! 212 StatuteHouse$Told.isFact()Z -/
theorem cd_212 : fi_code 212 = prog_63_method_2_code := rfl
theorem hx_212 : ∀ pc, fi_hat 212 pc = none := fun pc => by unfold fi_hat; rw [show fi_hh 212 = [] from rfl]; rfl
theorem rt_212 : fi_ret 212 = some .boolean := rfl
theorem nl_212 : fi_nl 212 = 1 := rfl
theorem ow_212 : fi_ow 212 = 24 := rfl
theorem cl_212 : fj_cutT.getD 212 [] = [] := rfl
theorem m_212 (d : Nat) (x0 : Int) {h : fi_H} (H : Shp h) (hk : h 0 x0.toNat 0 = 124) : fj_run (d + 1) 212 h [(4, x0)] =
  if h 322 x0.toNat 0 = 0 then
    if h 323 x0.toNat 0 = 0 then
      some (.inl (some (0, 1)), h)
    else
      some (.inl (some (0, 0)), h)
  else
    some (.inl (some (0, 0)), h) := by
  rw [fj_run_eq d (by decide) h [(4, x0)] (Nat.le_of_ble_eq_true (by rw [nl_212]; rfl))]
  show gG (fj_run d) 212 0 [(0, (4, x0))] [] h = _
  exact
    have D : fk_D 212 [(0, none, .aload_n 0, 1, 0, 0, 0), (1, none, .getfield 26, 3, 322, 124, 4), (4, none, .ifCond .ne 14, 3, 18, 0, 0), (7, none, .aload_n 0, 1, 0, 0, 0), (8, none, .getfield 30, 3, 323, 124, 4), (11, none, .ifCond .ne 7, 3, 18, 0, 0), (14, none, .iconst 1, 1, 0, 1, 0), (15, none, .goto 4, 3, 19, 0, 0)] := fq_of2 cd_212 ow_212 cl_212 rfl (pc := 0) (by decide +kernel)
    j_aldn (pc := 0) D rfl rfl rfl fun D =>
    j_gf (pc := 1) (a := x0.toNat) D rfl rfl (nz_cls H.2.1 hk (by decide)) rfl hk rfl fun D =>
    j_ifne (pc := 4) D rfl (fun q D =>
      j_aldn (pc := 7) D rfl rfl rfl fun D =>
      j_gf (pc := 8) (a := x0.toNat) D rfl rfl (nz_cls H.2.1 hk (by decide)) rfl hk rfl fun D =>
      j_ifne (pc := 11) D rfl (fun q D =>
        j_ic (pc := 14) D rfl fun D =>
        j_goto (pc := 15) D rfl <|
        have D : fk_D 212 [(19, none, .ireturn, 1, 0, 0, 0)] := fq_of2 cd_212 ow_212 cl_212 rfl (pc := 19) (by decide +kernel)
        j_zret D rt_212 (gy (by decide))) (fun q =>
        have D : fk_D 212 [(18, none, .iconst 0, 1, 0, 0, 0), (19, none, .ireturn, 1, 0, 0, 0)] := fq_of2 cd_212 ow_212 cl_212 rfl (pc := 18) (by decide +kernel)
        j_ic (pc := 18) D rfl fun D =>
        j_zret D rt_212 (gy (by decide)))) (fun q =>
      have D : fk_D 212 [(18, none, .iconst 0, 1, 0, 0, 0), (19, none, .ireturn, 1, 0, 0, 0)] := fq_of2 cd_212 ow_212 cl_212 rfl (pc := 18) (by decide +kernel)
      j_ic (pc := 18) D rfl fun D =>
      j_zret D rt_212 (gy (by decide)))
/-! 213 StatuteHouse$Reader.told(LStatuteHouse$Kind;)V -/
theorem cd_213 : fi_code 213 = prog_53_method_39_code := rfl
theorem hx_213 : ∀ pc, fi_hat 213 pc = none := fun pc => by unfold fi_hat; rw [show fi_hh 213 = [] from rfl]; rfl
theorem rt_213 : fi_ret 213 = none := rfl
theorem nl_213 : fi_nl 213 = 5 := rfl
theorem ow_213 : fi_ow 213 = 15 := rfl
theorem cl_213 : fj_cutT.getD 213 [] = [(53, [0, 1, 2, 3]), (54, [0, 1, 2, 3]), (79, [0, 1, 2, 3, 4]), (110, [0, 1, 3]), (134, [0, 1, 3]), (162, [0]), (166, [])] := rfl
theorem cut_213_53 : fj_cut 213 53 = some [0, 1, 2, 3] := by decide +kernel
noncomputable def c_213_53 (d : Nat) (x1 x2 x3 : Int) (h : fi_H) : fk_R := gG (fj_run d) 213 53 [(0, (4, 377)), (1, (4, x1)), (2, (0, x2)), (3, (0, x3))] [] h
theorem cut_213_54 : fj_cut 213 54 = some [0, 1, 2, 3] := by decide +kernel
noncomputable def c_213_54 (d : Nat) (x1 x2 x3 s0 : Int) (h : fi_H) : fk_R := gG (fj_run d) 213 54 [(0, (4, 377)), (1, (4, x1)), (2, (0, x2)), (3, (0, x3))] [(0, s0)] h
theorem cut_213_79 : fj_cut 213 79 = some [0, 1, 2, 3, 4] := by decide +kernel
noncomputable def c_213_79 (d : Nat) (x1 x2 x3 x4 : Int) (h : fi_H) : fk_R := gG (fj_run d) 213 79 [(0, (4, 377)), (1, (4, x1)), (2, (0, x2)), (3, (0, x3)), (4, (0, x4))] [] h
theorem cut_213_110 : fj_cut 213 110 = some [0, 1, 3] := by decide +kernel
noncomputable def c_213_110 (d : Nat) (x1 x3 : Int) (h : fi_H) : fk_R := gG (fj_run d) 213 110 [(0, (4, 377)), (1, (4, x1)), (3, (0, x3))] [] h
theorem cut_213_134 : fj_cut 213 134 = some [0, 1, 3] := by decide +kernel
noncomputable def c_213_134 (d : Nat) (x1 x3 s0 s1 s2 : Int) (h : fi_H) : fk_R := gG (fj_run d) 213 134 [(0, (4, 377)), (1, (4, x1)), (3, (0, x3))] [(1, s2), (0, s1), (4, s0)] h
theorem cut_213_162 : fj_cut 213 162 = some [0] := by decide +kernel
noncomputable def c_213_162 (d : Nat) (s0 s1 : Int) (h : fi_H) : fk_R := gG (fj_run d) 213 162 [(0, (4, 377))] [(0, s1), (4, s0)] h
theorem cut_213_166 : fj_cut 213 166 = some [] := by decide +kernel
noncomputable def c_213_166 (d : Nat) (s0 s1 s2 : Int) (h : fi_H) : fk_R := gG (fj_run d) 213 166 [] [(1, s2), (0, s1), (4, s0)] h
theorem e_213_53 (d : Nat) (x1 x2 x3 : Int) {h : fi_H} (H : Shp h) : c_213_53 d x1 x2 x3 h =
  c_213_54 d x1 x2 x3 0 h := by
  unfold c_213_53
  exact
    have D : fk_D 213 [(53, some [0, 1, 2, 3], .iconst 0, 1, 0, 0, 0)] := fq_of2 cd_213 ow_213 cl_213 rfl (pc := 53) (by decide +kernel)
    j_ic (pc := 53) D rfl fun D =>
    fk_jump cut_213_54 rfl rfl
theorem e_213_54 (d : Nat) (x1 x2 x3 s0 : Int) {h : fi_H} (H : Shp h) : c_213_54 d x1 x2 x3 s0 h =
  if h 167 377 0 = x1 then
    c_213_79 d x1 x2 x3 s0 h
  else
    if s0 = 0 then
      ca_ (fj_run d 165 h [(4, 303), (0, 5), (0, x2)]) 4
        (fun v2 h1 =>
        if v2 ≠ 0 then
        tx_ v2.toNat h1
        else none)
        (fun q3 h1 => tx_ q3 h1)
    else
      c_213_79 d x1 x2 x3 s0 h := by
  unfold c_213_54
  exact
    have D : fk_D 213 [(54, some [0, 1, 2, 3], .istore 4, 2, 0, 0, 0), (56, none, .aload_n 0, 1, 0, 0, 0), (57, none, .getfield 414, 3, 167, 115, 12), (60, none, .aload_n 1, 1, 0, 0, 0), (61, none, .if_acmp .eq 18, 3, 79, 0, 0), (64, none, .iload 4, 2, 0, 0, 0), (66, none, .ifCond .ne 13, 3, 79, 0, 0), (69, none, .aload_n 0, 1, 0, 0, 0), (70, none, .getfield 3, 3, 182, 115, 12), (73, none, .iconst 5, 1, 0, 5, 0), (74, none, .iload_n 2, 1, 0, 0, 0), (75, none, .invokevirtual 186, 3, 2, 257, 5), (78, none, .athrow, 1, 0, 0, 0)] := fq_of2 cd_213 ow_213 cl_213 rfl (pc := 54) (by decide +kernel)
    j_ist (pc := 54) (L' := [(4, (0, s0)), (0, (4, 377)), (1, (4, x1)), (2, (0, x2)), (3, (0, x3))]) D rfl nl_213 rfl rfl fun D =>
    j_aldn (pc := 56) D rfl rfl rfl fun D =>
    j_gf (pc := 57) (a := 377) D rfl rfl (by decide) rfl (s0_377 H) rfl fun D =>
    j_aldn (pc := 60) D rfl rfl rfl fun D =>
    j_aeq (pc := 61) D rfl (fun q =>
      fk_jump cut_213_79 rfl rfl) (fun q D =>
      j_ild (pc := 64) D rfl rfl rfl fun D =>
      j_ifne (pc := 66) D rfl (fun q D =>
        j_aldn (pc := 69) D rfl rfl rfl fun D =>
        j_gfc (pc := 70) (a := 377) D rfl rfl (by decide) rfl (s0_377 H) rfl (sf_182_377 H) fun D =>
        j_ic (pc := 73) D rfl fun D =>
        j_ildn (pc := 74) D rfl rfl rfl fun D =>
        j_iv (pc := 75) (m := 165) (dd := 257) (a := [(0, 5), (0, x2)]) (rest := []) D rfl rfl rfl rfl rfl (by decide) (s0_303 H) (by decide +kernel) (fun v2 h1 e1 D =>
          have T := fj_run_ok _ _ _ _ _ _ H.1 e1
          have H := shp_st H T
          j_at (pc := 78) D gn <|
          j_tx (hx_213 _)) (fun q3 h1 e1 =>
          j_tx (hx_213 _))) (fun q =>
        fk_jump cut_213_79 rfl rfl))
theorem e_213_79 (d : Nat) (x1 x2 x3 x4 : Int) {h : fi_H} (H : Shp h) : c_213_79 d x1 x2 x3 x4 h =
  if x4 = 0 then
    c_213_110 d x1 x3 h
  else
    if lc_ (h 168 377 0) (wI (h 216 303 0)) < 0 then
      c_213_110 d x1 x3 h
    else
      ca_ (fj_run d 165 h [(4, 303), (0, 3), (0, x2)]) 4
        (fun v2 h1 =>
        if v2 ≠ 0 then
        tx_ v2.toNat h1
        else none)
        (fun q3 h1 => tx_ q3 h1) := by
  unfold c_213_79
  exact
    have D : fk_D 213 [(79, some [0, 1, 2, 3, 4], .iload 4, 2, 0, 0, 0), (81, none, .ifCond .eq 29, 3, 110, 0, 0), (84, none, .aload_n 0, 1, 0, 0, 0), (85, none, .getfield 402, 3, 168, 115, 11), (88, none, .aload_n 0, 1, 0, 0, 0), (89, none, .getfield 3, 3, 182, 115, 12), (92, none, .getfield 528, 3, 216, 100, 10), (95, none, .i2l, 1, 0, 0, 0), (96, none, .lcmp, 1, 0, 0, 0), (97, none, .ifCond .lt 13, 3, 110, 0, 0), (100, none, .aload_n 0, 1, 0, 0, 0), (101, none, .getfield 3, 3, 182, 115, 12), (104, none, .iconst 3, 1, 0, 3, 0), (105, none, .iload_n 2, 1, 0, 0, 0), (106, none, .invokevirtual 186, 3, 2, 257, 5), (109, none, .athrow, 1, 0, 0, 0)] := fq_of2 cd_213 ow_213 cl_213 rfl (pc := 79) (by decide +kernel)
    j_ild (pc := 79) D rfl rfl rfl fun D =>
    j_ifeq (pc := 81) D rfl (fun q =>
      fk_jump cut_213_110 rfl rfl) (fun q D =>
      j_aldn (pc := 84) D rfl rfl rfl fun D =>
      j_gf (pc := 85) (a := 377) D rfl rfl (by decide) rfl (s0_377 H) rfl fun D =>
      j_aldn (pc := 88) D rfl rfl rfl fun D =>
      j_gfc (pc := 89) (a := 377) D rfl rfl (by decide) rfl (s0_377 H) rfl (sf_182_377 H) fun D =>
      j_gf (pc := 92) (a := 303) D rfl rfl (by decide) rfl (s0_303 H) rfl fun D =>
      j_i2l (pc := 95) D rfl fun D =>
      j_lcmp (pc := 96) D rfl fun D =>
      j_iflt (pc := 97) D rfl (fun q =>
        fk_jump cut_213_110 rfl rfl) (fun q D =>
        j_aldn (pc := 100) D rfl rfl rfl fun D =>
        j_gfc (pc := 101) (a := 377) D rfl rfl (by decide) rfl (s0_377 H) rfl (sf_182_377 H) fun D =>
        j_ic (pc := 104) D rfl fun D =>
        j_ildn (pc := 105) D rfl rfl rfl fun D =>
        j_iv (pc := 106) (m := 165) (dd := 257) (a := [(0, 3), (0, x2)]) (rest := []) D rfl rfl rfl rfl rfl (by decide) (s0_303 H) (by decide +kernel) (fun v2 h1 e1 D =>
          have T := fj_run_ok _ _ _ _ _ _ H.1 e1
          have H := shp_st H T
          j_at (pc := 109) D gn <|
          j_tx (hx_213 _)) (fun q3 h1 e1 =>
          j_tx (hx_213 _))))
theorem e_213_110 (d : Nat) (x1 x3 : Int) {h : fi_H} (H : Shp h) : c_213_110 d x1 x3 h =
  if x3 = 0 then
    c_213_134 d x1 x3 394 (h 178 377 0) (h 168 377 0) h
  else
    c_213_134 d x1 x3 394 (h 178 377 0) (wJ (-(h 168 377 0))) h := by
  unfold c_213_110
  exact
    have D : fk_D 213 [(110, some [0, 1, 3], .aload_n 0, 1, 0, 0, 0), (111, none, .getfield 79, 3, 176, 115, 12), (114, none, .aload_n 0, 1, 0, 0, 0), (115, none, .getfield 518, 3, 178, 115, 10), (118, none, .iload_n 3, 1, 0, 0, 0), (119, none, .ifCond .eq 11, 3, 130, 0, 0), (122, none, .aload_n 0, 1, 0, 0, 0), (123, none, .getfield 402, 3, 168, 115, 11), (126, none, .lneg, 1, 0, 0, 0), (127, none, .goto 7, 3, 134, 0, 0)] := fq_of2 cd_213 ow_213 cl_213 rfl (pc := 110) (by decide +kernel)
    j_aldn (pc := 110) D rfl rfl rfl fun D =>
    j_gfc (pc := 111) (a := 377) D rfl rfl (by decide) rfl (s0_377 H) rfl (sf_176_377 H) fun D =>
    j_aldn (pc := 114) D rfl rfl rfl fun D =>
    j_gf (pc := 115) (a := 377) D rfl rfl (by decide) rfl (s0_377 H) rfl fun D =>
    j_ildn (pc := 118) D rfl rfl rfl fun D =>
    j_ifeq (pc := 119) D rfl (fun q =>
      have D : fk_D 213 [(130, none, .aload_n 0, 1, 0, 0, 0), (131, none, .getfield 402, 3, 168, 115, 11)] := fq_of2 cd_213 ow_213 cl_213 rfl (pc := 130) (by decide +kernel)
      j_aldn (pc := 130) D rfl rfl rfl fun D =>
      j_gf (pc := 131) (a := 377) D rfl rfl (by decide) rfl (s0_377 H) rfl fun D =>
      fk_jump cut_213_134 rfl rfl) (fun q D =>
      j_aldn (pc := 122) D rfl rfl rfl fun D =>
      j_gf (pc := 123) (a := 377) D rfl rfl (by decide) rfl (s0_377 H) rfl fun D =>
      j_lneg (pc := 126) D rfl fun D =>
      j_goto (pc := 127) D rfl <|
      fk_jump cut_213_134 rfl rfl)
theorem e_213_134 (d : Nat) (x1 x3 s0 s1 s2 : Int) {h : fi_H} (H : Shp h) : c_213_134 d x1 x3 s0 s1 s2 h =
  if 302 < s0 ∧ h 0 s0.toNat 0 = 11 then
  if 0 ≤ s1 ∧ s1 < h 1 s0.toNat 0 then
  lt_ (fi_upd h 11 s0.toNat s1.toNat s2) fun h1 =>
  if x3 = 0 then
    c_213_162 d 395 (h1 178 377 0) h1
  else
    if x1 = 7 then
      c_213_166 d 395 (h1 178 377 0) (wJ (-(h1 169 377 0))) h1
    else
      c_213_162 d 395 (h1 178 377 0) h1
  else none
  else none := by
  unfold c_213_134
  exact
    have D : fk_D 213 [(134, some [0, 1, 3], .lastore, 1, 0, 0, 0), (135, none, .aload_n 0, 1, 0, 0, 0), (136, none, .getfield 82, 3, 177, 115, 12), (139, none, .aload_n 0, 1, 0, 0, 0), (140, none, .getfield 518, 3, 178, 115, 10), (143, none, .iload_n 3, 1, 0, 0, 0), (144, none, .ifCond .eq 18, 3, 162, 0, 0), (147, none, .aload_n 1, 1, 0, 0, 0), (148, none, .getstatic 423, 3, 4, 7, 0), (151, none, .if_acmp .ne 11, 3, 162, 0, 0), (154, none, .aload_n 0, 1, 0, 0, 0), (155, none, .getfield 405, 3, 169, 115, 11), (158, none, .lneg, 1, 0, 0, 0), (159, none, .goto 7, 3, 166, 0, 0)] := fq_of2 cd_213 ow_213 cl_213 rfl (pc := 134) (by decide +kernel)
    j_asu (pc := 134) (e := 11) D rfl rfl ⟨rfl, rfl, rfl⟩ rfl gn gn (gy rfl) fun h1 eh1 S q q2 D =>
    have T := fj_hs_ok H.1 S
    have H := shp_st H T
    j_aldn (pc := 135) D rfl rfl rfl fun D =>
    j_gfc (pc := 136) (a := 377) D rfl rfl (by decide) rfl (s0_377 H) rfl (sf_177_377 H) fun D =>
    j_aldn (pc := 139) D rfl rfl rfl fun D =>
    j_gf (pc := 140) (a := 377) D rfl rfl (by decide) rfl (s0_377 H) rfl fun D =>
    j_ildn (pc := 143) D rfl rfl rfl fun D =>
    j_ifeq (pc := 144) D rfl (fun q =>
      fk_jump cut_213_162 rfl rfl) (fun q D =>
      j_aldn (pc := 147) D rfl rfl rfl fun D =>
      j_gs (pc := 148) D rfl fun D =>
      j_ane (pc := 151) D rfl (fun q D =>
        j_aldn (pc := 154) D rfl rfl rfl fun D =>
        j_gf (pc := 155) (a := 377) D rfl rfl (by decide) rfl (s0_377 H) rfl fun D =>
        j_lneg (pc := 158) D rfl fun D =>
        j_goto (pc := 159) D rfl <|
        fk_jump cut_213_166 rfl rfl) (fun q =>
        fk_jump cut_213_162 rfl rfl))
theorem e_213_162 (d : Nat) (s0 s1 : Int) {h : fi_H} (H : Shp h) : c_213_162 d s0 s1 h =
  c_213_166 d s0 s1 (h 169 377 0) h := by
  unfold c_213_162
  exact
    have D : fk_D 213 [(162, some [0], .aload_n 0, 1, 0, 0, 0), (163, none, .getfield 405, 3, 169, 115, 11)] := fq_of2 cd_213 ow_213 cl_213 rfl (pc := 162) (by decide +kernel)
    j_aldn (pc := 162) D rfl rfl rfl fun D =>
    j_gf (pc := 163) (a := 377) D rfl rfl (by decide) rfl (s0_377 H) rfl fun D =>
    fk_jump cut_213_166 rfl rfl
theorem e_213_166 (d : Nat) (s0 s1 s2 : Int) {h : fi_H} (H : Shp h) : c_213_166 d s0 s1 s2 h =
  if 302 < s0 ∧ h 0 s0.toNat 0 = 11 then
  if 0 ≤ s1 ∧ s1 < h 1 s0.toNat 0 then
  lt_ (fi_upd h 11 s0.toNat s1.toNat s2) fun h1 =>
  some (.inl none, h1)
  else none
  else none := by
  unfold c_213_166
  exact
    have D : fk_D 213 [(166, some [], .lastore, 1, 0, 0, 0), (167, none, .return_, 1, 0, 0, 0)] := fq_of2 cd_213 ow_213 cl_213 rfl (pc := 166) (by decide +kernel)
    j_asu (pc := 166) (e := 11) D rfl rfl ⟨rfl, rfl, rfl⟩ rfl gn gn (gy rfl) fun h1 eh1 S q q2 D =>
    have T := fj_hs_ok H.1 S
    have H := shp_st H T
    j_vret D rt_213
theorem m_213 (d : Nat) (x1 : Int) {h : fi_H} (H : Shp h) : fj_run (d + 1) 213 h [(4, 377), (4, x1)] =
  if 0 ≤ h 158 377 0 ∧ h 158 377 0 < 1202 then
  ca_ (fj_run d 190 h [(4, 377)]) 0
    (fun v3 h2 =>
    ca_ (fj_run d 191 h2 [(4, 377)]) 0
      (fun v6 h5 =>
      if v6 = 0 then
        ca_ (fj_run d 164 h5 [(4, 377), (0, 1)]) 4
          (fun v9 h8 =>
          if v9 ≠ 0 then
          tx_ v9.toNat h8
          else none)
          (fun q10 h8 => tx_ q10 h8)
      else
        if x1 = 9 then
          if h5 167 377 0 = 3 then
            if v3 = 0 then
              c_213_54 d x1 (h 9 379 (h 158 377 0).toNat) v3 1 h5
            else
              c_213_53 d x1 (h 9 379 (h 158 377 0).toNat) v3 h5
          else
            c_213_53 d x1 (h 9 379 (h 158 377 0).toNat) v3 h5
        else
          c_213_53 d x1 (h 9 379 (h 158 377 0).toNat) v3 h5)
      (fun q7 h5 => tx_ q7 h5))
    (fun q4 h2 => tx_ q4 h2)
  else none := by
  rw [fj_run_eq d (by decide) h [(4, 377), (4, x1)] (Nat.le_of_ble_eq_true (by rw [nl_213]; rfl))]
  show gG (fj_run d) 213 0 [(0, (4, 377)), (1, (4, x1))] [] h = _
  exact
    have D : fk_D 213 [(0, none, .aload_n 0, 1, 0, 0, 0), (1, none, .getfield 19, 3, 150, 115, 12), (4, none, .aload_n 0, 1, 0, 0, 0), (5, none, .getfield 104, 3, 158, 115, 10), (8, none, .saload, 1, 0, 0, 0), (9, none, .istore_n 2, 1, 0, 0, 0), (10, none, .aload_n 0, 1, 0, 0, 0), (11, none, .invokevirtual 442, 3, 0, 271, 1), (14, none, .istore_n 3, 1, 0, 0, 0), (15, none, .aload_n 0, 1, 0, 0, 0), (16, none, .invokevirtual 445, 3, 0, 272, 1), (19, none, .ifCond .ne 9, 3, 28, 0, 0), (22, none, .aload_n 0, 1, 0, 0, 0), (23, none, .iconst 1, 1, 0, 1, 0), (24, none, .invokevirtual 190, 3, 1, 258, 5), (27, none, .athrow, 1, 0, 0, 0)] := fq_of2 cd_213 ow_213 cl_213 rfl (pc := 0) (by decide +kernel)
    j_aldn (pc := 0) D rfl rfl rfl fun D =>
    j_gfc (pc := 1) (a := 377) D rfl rfl (by decide) rfl (s0_377 H) rfl (sf_150_377 H) fun D =>
    j_aldn (pc := 4) D rfl rfl rfl fun D =>
    j_gf (pc := 5) (a := 377) D rfl rfl (by decide) rfl (s0_377 H) rfl fun D =>
    j_al (pc := 8) (a := 379) (e := 9) D rfl rfl rfl (by decide) (s0_379 H) (s1_379 H) ⟨rfl, rfl, rfl⟩ rfl gn fun qb1 D =>
    j_istn (pc := 9) (L' := [(2, (0, h 9 379 (h 158 377 0).toNat)), (0, (4, 377)), (1, (4, x1))]) D rfl nl_213 rfl rfl fun D =>
    j_aldn (pc := 10) D rfl rfl rfl fun D =>
    j_iv (pc := 11) (m := 190) (dd := 271) (a := []) (rest := []) D rfl rfl rfl rfl rfl (by decide) (s0_377 H) (by decide +kernel) (fun v3 h2 e1 D =>
      have T := fj_run_ok _ _ _ _ _ _ H.1 e1
      have H := shp_st H T
      j_istn (pc := 14) (L' := [(3, (0, v3)), (2, (0, h 9 379 (h 158 377 0).toNat)), (0, (4, 377)), (1, (4, x1))]) D rfl nl_213 rfl rfl fun D =>
      j_aldn (pc := 15) D rfl rfl rfl fun D =>
      j_iv (pc := 16) (m := 191) (dd := 272) (a := []) (rest := []) D rfl rfl rfl rfl rfl (by decide) (s0_377 H) (by decide +kernel) (fun v6 h5 e1 D =>
        have T := fj_run_ok _ _ _ _ _ _ H.1 e1
        have H := shp_st H T
        j_ifne (pc := 19) D rfl (fun q D =>
          j_aldn (pc := 22) D rfl rfl rfl fun D =>
          j_ic (pc := 23) D rfl fun D =>
          j_iv (pc := 24) (m := 164) (dd := 258) (a := [(0, 1)]) (rest := []) D rfl rfl rfl rfl rfl (by decide) (s0_377 H) (by decide +kernel) (fun v9 h8 e1 D =>
            have T := fj_run_ok _ _ _ _ _ _ H.1 e1
            have H := shp_st H T
            j_at (pc := 27) D gn <|
            j_tx (hx_213 _)) (fun q10 h8 e1 =>
            j_tx (hx_213 _))) (fun q =>
          have D : fk_D 213 [(28, none, .aload_n 1, 1, 0, 0, 0), (29, none, .getstatic 464, 3, 4, 9, 0), (32, none, .if_acmp .ne 21, 3, 53, 0, 0), (35, none, .aload_n 0, 1, 0, 0, 0), (36, none, .getfield 414, 3, 167, 115, 12), (39, none, .getstatic 408, 3, 4, 3, 0), (42, none, .if_acmp .ne 11, 3, 53, 0, 0), (45, none, .iload_n 3, 1, 0, 0, 0), (46, none, .ifCond .ne 7, 3, 53, 0, 0), (49, none, .iconst 1, 1, 0, 1, 0), (50, none, .goto 4, 3, 54, 0, 0)] := fq_of2 cd_213 ow_213 cl_213 rfl (pc := 28) (by decide +kernel)
          j_aldn (pc := 28) D rfl rfl rfl fun D =>
          j_gs (pc := 29) D rfl fun D =>
          j_ane (pc := 32) D rfl (fun q D =>
            j_aldn (pc := 35) D rfl rfl rfl fun D =>
            j_gf (pc := 36) (a := 377) D rfl rfl (by decide) rfl (s0_377 H) rfl fun D =>
            j_gs (pc := 39) D rfl fun D =>
            j_ane (pc := 42) D rfl (fun q D =>
              j_ildn (pc := 45) D rfl rfl rfl fun D =>
              j_ifne (pc := 46) D rfl (fun q D =>
                j_ic (pc := 49) D rfl fun D =>
                j_goto (pc := 50) D rfl <|
                fk_jump cut_213_54 rfl rfl) (fun q =>
                fk_jump cut_213_53 rfl rfl)) (fun q =>
              fk_jump cut_213_53 rfl rfl)) (fun q =>
            fk_jump cut_213_53 rfl rfl))) (fun q7 h5 e1 =>
        j_tx (hx_213 _))) (fun q4 h2 e1 =>
      j_tx (hx_213 _))
/-! 214 StatuteHouse$Records.add(IIII)I -/
theorem cd_214 : fi_code 214 = prog_54_method_3_code := rfl
theorem hx_214 : ∀ pc, fi_hat 214 pc = none := fun pc => by unfold fi_hat; rw [show fi_hh 214 = [] from rfl]; rfl
theorem rt_214 : fi_ret 214 = some .int := rfl
theorem nl_214 : fi_nl 214 = 6 := rfl
theorem ow_214 : fi_ow 214 = 16 := rfl
theorem cl_214 : fj_cutT.getD 214 [] = [(64, [0, 5])] := rfl
theorem cut_214_64 : fj_cut 214 64 = some [0, 5] := by decide +kernel
noncomputable def c_214_64 (d : Nat) (x5 : Int) (h : fi_H) : fk_R := gG (fj_run d) 214 64 [(0, (4, 322)), (5, (0, x5))] [] h
theorem e_214_64 (d : Nat) (x5 : Int) {h : fi_H} (H : Shp h) : c_214_64 d x5 h =
  if 0 ≤ x5 ∧ x5 < 1200 then
  lt_ (fi_upd h 9 339 x5.toNat (wS (h 132 322 0))) fun h1 =>
  lt_ (fi_upd h1 8 340 x5.toNat (wB (wI ((h1 8 340 x5.toNat) + 1)))) fun h3 =>
  lt_ (fi_upd h3 132 322 0 (wI ((h3 132 322 0) + 1))) fun h4 =>
  some (.inl (some (0, wI ((h4 132 322 0) - 1))), h4)
  else none := by
  unfold c_214_64
  exact
    have D : fk_D 214 [(64, some [0, 5], .aload_n 0, 1, 0, 0, 0), (65, none, .getfield 42, 3, 130, 116, 12), (68, none, .iload 5, 2, 0, 0, 0), (70, none, .aload_n 0, 1, 0, 0, 0), (71, none, .getfield 49, 3, 132, 116, 10), (74, none, .i2s, 1, 0, 0, 0), (75, none, .sastore, 1, 0, 0, 0), (76, none, .aload_n 0, 1, 0, 0, 0), (77, none, .getfield 45, 3, 131, 116, 12), (80, none, .iload 5, 2, 0, 0, 0), (82, none, .dup2, 1, 0, 0, 0), (83, none, .baload, 1, 0, 0, 0), (84, none, .iconst 1, 1, 0, 1, 0), (85, none, .iadd, 1, 0, 0, 0), (86, none, .i2b, 1, 0, 0, 0), (87, none, .bastore, 1, 0, 0, 0), (88, none, .aload_n 0, 1, 0, 0, 0), (89, none, .dup, 1, 0, 0, 0), (90, none, .getfield 49, 3, 132, 116, 10), (93, none, .iconst 1, 1, 0, 1, 0)] := fq_of2 cd_214 ow_214 cl_214 rfl (pc := 64) (by decide +kernel)
    j_aldn (pc := 64) D rfl rfl rfl fun D =>
    j_gfc (pc := 65) (a := 322) D rfl rfl (by decide) rfl (s0_322 H) rfl (sf_130_322 H) fun D =>
    j_ild (pc := 68) D rfl rfl rfl fun D =>
    j_aldn (pc := 70) D rfl rfl rfl fun D =>
    j_gf (pc := 71) (a := 322) D rfl rfl (by decide) rfl (s0_322 H) rfl fun D =>
    j_i2s (pc := 74) D rfl fun D =>
    j_as (pc := 75) (a := 339) (e := 9) D rfl ⟨rfl, rfl⟩ rfl (by decide) (s0_339 H) (s1_339 H) ⟨rfl, rfl, rfl⟩ rfl gn (gy (fk_rgS _)) fun h1 eh1 S qb2 D =>
    have T := fj_hs_ok H.1 S
    have H := shp_st H T
    j_aldn (pc := 76) D rfl rfl rfl fun D =>
    j_gfc (pc := 77) (a := 322) D rfl rfl (by decide) rfl (s0_322 H) rfl (sf_131_322 H) fun D =>
    j_ild (pc := 80) D rfl rfl rfl fun D =>
    j_sh (pc := 82) D rfl rfl rfl fun D =>
    j_al (pc := 83) (a := 340) (e := 8) D rfl rfl rfl (by decide) (s0_340 H) (s1_340 H) ⟨rfl, rfl, rfl⟩ rfl (gy qb2) fun q D =>
    j_ic (pc := 84) D rfl fun D =>
    j_iadd (pc := 85) D rfl fun D =>
    j_i2b (pc := 86) D rfl fun D =>
    j_as (pc := 87) (a := 340) (e := 8) D rfl ⟨rfl, rfl⟩ rfl (by decide) (s0_340 H) (s1_340 H) ⟨rfl, rfl, rfl⟩ rfl (gy qb2) (gy (fk_rgB _)) fun h3 eh3 S q D =>
    have T := fj_hs_ok H.1 S
    have H := shp_st H T
    j_aldn (pc := 88) D rfl rfl rfl fun D =>
    j_sh (pc := 89) D rfl rfl rfl fun D =>
    j_gf (pc := 90) (a := 322) D rfl rfl (by decide) rfl (s0_322 H) rfl fun D =>
    j_ic (pc := 93) D rfl fun D =>
    have D : fk_D 214 [(94, none, .iadd, 1, 0, 0, 0), (95, none, .putfield 49, 3, 132, 116, 10), (98, none, .aload_n 0, 1, 0, 0, 0), (99, none, .getfield 49, 3, 132, 116, 10), (102, none, .iconst 1, 1, 0, 1, 0), (103, none, .isub, 1, 0, 0, 0), (104, none, .ireturn, 1, 0, 0, 0)] := fq_of2 cd_214 ow_214 cl_214 rfl (pc := 94) (by decide +kernel)
    j_iadd (pc := 94) D rfl fun D =>
    j_pf (pc := 95) (a := 322) D rfl rfl rfl (s0_322 H) rfl rfl (gy (by decide)) (gy rfl) fun h4 eh4 S D =>
    have T := fj_hs_ok H.1 S
    have H := shp_st H T
    j_aldn (pc := 98) D rfl rfl rfl fun D =>
    j_gf (pc := 99) (a := 322) D rfl rfl (by decide) rfl (s0_322 H) rfl fun D =>
    j_ic (pc := 102) D rfl fun D =>
    j_isub (pc := 103) D rfl fun D =>
    j_iret D rt_214
theorem m_214 (d : Nat) (x1 x2 x3 x4 : Int) {h : fi_H} (H : Shp h) : fj_run (d + 1) 214 h [(4, 322), (0, x1), (0, x2), (0, x3), (0, x4)] =
  if 0 ≤ h 132 322 0 ∧ h 132 322 0 < 500 then
  lt_ (fi_upd h 5 335 (h 132 322 0).toNat (wC x3)) fun h1 =>
  if 0 ≤ h1 132 322 0 ∧ h1 132 322 0 < 500 then
  lt_ (fi_upd h1 5 336 (h1 132 322 0).toNat (wC x4)) fun h3 =>
  if 0 ≤ h3 132 322 0 ∧ h3 132 322 0 < 500 then
  lt_ (fi_upd h3 5 337 (h3 132 322 0).toNat (wC (h3 239 303 0))) fun h5 =>
  if 0 ≤ wI ((wI (40 * x1)) + x2) ∧ wI ((wI (40 * x1)) + x2) < 1200 then
  if 0 ≤ h5 132 322 0 ∧ h5 132 322 0 < 500 then
  if fi_rg 9 (h5 9 339 (wI ((wI (40 * x1)) + x2)).toNat) = true then
  lt_ (fi_upd h5 9 338 (h5 132 322 0).toNat (h5 9 339 (wI ((wI (40 * x1)) + x2)).toNat)) fun h8 =>
  c_214_64 d (wI ((wI (40 * x1)) + x2)) h8
  else none
  else none
  else none
  else none
  else none
  else none := by
  rw [fj_run_eq d (by decide) h [(4, 322), (0, x1), (0, x2), (0, x3), (0, x4)] (Nat.le_of_ble_eq_true (by rw [nl_214]; rfl))]
  show gG (fj_run d) 214 0 [(0, (4, 322)), (1, (0, x1)), (2, (0, x2)), (3, (0, x3)), (4, (0, x4))] [] h = _
  exact
    have D : fk_D 214 [(0, none, .bipush 40, 2, 0, 40, 0), (2, none, .iload_n 1, 1, 0, 0, 0), (3, none, .imul, 1, 0, 0, 0), (4, none, .iload_n 2, 1, 0, 0, 0), (5, none, .iadd, 1, 0, 0, 0), (6, none, .istore 5, 2, 0, 0, 0), (8, none, .aload_n 0, 1, 0, 0, 0), (9, none, .getfield 28, 3, 126, 116, 12), (12, none, .aload_n 0, 1, 0, 0, 0), (13, none, .getfield 49, 3, 132, 116, 10), (16, none, .iload_n 3, 1, 0, 0, 0), (17, none, .i2c, 1, 0, 0, 0), (18, none, .castore, 1, 0, 0, 0), (19, none, .aload_n 0, 1, 0, 0, 0), (20, none, .getfield 32, 3, 127, 116, 12), (23, none, .aload_n 0, 1, 0, 0, 0), (24, none, .getfield 49, 3, 132, 116, 10), (27, none, .iload 4, 2, 0, 0, 0), (29, none, .i2c, 1, 0, 0, 0), (30, none, .castore, 1, 0, 0, 0)] := fq_of2 cd_214 ow_214 cl_214 rfl (pc := 0) (by decide +kernel)
    j_bp (pc := 0) D rfl fun D =>
    j_ildn (pc := 2) D rfl rfl rfl fun D =>
    j_imul (pc := 3) D rfl fun D =>
    j_ildn (pc := 4) D rfl rfl rfl fun D =>
    j_iadd (pc := 5) D rfl fun D =>
    j_ist (pc := 6) (L' := [(5, (0, wI ((wI (40 * x1)) + x2))), (0, (4, 322)), (1, (0, x1)), (2, (0, x2)), (3, (0, x3)), (4, (0, x4))]) D rfl nl_214 rfl rfl fun D =>
    j_aldn (pc := 8) D rfl rfl rfl fun D =>
    j_gfc (pc := 9) (a := 322) D rfl rfl (by decide) rfl (s0_322 H) rfl (sf_126_322 H) fun D =>
    j_aldn (pc := 12) D rfl rfl rfl fun D =>
    j_gf (pc := 13) (a := 322) D rfl rfl (by decide) rfl (s0_322 H) rfl fun D =>
    j_ildn (pc := 16) D rfl rfl rfl fun D =>
    j_i2c (pc := 17) D rfl fun D =>
    j_as (pc := 18) (a := 335) (e := 5) D rfl ⟨rfl, rfl⟩ rfl (by decide) (s0_335 H) (s1_335 H) ⟨rfl, rfl, rfl⟩ rfl gn (gy (fk_rgC _)) fun h1 eh1 S qb2 D =>
    have T := fj_hs_ok H.1 S
    have H := shp_st H T
    j_aldn (pc := 19) D rfl rfl rfl fun D =>
    j_gfc (pc := 20) (a := 322) D rfl rfl (by decide) rfl (s0_322 H) rfl (sf_127_322 H) fun D =>
    j_aldn (pc := 23) D rfl rfl rfl fun D =>
    j_gf (pc := 24) (a := 322) D rfl rfl (by decide) rfl (s0_322 H) rfl fun D =>
    j_ild (pc := 27) D rfl rfl rfl fun D =>
    j_i2c (pc := 29) D rfl fun D =>
    j_as (pc := 30) (a := 336) (e := 5) D rfl ⟨rfl, rfl⟩ rfl (by decide) (s0_336 H) (s1_336 H) ⟨rfl, rfl, rfl⟩ rfl gn (gy (fk_rgC _)) fun h3 eh3 S qb4 D =>
    have T := fj_hs_ok H.1 S
    have H := shp_st H T
    have D : fk_D 214 [(31, none, .aload_n 0, 1, 0, 0, 0), (32, none, .getfield 35, 3, 128, 116, 12), (35, none, .aload_n 0, 1, 0, 0, 0), (36, none, .getfield 49, 3, 132, 116, 10), (39, none, .aload_n 0, 1, 0, 0, 0), (40, none, .getfield 3, 3, 133, 116, 12), (43, none, .getfield 53, 3, 239, 100, 10), (46, none, .i2c, 1, 0, 0, 0), (47, none, .castore, 1, 0, 0, 0), (48, none, .aload_n 0, 1, 0, 0, 0), (49, none, .getfield 38, 3, 129, 116, 12), (52, none, .aload_n 0, 1, 0, 0, 0), (53, none, .getfield 49, 3, 132, 116, 10), (56, none, .aload_n 0, 1, 0, 0, 0), (57, none, .getfield 42, 3, 130, 116, 12), (60, none, .iload 5, 2, 0, 0, 0), (62, none, .saload, 1, 0, 0, 0), (63, none, .sastore, 1, 0, 0, 0)] := fq_of2 cd_214 ow_214 cl_214 rfl (pc := 31) (by decide +kernel)
    j_aldn (pc := 31) D rfl rfl rfl fun D =>
    j_gfc (pc := 32) (a := 322) D rfl rfl (by decide) rfl (s0_322 H) rfl (sf_128_322 H) fun D =>
    j_aldn (pc := 35) D rfl rfl rfl fun D =>
    j_gf (pc := 36) (a := 322) D rfl rfl (by decide) rfl (s0_322 H) rfl fun D =>
    j_aldn (pc := 39) D rfl rfl rfl fun D =>
    j_gfc (pc := 40) (a := 322) D rfl rfl (by decide) rfl (s0_322 H) rfl (sf_133_322 H) fun D =>
    j_gf (pc := 43) (a := 303) D rfl rfl (by decide) rfl (s0_303 H) rfl fun D =>
    j_i2c (pc := 46) D rfl fun D =>
    j_as (pc := 47) (a := 337) (e := 5) D rfl ⟨rfl, rfl⟩ rfl (by decide) (s0_337 H) (s1_337 H) ⟨rfl, rfl, rfl⟩ rfl gn (gy (fk_rgC _)) fun h5 eh5 S qb6 D =>
    have T := fj_hs_ok H.1 S
    have H := shp_st H T
    j_aldn (pc := 48) D rfl rfl rfl fun D =>
    j_gfc (pc := 49) (a := 322) D rfl rfl (by decide) rfl (s0_322 H) rfl (sf_129_322 H) fun D =>
    j_aldn (pc := 52) D rfl rfl rfl fun D =>
    j_gf (pc := 53) (a := 322) D rfl rfl (by decide) rfl (s0_322 H) rfl fun D =>
    j_aldn (pc := 56) D rfl rfl rfl fun D =>
    j_gfc (pc := 57) (a := 322) D rfl rfl (by decide) rfl (s0_322 H) rfl (sf_130_322 H) fun D =>
    j_ild (pc := 60) D rfl rfl rfl fun D =>
    j_al (pc := 62) (a := 339) (e := 9) D rfl rfl rfl (by decide) (s0_339 H) (s1_339 H) ⟨rfl, rfl, rfl⟩ rfl gn fun qb7 D =>
    j_as (pc := 63) (a := 338) (e := 9) D rfl ⟨rfl, rfl⟩ rfl (by decide) (s0_338 H) (s1_338 H) ⟨rfl, rfl, rfl⟩ rfl gn gn fun h8 eh8 S qb9 D =>
    have T := fj_hs_ok H.1 S
    have H := shp_st H T
    fk_jump cut_214_64 rfl rfl
/-! 215 StatuteHouse.put(LStatuteHouse$Shelf;ILStatuteHouse$Kind;JJ)V -/
theorem cd_215 : fi_code 215 = prog_1_method_8_code := rfl
theorem hx_215 : ∀ pc, fi_hat 215 pc = none := fun pc => by unfold fi_hat; rw [show fi_hh 215 = [] from rfl]; rfl
theorem rt_215 : fi_ret 215 = none := rfl
theorem nl_215 : fi_nl 215 = 7 := rfl
theorem ow_215 : fi_ow 215 = 0 := rfl
theorem cl_215 : fj_cutT.getD 215 [] = [(64, []), (118, []), (169, [])] := rfl
theorem cut_215_64 : fj_cut 215 64 = some [] := by decide +kernel
noncomputable def c_215_64 (d : Nat) (s0 s1 s2 : Int) (h : fi_H) : fk_R := gG (fj_run d) 215 64 [] [(0, s2), (0, s1), (4, s0)] h
theorem cut_215_118 : fj_cut 215 118 = some [] := by decide +kernel
noncomputable def c_215_118 (d : Nat) (h : fi_H) : fk_R := gG (fj_run d) 215 118 [] [] h
theorem cut_215_169 : fj_cut 215 169 = some [] := by decide +kernel
noncomputable def c_215_169 (d : Nat) (s0 s1 s2 : Int) (h : fi_H) : fk_R := gG (fj_run d) 215 169 [] [(3, s2), (0, s1), (4, s0)] h
theorem e_215_64 (d : Nat) (s0 s1 s2 : Int) {h : fi_H} (H : Shp h) : c_215_64 d s0 s1 s2 h =
  if 302 < s0 ∧ fi_et 1 (h 0 s0.toNat 0) ≠ 0 then
  if 0 ≤ s1 ∧ s1 < h 1 s0.toNat 0 then
  if fi_rg (fi_et 1 (h 0 s0.toNat 0)) s2 = true then
  lt_ (fi_upd h (fi_et 1 (h 0 s0.toNat 0)) s0.toNat s1.toNat s2) fun h1 =>
  some (.inl none, h1)
  else none
  else none
  else none := by
  unfold c_215_64
  exact
    have D : fk_D 215 [(64, some [], .bastore, 1, 0, 0, 0), (65, none, .goto 117, 3, 182, 0, 0)] := fq_of2 cd_215 ow_215 cl_215 rfl (pc := 64) (by decide +kernel)
    j_asub (pc := 64) D rfl rfl gn gn gn fun h1 eh1 S q q2 D =>
    have T := fj_hs_ok H.1 S
    have H := shp_st H T
    j_goto (pc := 65) D rfl <|
    have D : fk_D 215 [(182, none, .return_, 1, 0, 0, 0)] := fq_of2 cd_215 ow_215 cl_215 rfl (pc := 182) (by decide +kernel)
    j_vret D rt_215
theorem e_215_118 (d : Nat) {h : fi_H} (H : Shp h) : c_215_118 d h =
  some (.inl none, h) := by
  unfold c_215_118
  exact
    have D : fk_D 215 [(118, some [], .goto 64, 3, 182, 0, 0)] := fq_of2 cd_215 ow_215 cl_215 rfl (pc := 118) (by decide +kernel)
    j_goto (pc := 118) D rfl <|
    have D : fk_D 215 [(182, none, .return_, 1, 0, 0, 0)] := fq_of2 cd_215 ow_215 cl_215 rfl (pc := 182) (by decide +kernel)
    j_vret D rt_215
theorem e_215_169 (d : Nat) (s0 s1 s2 : Int) {h : fi_H} (H : Shp h) : c_215_169 d s0 s1 s2 h =
  if 302 < s0 ∧ h 0 s0.toNat 0 = 7 then
  if 0 ≤ s1 ∧ s1 < h 1 s0.toNat 0 then
  lt_ (fi_upd h 7 s0.toNat s1.toNat s2) fun h1 =>
  some (.inl none, h1)
  else none
  else none := by
  unfold c_215_169
  exact
    have D : fk_D 215 [(169, some [], .dastore, 1, 0, 0, 0), (170, none, .goto 12, 3, 182, 0, 0)] := fq_of2 cd_215 ow_215 cl_215 rfl (pc := 169) (by decide +kernel)
    j_asu (pc := 169) (e := 7) D rfl rfl ⟨rfl, rfl, rfl⟩ rfl gn gn (gy rfl) fun h1 eh1 S q q2 D =>
    have T := fj_hs_ok H.1 S
    have H := shp_st H T
    j_goto (pc := 170) D rfl <|
    have D : fk_D 215 [(182, none, .return_, 1, 0, 0, 0)] := fq_of2 cd_215 ow_215 cl_215 rfl (pc := 182) (by decide +kernel)
    j_vret D rt_215
theorem m_215 (d : Nat) (x0 x1 x2 x3 x5 : Int) {h : fi_H} (H : Shp h) : fj_run (d + 1) 215 h [(4, x0), (0, x1), (4, x2), (1, x3), (1, x5)] =
  dv_ (fi_vt 111 (h 0 x2.toNat 0)) fun m4 => ca_ (fj_run d m4 h [(4, x2)]) 0
    (fun v2 h1 =>
    if v2 = 0 then
      if h1 0 x0.toNat 0 = 119 then
      if lc_ x3 0 = 0 then
        c_215_64 d (h1 114 x0.toNat 0) x1 0 h1
      else
        c_215_64 d (h1 114 x0.toNat 0) x1 1 h1
      else none
    else if v2 = 1 then
      if h1 0 x0.toNat 0 = 119 then
      if 302 < h1 115 x0.toNat 0 ∧ h1 0 (h1 115 x0.toNat 0).toNat 0 = 10 then
      if 0 ≤ x1 ∧ x1 < h1 1 (h1 115 x0.toNat 0).toNat 0 then
      lt_ (fi_upd h1 10 (h1 115 x0.toNat 0).toNat x1.toNat (wI x3)) fun h7 =>
      some (.inl none, h7)
      else none
      else none
      else none
    else if v2 = 2 then
      if h1 0 x0.toNat 0 = 119 then
      if 302 < h1 119 x0.toNat 0 ∧ h1 0 (h1 119 x0.toNat 0).toNat 0 = 11 then
      if 0 ≤ x1 ∧ x1 < h1 1 (h1 119 x0.toNat 0).toNat 0 then
      lt_ (fi_upd h1 11 (h1 119 x0.toNat 0).toNat x1.toNat x3) fun h9 =>
      some (.inl none, h9)
      else none
      else none
      else none
    else if v2 = 3 then
      if h1 0 x0.toNat 0 = 119 then
      if 302 < h1 116 x0.toNat 0 ∧ h1 0 (h1 116 x0.toNat 0).toNat 0 = 10 then
      if 0 ≤ x1 ∧ x1 < h1 1 (h1 116 x0.toNat 0).toNat 0 then
      lt_ (fi_upd h1 10 (h1 116 x0.toNat 0).toNat x1.toNat (wI x3)) fun h11 =>
      if 302 < h11 117 x0.toNat 0 ∧ h11 0 (h11 117 x0.toNat 0).toNat 0 = 10 then
      if 0 ≤ x1 ∧ x1 < h11 1 (h11 117 x0.toNat 0).toNat 0 then
      lt_ (fi_upd h11 10 (h11 117 x0.toNat 0).toNat x1.toNat (wI x5)) fun h12 =>
      some (.inl none, h12)
      else none
      else none
      else none
      else none
      else none
    else if v2 = 4 then
      if h1 0 x0.toNat 0 = 119 then
      if 302 < h1 120 x0.toNat 0 ∧ h1 0 (h1 120 x0.toNat 0).toNat 0 = 5 then
      if 0 ≤ x1 ∧ x1 < h1 1 (h1 120 x0.toNat 0).toNat 0 then
      lt_ (fi_upd h1 5 (h1 120 x0.toNat 0).toNat x1.toNat (wC (wI x3))) fun h14 =>
      c_215_118 d h14
      else none
      else none
      else none
    else if v2 = 5 then
      if h1 0 x0.toNat 0 = 119 then
      if 302 < h1 121 x0.toNat 0 ∧ h1 0 (h1 121 x0.toNat 0).toNat 0 = 9 then
      if 0 ≤ x1 ∧ x1 < h1 1 (h1 121 x0.toNat 0).toNat 0 then
      lt_ (fi_upd h1 9 (h1 121 x0.toNat 0).toNat x1.toNat (wS (wI x3))) fun h16 =>
      if 302 < h16 118 x0.toNat 0 ∧ h16 0 (h16 118 x0.toNat 0).toNat 0 = 10 then
      if 0 ≤ x1 ∧ x1 < h16 1 (h16 118 x0.toNat 0).toNat 0 then
      lt_ (fi_upd h16 10 (h16 118 x0.toNat 0).toNat x1.toNat (wI x5)) fun h17 =>
      some (.inl none, h17)
      else none
      else none
      else none
      else none
      else none
    else if v2 = 6 then
      if h1 0 x0.toNat 0 = 119 then
      if 0 < lc_ (la_ x3 9223372036854775807) 9218868437227405312 then
        c_215_169 d (h1 122 x0.toNat 0) x1 9221120237041090560 h1
      else
        ca_ (fj_run d 1001 h1 [(1, x3)]) 3
          (fun v20 h19 =>
          c_215_169 d (h1 122 x0.toNat 0) x1 v20 h19)
          (fun q21 h19 => tx_ q21 h19)
      else none
    else 
      if h1 0 x0.toNat 0 = 119 then
      if 302 < h1 123 x0.toNat 0 ∧ fi_et 1 (h1 0 (h1 123 x0.toNat 0).toNat 0) ≠ 0 then
      if 0 ≤ x1 ∧ x1 < h1 1 (h1 123 x0.toNat 0).toNat 0 then
      if fi_rg (fi_et 1 (h1 0 (h1 123 x0.toNat 0).toNat 0)) (wB (wI x3)) = true then
      lt_ (fi_upd h1 (fi_et 1 (h1 0 (h1 123 x0.toNat 0).toNat 0)) (h1 123 x0.toNat 0).toNat x1.toNat (wB (wI x3))) fun h23 =>
      some (.inl none, h23)
      else none
      else none
      else none
      else none)
    (fun q3 h1 => tx_ q3 h1) := by
  rw [fj_run_eq d (by decide) h [(4, x0), (0, x1), (4, x2), (1, x3), (1, x5)] (Nat.le_of_ble_eq_true (by rw [nl_215]; rfl))]
  show gG (fj_run d) 215 0 [(0, (4, x0)), (1, (0, x1)), (2, (4, x2)), (3, (1, x3)), (5, (1, x5))] [] h = _
  exact
    have D : fk_D 215 [(0, none, .aload_n 2, 1, 0, 0, 0), (1, none, .invokevirtual 50, 3, 0, 111, 1), (4, none, .tableswitch 169 0 6 #[44, 64, 75, 85, 105, 117, 138], 44, 0, 0, 0)] := fq_of3 cd_215 ow_215 cl_215 rfl (pc := 0) (by decide +kernel)
    j_aldn (pc := 0) D rfl rfl rfl fun D =>
    j_ivu (pc := 1) (dd := 111) (a := []) (rest := []) H.2.1 D rfl rfl rfl rfl rfl (fun m4 v2 h1 e1 D =>
      have T := fj_run_ok _ _ _ _ _ _ H.1 e1
      have H := shp_st H T
      have N : fk_ni (v2) [] := trivial
      j_tc (pc := 4) 0 (t := 48) D N rfl (by decide +kernel) (fun q =>
        have D : fk_D 215 [(48, none, .aload_n 0, 1, 0, 0, 0), (49, none, .getfield 56, 3, 114, (-119), 12), (52, none, .iload_n 1, 1, 0, 0, 0), (53, none, .lload_n 3, 1, 0, 0, 0), (54, none, .lconst 0, 1, 0, 0, 0), (55, none, .lcmp, 1, 0, 0, 0), (56, none, .ifCond .eq 7, 3, 63, 0, 0), (59, none, .iconst 1, 1, 0, 1, 0), (60, none, .goto 4, 3, 64, 0, 0)] := fq_of2 cd_215 ow_215 cl_215 rfl (pc := 48) (by decide +kernel)
        j_aldn (pc := 48) D rfl rfl rfl fun D =>
        j_gfo (pc := 49) H.2.1 D rfl rfl rfl rfl fun kc5 D =>
        j_ildn (pc := 52) D rfl rfl rfl fun D =>
        j_lldn (pc := 53) D rfl rfl rfl fun D =>
        j_c0 (pc := 54) (v := (1, 0)) D rfl rfl (by decide +kernel) fun D =>
        j_lcmp (pc := 55) D rfl fun D =>
        j_ifeq (pc := 56) D rfl (fun q =>
          have D : fk_D 215 [(63, none, .iconst 0, 1, 0, 0, 0)] := fq_of2 cd_215 ow_215 cl_215 rfl (pc := 63) (by decide +kernel)
          j_ic (pc := 63) D rfl fun D =>
          fk_jump cut_215_64 rfl rfl) (fun q D =>
          j_ic (pc := 59) D rfl fun D =>
          j_goto (pc := 60) D rfl <|
          fk_jump cut_215_64 rfl rfl)) (fun N =>
        j_tc 1 (t := 68) D N rfl (by decide +kernel) (fun q =>
          have D : fk_D 215 [(68, none, .aload_n 0, 1, 0, 0, 0), (69, none, .getfield 62, 3, 115, (-119), 12), (72, none, .iload_n 1, 1, 0, 0, 0), (73, none, .lload_n 3, 1, 0, 0, 0), (74, none, .l2i, 1, 0, 0, 0), (75, none, .iastore, 1, 0, 0, 0), (76, none, .goto 106, 3, 182, 0, 0)] := fq_of2 cd_215 ow_215 cl_215 rfl (pc := 68) (by decide +kernel)
          j_aldn (pc := 68) D rfl rfl rfl fun D =>
          j_gfo (pc := 69) H.2.1 D rfl rfl rfl rfl fun kc6 D =>
          j_ildn (pc := 72) D rfl rfl rfl fun D =>
          j_lldn (pc := 73) D rfl rfl rfl fun D =>
          j_l2i (pc := 74) D rfl fun D =>
          j_asu (pc := 75) (e := 10) D rfl rfl ⟨rfl, rfl, rfl⟩ rfl gn gn (gy rfl) fun h7 eh7 S q q2 D =>
          have T := fj_hs_ok H.1 S
          have kc6 := cls_st H.1 T.2 kc6 (by decide)
          have H := shp_st H T
          j_goto (pc := 76) D rfl <|
          have D : fk_D 215 [(182, none, .return_, 1, 0, 0, 0)] := fq_of2 cd_215 ow_215 cl_215 rfl (pc := 182) (by decide +kernel)
          j_vret D rt_215) (fun N =>
          j_tc 2 (t := 79) D N rfl (by decide +kernel) (fun q =>
            have D : fk_D 215 [(79, none, .aload_n 0, 1, 0, 0, 0), (80, none, .getfield 66, 3, 119, (-119), 12), (83, none, .iload_n 1, 1, 0, 0, 0), (84, none, .lload_n 3, 1, 0, 0, 0), (85, none, .lastore, 1, 0, 0, 0), (86, none, .goto 96, 3, 182, 0, 0)] := fq_of2 cd_215 ow_215 cl_215 rfl (pc := 79) (by decide +kernel)
            j_aldn (pc := 79) D rfl rfl rfl fun D =>
            j_gfo (pc := 80) H.2.1 D rfl rfl rfl rfl fun kc8 D =>
            j_ildn (pc := 83) D rfl rfl rfl fun D =>
            j_lldn (pc := 84) D rfl rfl rfl fun D =>
            j_asu (pc := 85) (e := 11) D rfl rfl ⟨rfl, rfl, rfl⟩ rfl gn gn (gy rfl) fun h9 eh9 S q q2 D =>
            have T := fj_hs_ok H.1 S
            have kc8 := cls_st H.1 T.2 kc8 (by decide)
            have H := shp_st H T
            j_goto (pc := 86) D rfl <|
            have D : fk_D 215 [(182, none, .return_, 1, 0, 0, 0)] := fq_of2 cd_215 ow_215 cl_215 rfl (pc := 182) (by decide +kernel)
            j_vret D rt_215) (fun N =>
            j_tc 3 (t := 89) D N rfl (by decide +kernel) (fun q =>
              have D : fk_D 215 [(89, none, .aload_n 0, 1, 0, 0, 0), (90, none, .getfield 70, 3, 116, (-119), 12), (93, none, .iload_n 1, 1, 0, 0, 0), (94, none, .lload_n 3, 1, 0, 0, 0), (95, none, .l2i, 1, 0, 0, 0), (96, none, .iastore, 1, 0, 0, 0), (97, none, .aload_n 0, 1, 0, 0, 0), (98, none, .getfield 73, 3, 117, 119, 12), (101, none, .iload_n 1, 1, 0, 0, 0), (102, none, .lload 5, 2, 0, 0, 0), (104, none, .l2i, 1, 0, 0, 0), (105, none, .iastore, 1, 0, 0, 0), (106, none, .goto 76, 3, 182, 0, 0)] := fq_of2 cd_215 ow_215 cl_215 rfl (pc := 89) (by decide +kernel)
              j_aldn (pc := 89) D rfl rfl rfl fun D =>
              j_gfo (pc := 90) H.2.1 D rfl rfl rfl rfl fun kc10 D =>
              j_ildn (pc := 93) D rfl rfl rfl fun D =>
              j_lldn (pc := 94) D rfl rfl rfl fun D =>
              j_l2i (pc := 95) D rfl fun D =>
              j_asu (pc := 96) (e := 10) D rfl rfl ⟨rfl, rfl, rfl⟩ rfl gn gn (gy rfl) fun h11 eh11 S q q2 D =>
              have T := fj_hs_ok H.1 S
              have kc10 := cls_st H.1 T.2 kc10 (by decide)
              have H := shp_st H T
              j_aldn (pc := 97) D rfl rfl rfl fun D =>
              j_gf (pc := 98) (a := x0.toNat) D rfl rfl (nz_cls H.2.1 kc10 (by decide)) rfl kc10 rfl fun D =>
              j_ildn (pc := 101) D rfl rfl rfl fun D =>
              j_lld (pc := 102) D rfl rfl rfl fun D =>
              j_l2i (pc := 104) D rfl fun D =>
              j_asu (pc := 105) (e := 10) D rfl rfl ⟨rfl, rfl, rfl⟩ rfl gn gn (gy rfl) fun h12 eh12 S q q2 D =>
              have T := fj_hs_ok H.1 S
              have kc10 := cls_st H.1 T.2 kc10 (by decide)
              have H := shp_st H T
              j_goto (pc := 106) D rfl <|
              have D : fk_D 215 [(182, none, .return_, 1, 0, 0, 0)] := fq_of2 cd_215 ow_215 cl_215 rfl (pc := 182) (by decide +kernel)
              j_vret D rt_215) (fun N =>
              j_tc 4 (t := 109) D N rfl (by decide +kernel) (fun q =>
                have D : fk_D 215 [(109, none, .aload_n 0, 1, 0, 0, 0), (110, none, .getfield 76, 3, 120, (-119), 12), (113, none, .iload_n 1, 1, 0, 0, 0), (114, none, .lload_n 3, 1, 0, 0, 0), (115, none, .l2i, 1, 0, 0, 0), (116, none, .i2c, 1, 0, 0, 0), (117, none, .castore, 1, 0, 0, 0)] := fq_of2 cd_215 ow_215 cl_215 rfl (pc := 109) (by decide +kernel)
                j_aldn (pc := 109) D rfl rfl rfl fun D =>
                j_gfo (pc := 110) H.2.1 D rfl rfl rfl rfl fun kc13 D =>
                j_ildn (pc := 113) D rfl rfl rfl fun D =>
                j_lldn (pc := 114) D rfl rfl rfl fun D =>
                j_l2i (pc := 115) D rfl fun D =>
                j_i2c (pc := 116) D rfl fun D =>
                j_asu (pc := 117) (e := 5) D rfl rfl ⟨rfl, rfl, rfl⟩ rfl gn gn (gy (fk_rgC _)) fun h14 eh14 S q q2 D =>
                have T := fj_hs_ok H.1 S
                have kc13 := cls_st H.1 T.2 kc13 (by decide)
                have H := shp_st H T
                fk_jump cut_215_118 rfl rfl) (fun N =>
                j_tc 5 (t := 121) D N rfl (by decide +kernel) (fun q =>
                  have D : fk_D 215 [(121, none, .aload_n 0, 1, 0, 0, 0), (122, none, .getfield 80, 3, 121, (-119), 12), (125, none, .iload_n 1, 1, 0, 0, 0), (126, none, .lload_n 3, 1, 0, 0, 0), (127, none, .l2i, 1, 0, 0, 0), (128, none, .i2s, 1, 0, 0, 0), (129, none, .sastore, 1, 0, 0, 0), (130, none, .aload_n 0, 1, 0, 0, 0), (131, none, .getfield 84, 3, 118, 119, 12), (134, none, .iload_n 1, 1, 0, 0, 0), (135, none, .lload 5, 2, 0, 0, 0), (137, none, .l2i, 1, 0, 0, 0), (138, none, .iastore, 1, 0, 0, 0), (139, none, .goto 43, 3, 182, 0, 0)] := fq_of2 cd_215 ow_215 cl_215 rfl (pc := 121) (by decide +kernel)
                  j_aldn (pc := 121) D rfl rfl rfl fun D =>
                  j_gfo (pc := 122) H.2.1 D rfl rfl rfl rfl fun kc15 D =>
                  j_ildn (pc := 125) D rfl rfl rfl fun D =>
                  j_lldn (pc := 126) D rfl rfl rfl fun D =>
                  j_l2i (pc := 127) D rfl fun D =>
                  j_i2s (pc := 128) D rfl fun D =>
                  j_asu (pc := 129) (e := 9) D rfl rfl ⟨rfl, rfl, rfl⟩ rfl gn gn (gy (fk_rgS _)) fun h16 eh16 S q q2 D =>
                  have T := fj_hs_ok H.1 S
                  have kc15 := cls_st H.1 T.2 kc15 (by decide)
                  have H := shp_st H T
                  j_aldn (pc := 130) D rfl rfl rfl fun D =>
                  j_gf (pc := 131) (a := x0.toNat) D rfl rfl (nz_cls H.2.1 kc15 (by decide)) rfl kc15 rfl fun D =>
                  j_ildn (pc := 134) D rfl rfl rfl fun D =>
                  j_lld (pc := 135) D rfl rfl rfl fun D =>
                  j_l2i (pc := 137) D rfl fun D =>
                  j_asu (pc := 138) (e := 10) D rfl rfl ⟨rfl, rfl, rfl⟩ rfl gn gn (gy rfl) fun h17 eh17 S q q2 D =>
                  have T := fj_hs_ok H.1 S
                  have kc15 := cls_st H.1 T.2 kc15 (by decide)
                  have H := shp_st H T
                  j_goto (pc := 139) D rfl <|
                  have D : fk_D 215 [(182, none, .return_, 1, 0, 0, 0)] := fq_of2 cd_215 ow_215 cl_215 rfl (pc := 182) (by decide +kernel)
                  j_vret D rt_215) (fun N =>
                  j_tc 6 (t := 142) D N rfl (by decide +kernel) (fun q =>
                    have D : fk_D 215 [(142, none, .aload_n 0, 1, 0, 0, 0), (143, none, .getfield 87, 3, 122, (-119), 12), (146, none, .iload_n 1, 1, 0, 0, 0), (147, none, .lload_n 3, 1, 0, 0, 0), (148, none, .ldc2_w 93, 3, 1, 9223372036854775807, 0), (151, none, .land, 1, 0, 0, 0), (152, none, .ldc2_w 95, 3, 1, 9218868437227405312, 0), (155, none, .lcmp, 1, 0, 0, 0), (156, none, .ifCond .le 9, 3, 165, 0, 0), (159, none, .ldc2_w 99, 3, 3, 9221120237041090560, 0), (162, none, .goto 7, 3, 169, 0, 0)] := fq_of2 cd_215 ow_215 cl_215 rfl (pc := 142) (by decide +kernel)
                    j_aldn (pc := 142) D rfl rfl rfl fun D =>
                    j_gfo (pc := 143) H.2.1 D rfl rfl rfl rfl fun kc18 D =>
                    j_ildn (pc := 146) D rfl rfl rfl fun D =>
                    j_lldn (pc := 147) D rfl rfl rfl fun D =>
                    j_ldc2 (pc := 148) D rfl fun D =>
                    j_land (pc := 151) D rfl fun D =>
                    j_ldc2 (pc := 152) D rfl fun D =>
                    j_lcmp (pc := 155) D rfl fun D =>
                    j_ifle (pc := 156) D rfl (fun q D =>
                      j_ldc2 (pc := 159) D rfl fun D =>
                      j_goto (pc := 162) D rfl <|
                      fk_jump cut_215_169 rfl rfl) (fun q =>
                      have D : fk_D 215 [(165, none, .lload_n 3, 1, 0, 0, 0), (166, none, .invokestatic 101, 3, 1, 1001, 4)] := fq_of2 cd_215 ow_215 cl_215 rfl (pc := 165) (by decide +kernel)
                      j_lldn (pc := 165) D rfl rfl rfl fun D =>
                      j_is (pc := 166) (m := 1001) (a := [(1, x3)]) (rest := [(0, x1), (4, h1 122 x0.toNat 0)]) D rfl rfl rfl rfl (fun v20 h19 e1 D =>
                        have T := fj_run_ok _ _ _ _ _ _ H.1 e1
                        have kc18 := cls_st H.1 T.2 kc18 (by decide)
                        have H := shp_st H T
                        fk_jump cut_215_169 rfl rfl) (fun q21 h19 e1 =>
                        j_tx (hx_215 _)))) (fun N =>
                    j_td (t := 173) D N rfl (by decide +kernel) (by decide +kernel) <|
                    have D : fk_D 215 [(173, none, .aload_n 0, 1, 0, 0, 0), (174, none, .getfield 105, 3, 123, (-119), 12), (177, none, .iload_n 1, 1, 0, 0, 0), (178, none, .lload_n 3, 1, 0, 0, 0), (179, none, .l2i, 1, 0, 0, 0), (180, none, .i2b, 1, 0, 0, 0), (181, none, .bastore, 1, 0, 0, 0), (182, none, .return_, 1, 0, 0, 0)] := fq_of2 cd_215 ow_215 cl_215 rfl (pc := 173) (by decide +kernel)
                    j_aldn (pc := 173) D rfl rfl rfl fun D =>
                    j_gfo (pc := 174) H.2.1 D rfl rfl rfl rfl fun kc22 D =>
                    j_ildn (pc := 177) D rfl rfl rfl fun D =>
                    j_lldn (pc := 178) D rfl rfl rfl fun D =>
                    j_l2i (pc := 179) D rfl fun D =>
                    j_i2b (pc := 180) D rfl fun D =>
                    j_asub (pc := 181) D rfl rfl gn gn gn fun h23 eh23 S q q2 D =>
                    have T := fj_hs_ok H.1 S
                    have kc22 := cls_st H.1 T.2 kc22 (by decide)
                    have H := shp_st H T
                    j_vret D rt_215)))))))) (fun m4 q3 h1 e1 =>
      j_tx (hx_215 _))
/-! 216 StatuteHouse.enact(I)I -/
theorem cd_216 : fi_code 216 = prog_1_method_62_code := rfl
theorem rt_216 : fi_ret 216 = some .int := rfl
theorem nl_216 : fi_nl 216 = 4 := rfl
theorem ow_216 : fi_ow 216 = 0 := rfl
theorem cl_216 : fj_cutT.getD 216 [] = [(35, [0]), (58, [0, 2, 3]), (140, [0])] := rfl
theorem cut_216_35 : fj_cut 216 35 = some [0] := by decide +kernel
noncomputable def c_216_35 (d : Nat) (s0 : Int) (h : fi_H) : fk_R := gG (fj_run d) 216 35 [(0, (4, 303))] [(4, s0)] h
theorem cut_216_58 : fj_cut 216 58 = some [0, 2, 3] := by decide +kernel
noncomputable def c_216_58 (d : Nat) (x2 x3 : Int) (h : fi_H) : fk_R := gG (fj_run d) 216 58 [(0, (4, 303)), (2, (4, x2)), (3, (0, x3))] [] h
theorem cut_216_140 : fj_cut 216 140 = some [0] := by decide +kernel
noncomputable def c_216_140 (d : Nat) (h : fi_H) : fk_R := gG (fj_run d) 216 140 [(0, (4, 303))] [] h
theorem e_216_35 (d : Nat) (s0 : Int) {h : fi_H} (H : Shp h) : c_216_35 d s0 h =
  if h 0 s0.toNat 0 = 128 then
  cv_ (fj_run d 196 h [(4, 303), (0, h 107 s0.toNat 0), (0, h 108 s0.toNat 0)])
    (fun h2 =>
    some (.inl (some (0, (-1))), h2))
    (fun q4 h2 => tx_ q4 h2)
  else none := by
  unfold c_216_35
  exact
    have D : fk_D 216 [(35, some [0], .astore_n 3, 1, 0, 0, 0), (36, none, .aload_n 0, 1, 0, 0, 0), (37, none, .aload_n 3, 1, 0, 0, 0), (38, none, .getfield 7, 3, 107, (-128), 10), (41, none, .aload_n 3, 1, 0, 0, 0), (42, none, .getfield 13, 3, 108, 128, 10), (45, none, .invokevirtual 793, 3, 2, 161, 0), (48, none, .iconst (-1), 1, 0, (-1), 0), (49, none, .ireturn, 1, 0, 0, 0)] := fq_of2 cd_216 ow_216 cl_216 rfl (pc := 35) (by decide +kernel)
    j_astn (pc := 35) (L' := [(3, (4, s0)), (0, (4, 303))]) D rfl nl_216 rfl rfl fun D =>
    j_aldn (pc := 36) D rfl rfl rfl fun D =>
    j_aldn (pc := 37) D rfl rfl rfl fun D =>
    j_gfo (pc := 38) H.2.1 D rfl rfl rfl rfl fun kc1 D =>
    j_aldn (pc := 41) D rfl rfl rfl fun D =>
    j_gf (pc := 42) (a := s0.toNat) D rfl rfl (nz_cls H.2.1 kc1 (by decide)) rfl kc1 rfl fun D =>
    j_ivv (pc := 45) (m := 196) (dd := 161) (a := [(0, h 107 s0.toNat 0), (0, h 108 s0.toNat 0)]) (rest := []) D rfl rfl rfl rfl rfl (by decide) (s0_303 H) (by decide +kernel) (fun h2 e1 D =>
      have T := fj_run_ok _ _ _ _ _ _ H.1 e1
      have kc1 := cls_st H.1 T.2 kc1 (by decide)
      have H := shp_st H T
      j_ic (pc := 48) D rfl fun D =>
      j_iret D rt_216) (fun q4 h2 e1 =>
      j_tx (by decide +kernel))
theorem e_216_58 (d : Nat) (x2 x3 : Int) {h : fi_H} (H : Shp h) : c_216_58 d x2 x3 h =
  if x3 < h 163 377 0 then
    if 0 ≤ x3 ∧ x3 < 30 then
    dv_ (fi_vt 166 (h 0 x2.toNat 0)) fun m5 => cv_ (fj_run d m5 h [(4, x2), (4, h 12 386 x3.toNat), (0, h 239 303 0)])
      (fun h2 =>
      c_216_58 d x2 (wI (x3 + 1)) h2)
      (fun q4 h2 => tx_ q4 h2)
    else none
  else
    lt_ (fi_upd h 229 303 0 (wI ((h 229 303 0) + (h 163 377 0)))) fun h6 =>
    lt_ (fi_upd h6 230 303 0 (wI ((h6 230 303 0) + (h6 161 377 0)))) fun h7 =>
    lt_ (fi_upd h7 231 303 0 (wI ((h7 231 303 0) + (h7 162 377 0)))) fun h8 =>
    c_216_140 d h8 := by
  unfold c_216_58
  exact
    have D : fk_D 216 [(58, some [0, 2, 3], .iload_n 3, 1, 0, 0, 0), (59, none, .aload_n 0, 1, 0, 0, 0), (60, none, .getfield 680, 3, 269, 100, 12), (63, none, .getfield 837, 3, 163, 115, 10), (66, none, .if_icmp .ge 26, 3, 92, 0, 0), (69, none, .aload_n 2, 1, 0, 0, 0), (70, none, .aload_n 0, 1, 0, 0, 0), (71, none, .getfield 680, 3, 269, 100, 12), (74, none, .getfield 840, 3, 165, 115, 12), (77, none, .iload_n 3, 1, 0, 0, 0), (78, none, .aaload, 1, 0, 0, 0), (79, none, .aload_n 0, 1, 0, 0, 0), (80, none, .getfield 615, 3, 239, 100, 10), (83, none, .invokevirtual 843, 3, 2, 166, 0), (86, none, .iinc 3 1, 3, 0, 1, 0), (89, none, .goto (-31), 3, 58, 0, 0)] := fq_of2 cd_216 ow_216 cl_216 rfl (pc := 58) (by decide +kernel)
    j_ildn (pc := 58) D rfl rfl rfl fun D =>
    j_aldn (pc := 59) D rfl rfl rfl fun D =>
    j_gfc (pc := 60) (a := 303) D rfl rfl (by decide) rfl (s0_303 H) rfl (sf_269_303 H) fun D =>
    j_gf (pc := 63) (a := 377) D rfl rfl (by decide) rfl (s0_377 H) rfl fun D =>
    j_ige (pc := 66) D rfl (fun q D =>
      j_aldn (pc := 69) D rfl rfl rfl fun D =>
      j_aldn (pc := 70) D rfl rfl rfl fun D =>
      j_gfc (pc := 71) (a := 303) D rfl rfl (by decide) rfl (s0_303 H) rfl (sf_269_303 H) fun D =>
      j_gfc (pc := 74) (a := 377) D rfl rfl (by decide) rfl (s0_377 H) rfl (sf_165_377 H) fun D =>
      j_ildn (pc := 77) D rfl rfl rfl fun D =>
      j_al (pc := 78) (a := 386) (e := 12) D rfl rfl rfl (by decide) (s0_386 H) (s1_386 H) ⟨rfl, rfl, rfl⟩ rfl gn fun qb1 D =>
      j_aldn (pc := 79) D rfl rfl rfl fun D =>
      j_gf (pc := 80) (a := 303) D rfl rfl (by decide) rfl (s0_303 H) rfl fun D =>
      j_ivuv (pc := 83) (dd := 166) (a := [(4, h 12 386 x3.toNat), (0, h 239 303 0)]) (rest := []) H.2.1 D rfl rfl rfl rfl rfl (fun m5 h2 e1 D =>
        have T := fj_run_ok _ _ _ _ _ _ H.1 e1
        have H := shp_st H T
        j_inc (pc := 86) (L' := [(3, (0, wI (x3 + 1))), (0, (4, 303)), (2, (4, x2))]) D rfl rfl rfl (by decide +kernel) rfl fun D =>
        j_goto (pc := 89) D rfl <|
        fk_jump cut_216_58 rfl rfl) (fun m5 q4 h2 e1 =>
        j_tx (by decide +kernel))) (fun q =>
      have D : fk_D 216 [(92, none, .aload_n 0, 1, 0, 0, 0), (93, none, .dup, 1, 0, 0, 0), (94, none, .getfield 846, 3, 229, 100, 10), (97, none, .aload_n 0, 1, 0, 0, 0), (98, none, .getfield 680, 3, 269, 100, 12), (101, none, .getfield 837, 3, 163, 115, 10), (104, none, .iadd, 1, 0, 0, 0), (105, none, .putfield 846, 3, 229, 100, 10), (108, none, .aload_n 0, 1, 0, 0, 0), (109, none, .dup, 1, 0, 0, 0), (110, none, .getfield 849, 3, 230, 100, 10), (113, none, .aload_n 0, 1, 0, 0, 0), (114, none, .getfield 680, 3, 269, 100, 12), (117, none, .getfield 852, 3, 161, 115, 10), (120, none, .iadd, 1, 0, 0, 0), (121, none, .putfield 849, 3, 230, 100, 10), (124, none, .aload_n 0, 1, 0, 0, 0), (125, none, .dup, 1, 0, 0, 0), (126, none, .getfield 855, 3, 231, 100, 10), (129, none, .aload_n 0, 1, 0, 0, 0)] := fq_of2 cd_216 ow_216 cl_216 rfl (pc := 92) (by decide +kernel)
      j_aldn (pc := 92) D rfl rfl rfl fun D =>
      j_sh (pc := 93) D rfl rfl rfl fun D =>
      j_gf (pc := 94) (a := 303) D rfl rfl (by decide) rfl (s0_303 H) rfl fun D =>
      j_aldn (pc := 97) D rfl rfl rfl fun D =>
      j_gfc (pc := 98) (a := 303) D rfl rfl (by decide) rfl (s0_303 H) rfl (sf_269_303 H) fun D =>
      j_gf (pc := 101) (a := 377) D rfl rfl (by decide) rfl (s0_377 H) rfl fun D =>
      j_iadd (pc := 104) D rfl fun D =>
      j_pf (pc := 105) (a := 303) D rfl rfl rfl (s0_303 H) rfl rfl (gy (by decide)) (gy rfl) fun h6 eh6 S D =>
      have T := fj_hs_ok H.1 S
      have H := shp_st H T
      j_aldn (pc := 108) D rfl rfl rfl fun D =>
      j_sh (pc := 109) D rfl rfl rfl fun D =>
      j_gf (pc := 110) (a := 303) D rfl rfl (by decide) rfl (s0_303 H) rfl fun D =>
      j_aldn (pc := 113) D rfl rfl rfl fun D =>
      j_gfc (pc := 114) (a := 303) D rfl rfl (by decide) rfl (s0_303 H) rfl (sf_269_303 H) fun D =>
      j_gf (pc := 117) (a := 377) D rfl rfl (by decide) rfl (s0_377 H) rfl fun D =>
      j_iadd (pc := 120) D rfl fun D =>
      j_pf (pc := 121) (a := 303) D rfl rfl rfl (s0_303 H) rfl rfl (gy (by decide)) (gy rfl) fun h7 eh7 S D =>
      have T := fj_hs_ok H.1 S
      have H := shp_st H T
      j_aldn (pc := 124) D rfl rfl rfl fun D =>
      j_sh (pc := 125) D rfl rfl rfl fun D =>
      j_gf (pc := 126) (a := 303) D rfl rfl (by decide) rfl (s0_303 H) rfl fun D =>
      j_aldn (pc := 129) D rfl rfl rfl fun D =>
      have D : fk_D 216 [(130, none, .getfield 680, 3, 269, 100, 12), (133, none, .getfield 858, 3, 162, 115, 10), (136, none, .iadd, 1, 0, 0, 0), (137, none, .putfield 855, 3, 231, 100, 10)] := fq_of2 cd_216 ow_216 cl_216 rfl (pc := 130) (by decide +kernel)
      j_gfc (pc := 130) (a := 303) D rfl rfl (by decide) rfl (s0_303 H) rfl (sf_269_303 H) fun D =>
      j_gf (pc := 133) (a := 377) D rfl rfl (by decide) rfl (s0_377 H) rfl fun D =>
      j_iadd (pc := 136) D rfl fun D =>
      j_pf (pc := 137) (a := 303) D rfl rfl rfl (s0_303 H) rfl rfl (gy (by decide)) (gy rfl) fun h8 eh8 S D =>
      have T := fj_hs_ok H.1 S
      have H := shp_st H T
      fk_jump cut_216_140 rfl rfl)
theorem e_216_140 (d : Nat) {h : fi_H} (H : Shp h) : c_216_140 d h =
  lt_ (fi_upd h 232 303 0 (wI ((h 232 303 0) + (h 164 377 0)))) fun h1 =>
  lt_ (fi_upd h1 233 303 0 (wI ((h1 233 303 0) + 1))) fun h2 =>
  some (.inl (some (0, h2 163 377 0)), h2) := by
  unfold c_216_140
  exact
    have D : fk_D 216 [(140, some [0], .aload_n 0, 1, 0, 0, 0), (141, none, .dup, 1, 0, 0, 0), (142, none, .getfield 861, 3, 232, 100, 10), (145, none, .aload_n 0, 1, 0, 0, 0), (146, none, .getfield 680, 3, 269, 100, 12), (149, none, .getfield 864, 3, 164, 115, 10), (152, none, .iadd, 1, 0, 0, 0), (153, none, .putfield 861, 3, 232, 100, 10), (156, none, .aload_n 0, 1, 0, 0, 0), (157, none, .dup, 1, 0, 0, 0), (158, none, .getfield 867, 3, 233, 100, 10), (161, none, .iconst 1, 1, 0, 1, 0), (162, none, .iadd, 1, 0, 0, 0), (163, none, .putfield 867, 3, 233, 100, 10), (166, none, .aload_n 0, 1, 0, 0, 0), (167, none, .getfield 680, 3, 269, 100, 12), (170, none, .getfield 837, 3, 163, 115, 10), (173, none, .ireturn, 1, 0, 0, 0)] := fq_of2 cd_216 ow_216 cl_216 rfl (pc := 140) (by decide +kernel)
    j_aldn (pc := 140) D rfl rfl rfl fun D =>
    j_sh (pc := 141) D rfl rfl rfl fun D =>
    j_gf (pc := 142) (a := 303) D rfl rfl (by decide) rfl (s0_303 H) rfl fun D =>
    j_aldn (pc := 145) D rfl rfl rfl fun D =>
    j_gfc (pc := 146) (a := 303) D rfl rfl (by decide) rfl (s0_303 H) rfl (sf_269_303 H) fun D =>
    j_gf (pc := 149) (a := 377) D rfl rfl (by decide) rfl (s0_377 H) rfl fun D =>
    j_iadd (pc := 152) D rfl fun D =>
    j_pf (pc := 153) (a := 303) D rfl rfl rfl (s0_303 H) rfl rfl (gy (by decide)) (gy rfl) fun h1 eh1 S D =>
    have T := fj_hs_ok H.1 S
    have H := shp_st H T
    j_aldn (pc := 156) D rfl rfl rfl fun D =>
    j_sh (pc := 157) D rfl rfl rfl fun D =>
    j_gf (pc := 158) (a := 303) D rfl rfl (by decide) rfl (s0_303 H) rfl fun D =>
    j_ic (pc := 161) D rfl fun D =>
    j_iadd (pc := 162) D rfl fun D =>
    j_pf (pc := 163) (a := 303) D rfl rfl rfl (s0_303 H) rfl rfl (gy (by decide)) (gy rfl) fun h2 eh2 S D =>
    have T := fj_hs_ok H.1 S
    have H := shp_st H T
    j_aldn (pc := 166) D rfl rfl rfl fun D =>
    j_gfc (pc := 167) (a := 303) D rfl rfl (by decide) rfl (s0_303 H) rfl (sf_269_303 H) fun D =>
    j_gf (pc := 170) (a := 377) D rfl rfl (by decide) rfl (s0_377 H) rfl fun D =>
    j_iret D rt_216
theorem m_216 (d : Nat) (x1 : Int) {h : fi_H} (H : Shp h) : fj_run (d + 1) 216 h [(4, 303), (0, x1)] =
  ca_ (fj_run d 1 h [(0, x1)]) 0
    (fun v2 h1 =>
    if v2 = 0 then
      some (.inl (some (0, (-2))), h1)
    else
      if 0 ≤ x1 ∧ x1 < 4 then
      cv_ (fj_run d 111 h1 [(4, 377)])
        (fun h5 =>
        cv_ (fj_run d 217 h5 [(4, 377), (4, h1 12 354 x1.toNat)])
          (fun h8 =>
          cv_ (fj_run d 196 h8 [(4, 303), (0, 0), (0, (-1))])
            (fun h11 =>
            c_216_58 d (h1 12 354 x1.toNat) 0 h11)
            (fun q13 h11 => tx_ q13 h11))
          (fun q10 h8 => tc_ 128 q10 h8 (c_216_35 d (q10 : Int) h8)))
        (fun q7 h5 => tx_ q7 h5)
      else none)
    (fun q3 h1 => tx_ q3 h1) := by
  rw [fj_run_eq d (by decide) h [(4, 303), (0, x1)] (Nat.le_of_ble_eq_true (by rw [nl_216]; rfl))]
  show gG (fj_run d) 216 0 [(0, (4, 303)), (1, (0, x1))] [] h = _
  exact
    have D : fk_D 216 [(0, none, .iload_n 1, 1, 0, 0, 0), (1, none, .invokestatic 526, 3, 1, 1, 1), (4, none, .ifCond .ne 6, 3, 10, 0, 0), (7, none, .bipush (-2), 2, 0, (-2), 0), (9, none, .ireturn, 1, 0, 0, 0)] := fq_of2 cd_216 ow_216 cl_216 rfl (pc := 0) (by decide +kernel)
    j_ildn (pc := 0) D rfl rfl rfl fun D =>
    j_is (pc := 1) (m := 1) (a := [(0, x1)]) (rest := []) D rfl rfl rfl rfl (fun v2 h1 e1 D =>
      have T := fj_run_ok _ _ _ _ _ _ H.1 e1
      have H := shp_st H T
      j_ifne (pc := 4) D rfl (fun q D =>
        j_bp (pc := 7) D rfl fun D =>
        j_iret D rt_216) (fun q =>
        have D : fk_D 216 [(10, none, .aload_n 0, 1, 0, 0, 0), (11, none, .getfield 529, 3, 227, 100, 12), (14, none, .iload_n 1, 1, 0, 0, 0), (15, none, .aaload, 1, 0, 0, 0), (16, none, .astore_n 2, 1, 0, 0, 0), (17, none, .aload_n 0, 1, 0, 0, 0), (18, none, .getfield 680, 3, 269, 100, 12), (21, none, .invokevirtual 790, 3, 0, 159, 0), (24, none, .aload_n 0, 1, 0, 0, 0), (25, none, .getfield 680, 3, 269, 100, 12), (28, none, .aload_n 2, 1, 0, 0, 0), (29, none, .invokevirtual 834, 3, 1, 165, 0), (32, none, .goto 18, 3, 50, 0, 0)] := fq_of2 cd_216 ow_216 cl_216 rfl (pc := 10) (by decide +kernel)
        j_aldn (pc := 10) D rfl rfl rfl fun D =>
        j_gfc (pc := 11) (a := 303) D rfl rfl (by decide) rfl (s0_303 H) rfl (sf_227_303 H) fun D =>
        j_ildn (pc := 14) D rfl rfl rfl fun D =>
        j_al (pc := 15) (a := 354) (e := 12) D rfl rfl rfl (by decide) (s0_354 H) (s1_354 H) ⟨rfl, rfl, rfl⟩ rfl gn fun qb4 D =>
        j_astn (pc := 16) (L' := [(2, (4, h1 12 354 x1.toNat)), (0, (4, 303)), (1, (0, x1))]) D rfl nl_216 rfl rfl fun D =>
        j_aldn (pc := 17) D rfl rfl rfl fun D =>
        j_gfc (pc := 18) (a := 303) D rfl rfl (by decide) rfl (s0_303 H) rfl (sf_269_303 H) fun D =>
        j_ivv (pc := 21) (m := 111) (dd := 159) (a := []) (rest := []) D rfl rfl rfl rfl rfl (by decide) (s0_377 H) (by decide +kernel) (fun h5 e1 D =>
          have T := fj_run_ok _ _ _ _ _ _ H.1 e1
          have H := shp_st H T
          j_aldn (pc := 24) D rfl rfl rfl fun D =>
          j_gfc (pc := 25) (a := 303) D rfl rfl (by decide) rfl (s0_303 H) rfl (sf_269_303 H) fun D =>
          j_aldn (pc := 28) D rfl rfl rfl fun D =>
          j_ivv (pc := 29) (m := 217) (dd := 165) (a := [(4, h1 12 354 x1.toNat)]) (rest := []) D rfl rfl rfl rfl rfl (by decide) (s0_377 H) (by decide +kernel) (fun h8 e1 D =>
            have T := fj_run_ok _ _ _ _ _ _ H.1 e1
            have H := shp_st H T
            j_goto (pc := 32) D rfl <|
            have D : fk_D 216 [(50, none, .aload_n 0, 1, 0, 0, 0), (51, none, .iconst 0, 1, 0, 0, 0), (52, none, .iconst (-1), 1, 0, (-1), 0), (53, none, .invokevirtual 793, 3, 2, 161, 0), (56, none, .iconst 0, 1, 0, 0, 0), (57, none, .istore_n 3, 1, 0, 0, 0)] := fq_of2 cd_216 ow_216 cl_216 rfl (pc := 50) (by decide +kernel)
            j_aldn (pc := 50) D rfl rfl rfl fun D =>
            j_ic (pc := 51) D rfl fun D =>
            j_ic (pc := 52) D rfl fun D =>
            j_ivv (pc := 53) (m := 196) (dd := 161) (a := [(0, 0), (0, (-1))]) (rest := []) D rfl rfl rfl rfl rfl (by decide) (s0_303 H) (by decide +kernel) (fun h11 e1 D =>
              have T := fj_run_ok _ _ _ _ _ _ H.1 e1
              have H := shp_st H T
              j_ic (pc := 56) D rfl fun D =>
              j_istn (pc := 57) (L' := [(3, (0, 0)), (2, (4, h1 12 354 x1.toNat)), (0, (4, 303)), (1, (0, x1))]) D rfl nl_216 rfl rfl fun D =>
              fk_jump cut_216_58 rfl rfl) (fun q13 h11 e1 =>
              j_tx (by decide +kernel))) (fun q10 h8 e1 =>
            j_tc_ (n := 128) (fk_at (cu := none) (by decide +kernel) rfl) (s := 24) (e := 32) (hp := 35) (ct := 8) (by decide +kernel) rfl (by decide +kernel) <|
            fk_jump cut_216_35 rfl rfl)) (fun q7 h5 e1 =>
          j_tx (by decide +kernel)))) (fun q3 h1 e1 =>
      j_tx (by decide +kernel))
/-! 217 StatuteHouse$Reader.law(LStatuteHouse$Law;)V -/
theorem cd_217 : fi_code 217 = prog_53_method_46_code := rfl
theorem hx_217 : ∀ pc, fi_hat 217 pc = none := fun pc => by unfold fi_hat; rw [show fi_hh 217 = [] from rfl]; rfl
theorem rt_217 : fi_ret 217 = none := rfl
theorem nl_217 : fi_nl 217 = 3 := rfl
theorem ow_217 : fi_ow 217 = 15 := rfl
theorem cl_217 : fj_cutT.getD 217 [] = [(0, [0, 1]), (28, [0, 1, 2]), (70, [0]), (90, [0, 1])] := rfl
theorem cut_217_0 : fj_cut 217 0 = some [0, 1] := by decide +kernel
noncomputable def c_217_0 (d : Nat) (x1 : Int) (h : fi_H) : fk_R := gG (fj_run d) 217 0 [(0, (4, 377)), (1, (4, x1))] [] h
theorem cut_217_28 : fj_cut 217 28 = some [0, 1, 2] := by decide +kernel
noncomputable def c_217_28 (d : Nat) (x1 x2 : Int) (h : fi_H) : fk_R := gG (fj_run d) 217 28 [(0, (4, 377)), (1, (4, x1)), (2, (0, x2))] [] h
theorem cut_217_70 : fj_cut 217 70 = some [0] := by decide +kernel
noncomputable def c_217_70 (d : Nat) (h : fi_H) : fk_R := gG (fj_run d) 217 70 [(0, (4, 377))] [] h
theorem cut_217_90 : fj_cut 217 90 = some [0, 1] := by decide +kernel
noncomputable def c_217_90 (d : Nat) (x1 s0 s1 : Int) (h : fi_H) : fk_R := gG (fj_run d) 217 90 [(0, (4, 377)), (1, (4, x1))] [(4, s1), (4, s0)] h
theorem e_217_0 (d : Nat) (x1 : Int) {h : fi_H} (H : Shp h) : c_217_0 d x1 h =
  ca_ (fj_run d 162 h [(4, 377), (4, 247)]) 0
    (fun v2 h1 =>
    if v2 = 0 then
      ca_ (fj_run d 162 h1 [(4, 377), (4, 213)]) 0
        (fun v5 h4 =>
        if v5 = 0 then
          ca_ (fj_run d 164 h4 [(4, 377), (0, 1)]) 4
            (fun v8 h7 =>
            if v8 ≠ 0 then
            tx_ v8.toNat h7
            else none)
            (fun q9 h7 => tx_ q9 h7)
        else
          c_217_28 d x1 v2 h4)
        (fun q6 h4 => tx_ q6 h4)
    else
      c_217_28 d x1 v2 h1)
    (fun q3 h1 => tx_ q3 h1) := by
  unfold c_217_0
  exact
    have D : fk_D 217 [(0, some [0, 1], .aload_n 0, 1, 0, 0, 0), (1, none, .ldc_w 336, 3, 4, 247, 0), (4, none, .invokevirtual 209, 3, 1, 262, 1), (7, none, .istore_n 2, 1, 0, 0, 0), (8, none, .iload_n 2, 1, 0, 0, 0), (9, none, .ifCond .ne 19, 3, 28, 0, 0), (12, none, .aload_n 0, 1, 0, 0, 0), (13, none, .ldc_w 290, 3, 4, 213, 0), (16, none, .invokevirtual 209, 3, 1, 262, 1), (19, none, .ifCond .ne 9, 3, 28, 0, 0), (22, none, .aload_n 0, 1, 0, 0, 0), (23, none, .iconst 1, 1, 0, 1, 0), (24, none, .invokevirtual 190, 3, 1, 258, 5), (27, none, .athrow, 1, 0, 0, 0)] := fq_of2 cd_217 ow_217 cl_217 rfl (pc := 0) (by decide +kernel)
    j_aldn (pc := 0) D rfl rfl rfl fun D =>
    j_ldcw (pc := 1) D rfl fun D =>
    j_iv (pc := 4) (m := 162) (dd := 262) (a := [(4, 247)]) (rest := []) D rfl rfl rfl rfl rfl (by decide) (s0_377 H) (by decide +kernel) (fun v2 h1 e1 D =>
      have T := fj_run_ok _ _ _ _ _ _ H.1 e1
      have H := shp_st H T
      j_istn (pc := 7) (L' := [(2, (0, v2)), (0, (4, 377)), (1, (4, x1))]) D rfl nl_217 rfl rfl fun D =>
      j_ildn (pc := 8) D rfl rfl rfl fun D =>
      j_ifne (pc := 9) D rfl (fun q D =>
        j_aldn (pc := 12) D rfl rfl rfl fun D =>
        j_ldcw (pc := 13) D rfl fun D =>
        j_iv (pc := 16) (m := 162) (dd := 262) (a := [(4, 213)]) (rest := []) D rfl rfl rfl rfl rfl (by decide) (s0_377 H) (by decide +kernel) (fun v5 h4 e1 D =>
          have T := fj_run_ok _ _ _ _ _ _ H.1 e1
          have H := shp_st H T
          j_ifne (pc := 19) D rfl (fun q D =>
            j_aldn (pc := 22) D rfl rfl rfl fun D =>
            j_ic (pc := 23) D rfl fun D =>
            j_iv (pc := 24) (m := 164) (dd := 258) (a := [(0, 1)]) (rest := []) D rfl rfl rfl rfl rfl (by decide) (s0_377 H) (by decide +kernel) (fun v8 h7 e1 D =>
              have T := fj_run_ok _ _ _ _ _ _ H.1 e1
              have H := shp_st H T
              j_at (pc := 27) D gn <|
              j_tx (hx_217 _)) (fun q9 h7 e1 =>
              j_tx (hx_217 _))) (fun q =>
            fk_jump cut_217_28 rfl rfl)) (fun q6 h4 e1 =>
          j_tx (hx_217 _))) (fun q =>
        fk_jump cut_217_28 rfl rfl)) (fun q3 h1 e1 =>
      j_tx (hx_217 _))
theorem e_217_28 (d : Nat) (x1 x2 : Int) {h : fi_H} (H : Shp h) : c_217_28 d x1 x2 h =
  if h 163 377 0 = 30 then
    c_217_70 d h
  else
    if wI ((h 229 303 0) + (h 163 377 0)) = 200 then
      c_217_70 d h
    else
      if h 0 x1.toNat 0 = 110 then
      if wI ((h 190 x1.toNat 0) + (h 163 377 0)) = 200 then
        c_217_70 d h
      else
        cv_ (fj_run d 166 h [(4, 377)])
          (fun h2 =>
          if x2 = 0 then
            c_217_90 d x1 377 0 h2
          else
            c_217_90 d x1 377 x1 h2)
          (fun q4 h2 => tx_ q4 h2)
      else none := by
  unfold c_217_28
  exact
    have D : fk_D 217 [(28, some [0, 1, 2], .aload_n 0, 1, 0, 0, 0), (29, none, .getfield 122, 3, 163, 115, 10), (32, none, .bipush 30, 2, 0, 30, 0), (34, none, .if_icmp .eq 36, 3, 70, 0, 0), (37, none, .aload_n 0, 1, 0, 0, 0), (38, none, .getfield 3, 3, 182, 115, 12), (41, none, .getfield 582, 3, 229, 100, 10), (44, none, .aload_n 0, 1, 0, 0, 0), (45, none, .getfield 122, 3, 163, 115, 10), (48, none, .iadd, 1, 0, 0, 0), (49, none, .sipush 200, 3, 0, 200, 0), (52, none, .if_icmp .eq 18, 3, 70, 0, 0), (55, none, .aload_n 1, 1, 0, 0, 0), (56, none, .getfield 585, 3, 190, (-110), 10), (59, none, .aload_n 0, 1, 0, 0, 0), (60, none, .getfield 122, 3, 163, 115, 10), (63, none, .iadd, 1, 0, 0, 0), (64, none, .sipush 200, 3, 0, 200, 0), (67, none, .if_icmp .ne 9, 3, 76, 0, 0)] := fq_of2 cd_217 ow_217 cl_217 rfl (pc := 28) (by decide +kernel)
    j_aldn (pc := 28) D rfl rfl rfl fun D =>
    j_gf (pc := 29) (a := 377) D rfl rfl (by decide) rfl (s0_377 H) rfl fun D =>
    j_bp (pc := 32) D rfl fun D =>
    j_ieq (pc := 34) D rfl (fun q =>
      fk_jump cut_217_70 rfl rfl) (fun q D =>
      j_aldn (pc := 37) D rfl rfl rfl fun D =>
      j_gfc (pc := 38) (a := 377) D rfl rfl (by decide) rfl (s0_377 H) rfl (sf_182_377 H) fun D =>
      j_gf (pc := 41) (a := 303) D rfl rfl (by decide) rfl (s0_303 H) rfl fun D =>
      j_aldn (pc := 44) D rfl rfl rfl fun D =>
      j_gf (pc := 45) (a := 377) D rfl rfl (by decide) rfl (s0_377 H) rfl fun D =>
      j_iadd (pc := 48) D rfl fun D =>
      j_sp (pc := 49) D rfl fun D =>
      j_ieq (pc := 52) D rfl (fun q =>
        fk_jump cut_217_70 rfl rfl) (fun q D =>
        j_aldn (pc := 55) D rfl rfl rfl fun D =>
        j_gfo (pc := 56) H.2.1 D rfl rfl rfl rfl fun kc1 D =>
        j_aldn (pc := 59) D rfl rfl rfl fun D =>
        j_gf (pc := 60) (a := 377) D rfl rfl (by decide) rfl (s0_377 H) rfl fun D =>
        j_iadd (pc := 63) D rfl fun D =>
        j_sp (pc := 64) D rfl fun D =>
        j_ine (pc := 67) D rfl (fun q D =>
          fk_jump cut_217_70 rfl rfl) (fun q =>
          have D : fk_D 217 [(76, none, .aload_n 0, 1, 0, 0, 0), (77, none, .invokevirtual 206, 3, 0, 261, 0), (80, none, .aload_n 0, 1, 0, 0, 0), (81, none, .iload_n 2, 1, 0, 0, 0), (82, none, .ifCond .eq 7, 3, 89, 0, 0), (85, none, .aload_n 1, 1, 0, 0, 0), (86, none, .goto 4, 3, 90, 0, 0)] := fq_of2 cd_217 ow_217 cl_217 rfl (pc := 76) (by decide +kernel)
          j_aldn (pc := 76) D rfl rfl rfl fun D =>
          j_ivv (pc := 77) (m := 166) (dd := 261) (a := []) (rest := []) D rfl rfl rfl rfl rfl (by decide) (s0_377 H) (by decide +kernel) (fun h2 e1 D =>
            have T := fj_run_ok _ _ _ _ _ _ H.1 e1
            have kc1 := cls_st H.1 T.2 kc1 (by decide)
            have H := shp_st H T
            j_aldn (pc := 80) D rfl rfl rfl fun D =>
            j_ildn (pc := 81) D rfl rfl rfl fun D =>
            j_ifeq (pc := 82) D rfl (fun q =>
              have D : fk_D 217 [(89, none, .aconst_null, 1, 0, 0, 0)] := fq_of2 cd_217 ow_217 cl_217 rfl (pc := 89) (by decide +kernel)
              j_c0 (pc := 89) (v := (4, 0)) D rfl rfl (by decide +kernel) fun D =>
              fk_jump cut_217_90 rfl rfl) (fun q D =>
              j_aldn (pc := 85) D rfl rfl rfl fun D =>
              j_goto (pc := 86) D rfl <|
              fk_jump cut_217_90 rfl rfl)) (fun q4 h2 e1 =>
            j_tx (hx_217 _)))))
theorem e_217_70 (d : Nat) {h : fi_H} (H : Shp h) : c_217_70 d h =
  ca_ (fj_run d 164 h [(4, 377), (0, 4)]) 4
    (fun v2 h1 =>
    if v2 ≠ 0 then
    tx_ v2.toNat h1
    else none)
    (fun q3 h1 => tx_ q3 h1) := by
  unfold c_217_70
  exact
    have D : fk_D 217 [(70, some [0], .aload_n 0, 1, 0, 0, 0), (71, none, .iconst 4, 1, 0, 4, 0), (72, none, .invokevirtual 190, 3, 1, 258, 5), (75, none, .athrow, 1, 0, 0, 0)] := fq_of2 cd_217 ow_217 cl_217 rfl (pc := 70) (by decide +kernel)
    j_aldn (pc := 70) D rfl rfl rfl fun D =>
    j_ic (pc := 71) D rfl fun D =>
    j_iv (pc := 72) (m := 164) (dd := 258) (a := [(0, 4)]) (rest := []) D rfl rfl rfl rfl rfl (by decide) (s0_377 H) (by decide +kernel) (fun v2 h1 e1 D =>
      have T := fj_run_ok _ _ _ _ _ _ H.1 e1
      have H := shp_st H T
      j_at (pc := 75) D gn <|
      j_tx (hx_217 _)) (fun q3 h1 e1 =>
      j_tx (hx_217 _))
theorem e_217_90 (d : Nat) (x1 s0 s1 : Int) {h : fi_H} (H : Shp h) : c_217_90 d x1 s0 s1 h =
  dv_ (fi_vt 287 (h 0 s0.toNat 0)) fun m4 => cv_ (fj_run d m4 h [(4, s0), (4, s1)])
    (fun h1 =>
    if 0 ≤ h1 158 377 0 ∧ h1 158 377 0 < 1202 then
    if h1 8 378 (h1 158 377 0).toNat = 0 then
      some (.inl none, h1)
    else
      c_217_0 d x1 h1
    else none)
    (fun q3 h1 => tx_ q3 h1) := by
  unfold c_217_90
  exact
    have D : fk_D 217 [(90, some [0, 1], .invokevirtual 588, 3, 1, 287, 0), (93, none, .aload_n 0, 1, 0, 0, 0), (94, none, .getfield 15, 3, 149, 115, 12), (97, none, .aload_n 0, 1, 0, 0, 0), (98, none, .getfield 104, 3, 158, 115, 10), (101, none, .baload, 1, 0, 0, 0), (102, none, .ifCond .ne (-102), 3, 0, 0, 0), (105, none, .return_, 1, 0, 0, 0)] := fq_of2 cd_217 ow_217 cl_217 rfl (pc := 90) (by decide +kernel)
    j_ivuv (pc := 90) (dd := 287) (a := [(4, s1)]) (rest := []) H.2.1 D rfl rfl rfl rfl rfl (fun m4 h1 e1 D =>
      have T := fj_run_ok _ _ _ _ _ _ H.1 e1
      have H := shp_st H T
      j_aldn (pc := 93) D rfl rfl rfl fun D =>
      j_gfc (pc := 94) (a := 377) D rfl rfl (by decide) rfl (s0_377 H) rfl (sf_149_377 H) fun D =>
      j_aldn (pc := 97) D rfl rfl rfl fun D =>
      j_gf (pc := 98) (a := 377) D rfl rfl (by decide) rfl (s0_377 H) rfl fun D =>
      j_al (pc := 101) (a := 378) (e := 8) D rfl rfl rfl (by decide) (s0_378 H) (s1_378 H) ⟨rfl, rfl, rfl⟩ rfl gn fun qb5 D =>
      j_ifne (pc := 102) D rfl (fun q D =>
        j_vret D rt_217) (fun q =>
        fk_jump cut_217_0 rfl rfl)) (fun m4 q3 h1 e1 =>
      j_tx (hx_217 _))
theorem m_217 (d : Nat) (x1 : Int) {h : fi_H} (H : Shp h) : fj_run (d + 1) 217 h [(4, 377), (4, x1)] =
  c_217_0 d x1 h := by
  rw [fj_run_eq d (by decide) h [(4, 377), (4, x1)] (Nat.le_of_ble_eq_true (by rw [nl_217]; rfl))]
  show gG (fj_run d) 217 0 [(0, (4, 377)), (1, (4, x1))] [] h = _
  exact
    fk_jump cut_217_0 rfl rfl
/-! 218 StatuteHouse$Reader.article(LStatuteHouse$Law;)V -/
theorem cd_218 : fi_code 218 = prog_53_method_51_code := rfl
theorem hx_218 : ∀ pc, fi_hat 218 pc = none := fun pc => by unfold fi_hat; rw [show fi_hh 218 = [] from rfl]; rfl
theorem rt_218 : fi_ret 218 = none := rfl
theorem nl_218 : fi_nl 218 = 11 := rfl
theorem ow_218 : fi_ow 218 = 15 := rfl
theorem cl_218 : fj_cutT.getD 218 [] = [(44, [0, 1, 2, 3, 4]), (98, [0, 1, 3, 4, 5, 7, 8, 9]), (130, [0, 1, 3, 4, 5]), (191, [0, 3, 4, 5, 6, 7])] := rfl
theorem cut_218_44 : fj_cut 218 44 = some [0, 1, 2, 3, 4] := by decide +kernel
noncomputable def c_218_44 (d : Nat) (x1 x2 x3 x4 : Int) (h : fi_H) : fk_R := gG (fj_run d) 218 44 [(0, (4, 377)), (1, (4, x1)), (2, (0, x2)), (3, (0, x3)), (4, (0, x4))] [] h
theorem cut_218_98 : fj_cut 218 98 = some [0, 1, 3, 4, 5, 7, 8, 9] := by decide +kernel
noncomputable def c_218_98 (d : Nat) (x1 x3 x4 x5 x7 x8 x9 : Int) (h : fi_H) : fk_R := gG (fj_run d) 218 98 [(0, (4, 377)), (1, (4, x1)), (3, (0, x3)), (4, (0, x4)), (5, (0, x5)), (7, (4, x7)), (8, (0, x8)), (9, (0, x9))] [] h
theorem cut_218_130 : fj_cut 218 130 = some [0, 1, 3, 4, 5] := by decide +kernel
noncomputable def c_218_130 (d : Nat) (x1 x3 x4 x5 : Int) (h : fi_H) : fk_R := gG (fj_run d) 218 130 [(0, (4, 377)), (1, (4, x1)), (3, (0, x3)), (4, (0, x4)), (5, (0, x5))] [] h
theorem cut_218_191 : fj_cut 218 191 = some [0, 3, 4, 5, 6, 7] := by decide +kernel
noncomputable def c_218_191 (d : Nat) (x3 x4 x5 x6 x7 : Int) (h : fi_H) : fk_R := gG (fj_run d) 218 191 [(0, (4, 377)), (3, (0, x3)), (4, (0, x4)), (5, (0, x5)), (6, (4, x6)), (7, (0, x7))] [] h
theorem e_218_44 (d : Nat) (x1 x2 x3 x4 : Int) {h : fi_H} (H : Shp h) : c_218_44 d x1 x2 x3 x4 h =
  cv_ (fj_run d 182 h [(4, 377), (0, 123)])
    (fun h1 =>
    if x1 = 0 then
      c_218_130 d x1 x3 x4 0 h1
    else
      ca_ (fj_run d 220 h1 [(4, 377), (4, x1), (0, x3), (0, x4)]) 4
        (fun v5 h4 =>
        if v5 = 0 then
          ca_ (fj_run d 165 h4 [(4, 303), (0, 7), (0, x2)]) 4
            (fun v8 h7 =>
            if v8 ≠ 0 then
            tx_ v8.toNat h7
            else none)
            (fun q9 h7 => tx_ q9 h7)
        else
          if h4 0 v5.toNat 0 = 126 then
          if fk_isA (h4 0 (h4 374 v5.toNat 0).toNat 0) = true then
          c_218_98 d x1 x3 x4 0 (h4 374 v5.toNat 0) (h4 1 (h4 374 v5.toNat 0).toNat 0) 0 h4
          else none
          else none)
        (fun q6 h4 => tx_ q6 h4))
    (fun q3 h1 => tx_ q3 h1) := by
  unfold c_218_44
  exact
    have D : fk_D 218 [(44, some [0, 1, 2, 3, 4], .aload_n 0, 1, 0, 0, 0), (45, none, .bipush 123, 2, 0, 123, 0), (47, none, .invokevirtual 216, 3, 1, 264, 0), (50, none, .iconst 0, 1, 0, 0, 0), (51, none, .istore 5, 2, 0, 0, 0), (53, none, .aload_n 1, 1, 0, 0, 0), (54, none, .ifnull 76, 3, 130, 0, 0), (57, none, .aload_n 0, 1, 0, 0, 0), (58, none, .aload_n 1, 1, 0, 0, 0), (59, none, .iload_n 3, 1, 0, 0, 0), (60, none, .iload 4, 2, 0, 0, 0), (62, none, .invokevirtual 619, 3, 3, 291, 5), (65, none, .astore 6, 2, 0, 0, 0), (67, none, .aload 6, 2, 0, 0, 0), (69, none, .ifnonnull 14, 3, 83, 0, 0), (72, none, .aload_n 0, 1, 0, 0, 0), (73, none, .getfield 3, 3, 182, 115, 12), (76, none, .bipush 7, 2, 0, 7, 0), (78, none, .iload_n 2, 1, 0, 0, 0), (79, none, .invokevirtual 186, 3, 2, 257, 5)] := fq_of2 cd_218 ow_218 cl_218 rfl (pc := 44) (by decide +kernel)
    j_aldn (pc := 44) D rfl rfl rfl fun D =>
    j_bp (pc := 45) D rfl fun D =>
    j_ivv (pc := 47) (m := 182) (dd := 264) (a := [(0, 123)]) (rest := []) D rfl rfl rfl rfl rfl (by decide) (s0_377 H) (by decide +kernel) (fun h1 e1 D =>
      have T := fj_run_ok _ _ _ _ _ _ H.1 e1
      have H := shp_st H T
      j_ic (pc := 50) D rfl fun D =>
      j_ist (pc := 51) (L' := [(5, (0, 0)), (0, (4, 377)), (1, (4, x1)), (2, (0, x2)), (3, (0, x3)), (4, (0, x4))]) D rfl nl_218 rfl rfl fun D =>
      j_aldn (pc := 53) D rfl rfl rfl fun D =>
      j_null (pc := 54) D rfl (fun q =>
        fk_jump cut_218_130 rfl rfl) (fun q D =>
        j_aldn (pc := 57) D rfl rfl rfl fun D =>
        j_aldn (pc := 58) D rfl rfl rfl fun D =>
        j_ildn (pc := 59) D rfl rfl rfl fun D =>
        j_ild (pc := 60) D rfl rfl rfl fun D =>
        j_iv (pc := 62) (m := 220) (dd := 291) (a := [(4, x1), (0, x3), (0, x4)]) (rest := []) D rfl rfl rfl rfl rfl (by decide) (s0_377 H) (by decide +kernel) (fun v5 h4 e1 D =>
          have T := fj_run_ok _ _ _ _ _ _ H.1 e1
          have H := shp_st H T
          j_ast (pc := 65) (L' := [(6, (4, v5)), (5, (0, 0)), (0, (4, 377)), (1, (4, x1)), (2, (0, x2)), (3, (0, x3)), (4, (0, x4))]) D rfl nl_218 rfl rfl fun D =>
          j_ald (pc := 67) D rfl rfl rfl fun D =>
          j_nonnull (pc := 69) D rfl (fun q D =>
            j_aldn (pc := 72) D rfl rfl rfl fun D =>
            j_gfc (pc := 73) (a := 377) D rfl rfl (by decide) rfl (s0_377 H) rfl (sf_182_377 H) fun D =>
            j_bp (pc := 76) D rfl fun D =>
            j_ildn (pc := 78) D rfl rfl rfl fun D =>
            j_iv (pc := 79) (m := 165) (dd := 257) (a := [(0, 7), (0, x2)]) (rest := []) D rfl rfl rfl rfl rfl (by decide) (s0_303 H) (by decide +kernel) (fun v8 h7 e1 D =>
              have T := fj_run_ok _ _ _ _ _ _ H.1 e1
              have H := shp_st H T
              have D : fk_D 218 [(82, none, .athrow, 1, 0, 0, 0)] := fq_of2 cd_218 ow_218 cl_218 rfl (pc := 82) (by decide +kernel)
              j_at (pc := 82) D gn <|
              j_tx (hx_218 _)) (fun q9 h7 e1 =>
              j_tx (hx_218 _))) (fun q =>
            have D : fk_D 218 [(83, none, .aload 6, 2, 0, 0, 0), (85, none, .getfield 623, 3, 374, (-126), 12), (88, none, .astore 7, 2, 0, 0, 0), (90, none, .aload 7, 2, 0, 0, 0), (92, none, .arraylength, 1, 0, 0, 0), (93, none, .istore 8, 2, 0, 0, 0), (95, none, .iconst 0, 1, 0, 0, 0), (96, none, .istore 9, 2, 0, 0, 0)] := fq_of2 cd_218 ow_218 cl_218 rfl (pc := 83) (by decide +kernel)
            j_ald (pc := 83) D rfl rfl rfl fun D =>
            j_gfo (pc := 85) H.2.1 D rfl rfl rfl rfl fun kc10 D =>
            j_ast (pc := 88) (L' := [(7, (4, h4 374 v5.toNat 0)), (6, (4, v5)), (5, (0, 0)), (0, (4, 377)), (1, (4, x1)), (2, (0, x2)), (3, (0, x3)), (4, (0, x4))]) D rfl nl_218 rfl rfl fun D =>
            j_ald (pc := 90) D rfl rfl rfl fun D =>
            j_lenu (pc := 92) H.2.1 D rfl fun q D =>
            j_ist (pc := 93) (L' := [(8, (0, h4 1 (h4 374 v5.toNat 0).toNat 0)), (7, (4, h4 374 v5.toNat 0)), (6, (4, v5)), (5, (0, 0)), (0, (4, 377)), (1, (4, x1)), (2, (0, x2)), (3, (0, x3)), (4, (0, x4))]) D rfl nl_218 rfl rfl fun D =>
            j_ic (pc := 95) D rfl fun D =>
            j_ist (pc := 96) (L' := [(9, (0, 0)), (8, (0, h4 1 (h4 374 v5.toNat 0).toNat 0)), (7, (4, h4 374 v5.toNat 0)), (6, (4, v5)), (5, (0, 0)), (0, (4, 377)), (1, (4, x1)), (2, (0, x2)), (3, (0, x3)), (4, (0, x4))]) D rfl nl_218 rfl rfl fun D =>
            fk_jump cut_218_98 rfl rfl)) (fun q6 h4 e1 =>
          j_tx (hx_218 _)))) (fun q3 h1 e1 =>
      j_tx (hx_218 _))
theorem e_218_98 (d : Nat) (x1 x3 x4 x5 x7 x8 x9 : Int) {h : fi_H} (H : Shp h) : c_218_98 d x1 x3 x4 x5 x7 x8 x9 h =
  if x9 < x8 then
    if (20 ≤ h 0 x7.toNat 0 ∧ h 0 x7.toNat 0 < 30) ∧ 0 ≤ x9 ∧ x9 < h 1 x7.toNat 0 then
    if 0 ≤ x5 ∧ x5 < 40 then
    if h 12 x7.toNat x9.toNat = 0 ∨ (fi_sup (h 0 (h 12 x7.toNat x9.toNat).toNat 0)).contains 117 = true then
    lt_ (fi_upd h 12 387 x5.toNat (h 12 x7.toNat x9.toNat)) fun h1 =>
    c_218_98 d x1 x3 x4 (wI (x5 + 1)) x7 x8 (wI (x9 + 1)) h1
    else none
    else none
    else none
  else
    c_218_130 d x1 x3 x4 x5 h := by
  unfold c_218_98
  exact
    have D : fk_D 218 [(98, some [0, 1, 3, 4, 5, 7, 8, 9], .iload 9, 2, 0, 0, 0), (100, none, .iload 8, 2, 0, 0, 0), (102, none, .if_icmp .ge 28, 3, 130, 0, 0), (105, none, .aload 7, 2, 0, 0, 0), (107, none, .iload 9, 2, 0, 0, 0), (109, none, .aaload, 1, 0, 0, 0), (110, none, .astore 10, 2, 0, 0, 0), (112, none, .aload_n 0, 1, 0, 0, 0), (113, none, .getfield 56, 3, 166, 115, 12), (116, none, .iload 5, 2, 0, 0, 0), (118, none, .aload 10, 2, 0, 0, 0), (120, none, .aastore, 1, 0, 0, 0), (121, none, .iinc 5 1, 3, 0, 1, 0), (124, none, .iinc 9 1, 3, 0, 1, 0), (127, none, .goto (-29), 3, 98, 0, 0)] := fq_of2 cd_218 ow_218 cl_218 rfl (pc := 98) (by decide +kernel)
    j_ild (pc := 98) D rfl rfl rfl fun D =>
    j_ild (pc := 100) D rfl rfl rfl fun D =>
    j_ige (pc := 102) D rfl (fun q D =>
      j_ald (pc := 105) D rfl rfl rfl fun D =>
      j_ild (pc := 107) D rfl rfl rfl fun D =>
      j_alr (pc := 109) H.2.1 D rfl rfl fun q q2 D =>
      j_ast (pc := 110) (L' := [(10, (4, h 12 x7.toNat x9.toNat)), (0, (4, 377)), (1, (4, x1)), (3, (0, x3)), (4, (0, x4)), (5, (0, x5)), (7, (4, x7)), (8, (0, x8)), (9, (0, x9))]) D rfl nl_218 rfl rfl fun D =>
      j_aldn (pc := 112) D rfl rfl rfl fun D =>
      j_gfc (pc := 113) (a := 377) D rfl rfl (by decide) rfl (s0_377 H) rfl (sf_166_377 H) fun D =>
      j_ild (pc := 116) D rfl rfl rfl fun D =>
      j_ald (pc := 118) D rfl rfl rfl fun D =>
      j_asr (pc := 120) (a := 387) D rfl rfl (by decide) (s0_387 H) (s1_387 H) ⟨rfl, rfl, rfl⟩ rfl gn gn fun h1 eh1 S qb2 D =>
      have T := fj_hs_ok H.1 S
      have H := shp_st H T
      j_inc (pc := 121) (L' := [(5, (0, wI (x5 + 1))), (10, (4, h 12 x7.toNat x9.toNat)), (0, (4, 377)), (1, (4, x1)), (3, (0, x3)), (4, (0, x4)), (7, (4, x7)), (8, (0, x8)), (9, (0, x9))]) D rfl rfl rfl (by decide +kernel) rfl fun D =>
      j_inc (pc := 124) (L' := [(9, (0, wI (x9 + 1))), (5, (0, wI (x5 + 1))), (10, (4, h 12 x7.toNat x9.toNat)), (0, (4, 377)), (1, (4, x1)), (3, (0, x3)), (4, (0, x4)), (7, (4, x7)), (8, (0, x8))]) D rfl rfl rfl (by decide +kernel) rfl fun D =>
      j_goto (pc := 127) D rfl <|
      fk_jump cut_218_98 rfl rfl) (fun q =>
      fk_jump cut_218_130 rfl rfl)
theorem e_218_130 (d : Nat) (x1 x3 x4 x5 : Int) {h : fi_H} (H : Shp h) : c_218_130 d x1 x3 x4 x5 h =
  ca_ (fj_run d 183 h [(4, 377), (0, 125)]) 0
    (fun v2 h1 =>
    if v2 = 0 then
      if x1 = 0 then
        ca_ (fj_run d 223 h1 [(4, 377), (0, x3), (0, x5), (0, x5)]) 4
          (fun v5 h4 =>
          if 0 ≤ x5 ∧ x5 < 40 then
          if v5 = 0 ∨ (fi_sup (h4 0 v5.toNat 0)).contains 117 = true then
          lt_ (fi_upd h4 12 387 x5.toNat v5) fun h7 =>
          c_218_130 d x1 x3 x4 (wI (x5 + 1)) h7
          else none
          else none)
          (fun q6 h4 => tx_ q6 h4)
      else
        ca_ (fj_run d 221 h1 [(4, 377), (0, x3), (0, x5)]) 0
          (fun v10 h9 =>
          c_218_130 d x1 x3 x4 v10 h9)
          (fun q11 h9 => tx_ q11 h9)
    else
      cv_ (fj_run d 166 h1 [(4, 377)])
        (fun h12 =>
        if 0 ≤ x5 ∧ x5 < 64 then
        nw_ h12 23 x5 x5 fun r15 h16 =>
        c_218_191 d x3 x4 x5 r15 0 h16
        else none)
        (fun q14 h12 => tx_ q14 h12))
    (fun q3 h1 => tx_ q3 h1) := by
  unfold c_218_130
  exact
    have D : fk_D 218 [(130, some [0, 1, 3, 4, 5], .aload_n 0, 1, 0, 0, 0), (131, none, .bipush 125, 2, 0, 125, 0), (133, none, .invokevirtual 202, 3, 1, 260, 1), (136, none, .ifCond .ne 41, 3, 177, 0, 0), (139, none, .aload_n 1, 1, 0, 0, 0), (140, none, .ifnull 15, 3, 155, 0, 0), (143, none, .aload_n 0, 1, 0, 0, 0), (144, none, .iload_n 3, 1, 0, 0, 0), (145, none, .iload 5, 2, 0, 0, 0), (147, none, .invokevirtual 626, 3, 2, 292, 1), (150, none, .istore 5, 2, 0, 0, 0), (152, none, .goto (-22), 3, 130, 0, 0)] := fq_of2 cd_218 ow_218 cl_218 rfl (pc := 130) (by decide +kernel)
    j_aldn (pc := 130) D rfl rfl rfl fun D =>
    j_bp (pc := 131) D rfl fun D =>
    j_iv (pc := 133) (m := 183) (dd := 260) (a := [(0, 125)]) (rest := []) D rfl rfl rfl rfl rfl (by decide) (s0_377 H) (by decide +kernel) (fun v2 h1 e1 D =>
      have T := fj_run_ok _ _ _ _ _ _ H.1 e1
      have H := shp_st H T
      j_ifne (pc := 136) D rfl (fun q D =>
        j_aldn (pc := 139) D rfl rfl rfl fun D =>
        j_null (pc := 140) D rfl (fun q =>
          have D : fk_D 218 [(155, none, .aload_n 0, 1, 0, 0, 0), (156, none, .getfield 56, 3, 166, 115, 12), (159, none, .iload 5, 2, 0, 0, 0), (161, none, .aload_n 0, 1, 0, 0, 0), (162, none, .iload_n 3, 1, 0, 0, 0), (163, none, .iload 5, 2, 0, 0, 0), (165, none, .iload 5, 2, 0, 0, 0), (167, none, .invokevirtual 603, 3, 3, 289, 5), (170, none, .aastore, 1, 0, 0, 0), (171, none, .iinc 5 1, 3, 0, 1, 0), (174, none, .goto (-44), 3, 130, 0, 0)] := fq_of2 cd_218 ow_218 cl_218 rfl (pc := 155) (by decide +kernel)
          j_aldn (pc := 155) D rfl rfl rfl fun D =>
          j_gfc (pc := 156) (a := 377) D rfl rfl (by decide) rfl (s0_377 H) rfl (sf_166_377 H) fun D =>
          j_ild (pc := 159) D rfl rfl rfl fun D =>
          j_aldn (pc := 161) D rfl rfl rfl fun D =>
          j_ildn (pc := 162) D rfl rfl rfl fun D =>
          j_ild (pc := 163) D rfl rfl rfl fun D =>
          j_ild (pc := 165) D rfl rfl rfl fun D =>
          j_iv (pc := 167) (m := 223) (dd := 289) (a := [(0, x3), (0, x5), (0, x5)]) (rest := [(0, x5), (4, 387)]) D rfl rfl rfl rfl rfl (by decide) (s0_377 H) (by decide +kernel) (fun v5 h4 e1 D =>
            have T := fj_run_ok _ _ _ _ _ _ H.1 e1
            have H := shp_st H T
            j_asr (pc := 170) (a := 387) D rfl rfl (by decide) (s0_387 H) (s1_387 H) ⟨rfl, rfl, rfl⟩ rfl gn gn fun h7 eh7 S qb8 D =>
            have T := fj_hs_ok H.1 S
            have H := shp_st H T
            j_inc (pc := 171) (L' := [(5, (0, wI (x5 + 1))), (0, (4, 377)), (1, (4, x1)), (3, (0, x3)), (4, (0, x4))]) D rfl rfl rfl (by decide +kernel) rfl fun D =>
            j_goto (pc := 174) D rfl <|
            fk_jump cut_218_130 rfl rfl) (fun q6 h4 e1 =>
            j_tx (hx_218 _))) (fun q D =>
          j_aldn (pc := 143) D rfl rfl rfl fun D =>
          j_ildn (pc := 144) D rfl rfl rfl fun D =>
          j_ild (pc := 145) D rfl rfl rfl fun D =>
          j_iv (pc := 147) (m := 221) (dd := 292) (a := [(0, x3), (0, x5)]) (rest := []) D rfl rfl rfl rfl rfl (by decide) (s0_377 H) (by decide +kernel) (fun v10 h9 e1 D =>
            have T := fj_run_ok _ _ _ _ _ _ H.1 e1
            have H := shp_st H T
            j_ist (pc := 150) (L' := [(5, (0, v10)), (0, (4, 377)), (1, (4, x1)), (3, (0, x3)), (4, (0, x4))]) D rfl nl_218 rfl rfl fun D =>
            j_goto (pc := 152) D rfl <|
            fk_jump cut_218_130 rfl rfl) (fun q11 h9 e1 =>
            j_tx (hx_218 _)))) (fun q =>
        have D : fk_D 218 [(177, none, .aload_n 0, 1, 0, 0, 0), (178, none, .invokevirtual 206, 3, 0, 261, 0), (181, none, .iload 5, 2, 0, 0, 0), (183, none, .anewarray 54, 3, 117, 23, 0), (186, none, .astore 6, 2, 0, 0, 0), (188, none, .iconst 0, 1, 0, 0, 0), (189, none, .istore 7, 2, 0, 0, 0)] := fq_of2 cd_218 ow_218 cl_218 rfl (pc := 177) (by decide +kernel)
        j_aldn (pc := 177) D rfl rfl rfl fun D =>
        j_ivv (pc := 178) (m := 166) (dd := 261) (a := []) (rest := []) D rfl rfl rfl rfl rfl (by decide) (s0_377 H) (by decide +kernel) (fun h12 e1 D =>
          have T := fj_run_ok _ _ _ _ _ _ H.1 e1
          have H := shp_st H T
          j_ild (pc := 181) D rfl rfl rfl fun D =>
          j_ana (pc := 183) (N := 64) D rfl rfl gn fun r15 h16 er eh16 S q D =>
          have gt_r15 := nw_gt H.1 er
          have kc_r15 := nw_cls H.1 er eh16
          have kl_r15 := nw_len H.1 er eh16
          have T := fj_hs_ok H.1 S
          have H := shp_st H T
          j_ast (pc := 186) (L' := [(6, (4, r15)), (0, (4, 377)), (1, (4, x1)), (3, (0, x3)), (4, (0, x4)), (5, (0, x5))]) D rfl nl_218 rfl rfl fun D =>
          j_ic (pc := 188) D rfl fun D =>
          j_ist (pc := 189) (L' := [(7, (0, 0)), (6, (4, r15)), (0, (4, 377)), (1, (4, x1)), (3, (0, x3)), (4, (0, x4)), (5, (0, x5))]) D rfl nl_218 rfl rfl fun D =>
          fk_jump cut_218_191 rfl rfl) (fun q14 h12 e1 =>
          j_tx (hx_218 _)))) (fun q3 h1 e1 =>
      j_tx (hx_218 _))
theorem e_218_191 (d : Nat) (x3 x4 x5 x6 x7 : Int) {h : fi_H} (H : Shp h) : c_218_191 d x3 x4 x5 x6 x7 h =
  if x7 < x5 then
    if 0 ≤ x7 ∧ x7 < 40 then
    if 302 < x6 ∧ (20 ≤ h 0 x6.toNat 0 ∧ h 0 x6.toNat 0 < 30) then
    if 0 ≤ x7 ∧ x7 < h 1 x6.toNat 0 then
    if h 0 x6.toNat 0 ≠ 28 ∧ (h 12 387 x7.toNat = 0 ∨ (fi_sup (h 0 (h 12 387 x7.toNat).toNat 0)).contains (fi_comp (h 0 x6.toNat 0)) = true) then
    lt_ (fi_upd h 12 x6.toNat x7.toNat (h 12 387 x7.toNat)) fun h2 =>
    c_218_191 d x3 x4 x5 x6 (wI (x7 + 1)) h2
    else none
    else none
    else none
    else none
  else
    nw_ h 126 3 0 fun r3 h4 =>
    cv_ (fj_run d 299 h4 [(4, r3), (0, x3), (0, x4), (4, x6)])
      (fun h5 =>
      if 0 ≤ h 163 377 0 ∧ h 163 377 0 < 30 then
      lt_ (fi_upd h5 12 386 (h 163 377 0).toNat r3) fun h8 =>
      lt_ (fi_upd h8 163 377 0 (wI ((h8 163 377 0) + 1))) fun h10 =>
      some (.inl none, h10)
      else none)
      (fun q7 h5 => tx_ q7 h5) := by
  unfold c_218_191
  exact
    have D : fk_D 218 [(191, some [0, 3, 4, 5, 6, 7], .iload 7, 2, 0, 0, 0), (193, none, .iload 5, 2, 0, 0, 0), (195, none, .if_icmp .ge 21, 3, 216, 0, 0), (198, none, .aload 6, 2, 0, 0, 0), (200, none, .iload 7, 2, 0, 0, 0), (202, none, .aload_n 0, 1, 0, 0, 0), (203, none, .getfield 56, 3, 166, 115, 12), (206, none, .iload 7, 2, 0, 0, 0), (208, none, .aaload, 1, 0, 0, 0), (209, none, .aastore, 1, 0, 0, 0), (210, none, .iinc 7 1, 3, 0, 1, 0), (213, none, .goto (-22), 3, 191, 0, 0)] := fq_of2 cd_218 ow_218 cl_218 rfl (pc := 191) (by decide +kernel)
    j_ild (pc := 191) D rfl rfl rfl fun D =>
    j_ild (pc := 193) D rfl rfl rfl fun D =>
    j_ige (pc := 195) D rfl (fun q D =>
      j_ald (pc := 198) D rfl rfl rfl fun D =>
      j_ild (pc := 200) D rfl rfl rfl fun D =>
      j_aldn (pc := 202) D rfl rfl rfl fun D =>
      j_gfc (pc := 203) (a := 377) D rfl rfl (by decide) rfl (s0_377 H) rfl (sf_166_377 H) fun D =>
      j_ild (pc := 206) D rfl rfl rfl fun D =>
      j_al (pc := 208) (a := 387) (e := 12) D rfl rfl rfl (by decide) (s0_387 H) (s1_387 H) ⟨rfl, rfl, rfl⟩ rfl gn fun qb1 D =>
      j_asur (pc := 209) D rfl rfl gn gn gn fun h2 eh2 S q q2 D =>
      have T := fj_hs_ok H.1 S
      have H := shp_st H T
      j_inc (pc := 210) (L' := [(7, (0, wI (x7 + 1))), (0, (4, 377)), (3, (0, x3)), (4, (0, x4)), (5, (0, x5)), (6, (4, x6))]) D rfl rfl rfl (by decide +kernel) rfl fun D =>
      j_goto (pc := 213) D rfl <|
      fk_jump cut_218_191 rfl rfl) (fun q =>
      have D : fk_D 218 [(216, none, .aload_n 0, 1, 0, 0, 0), (217, none, .getfield 50, 3, 165, 115, 12), (220, none, .aload_n 0, 1, 0, 0, 0), (221, none, .getfield 122, 3, 163, 115, 10), (224, none, .new 48, 3, 126, 3, 0), (227, none, .dup, 1, 0, 0, 0), (228, none, .iload_n 3, 1, 0, 0, 0), (229, none, .iload 4, 2, 0, 0, 0), (231, none, .aload 6, 2, 0, 0, 0), (233, none, .invokespecial 629, 3, 3, 299, 0), (236, none, .aastore, 1, 0, 0, 0), (237, none, .aload_n 0, 1, 0, 0, 0), (238, none, .dup, 1, 0, 0, 0), (239, none, .getfield 122, 3, 163, 115, 10), (242, none, .iconst 1, 1, 0, 1, 0), (243, none, .iadd, 1, 0, 0, 0), (244, none, .putfield 122, 3, 163, 115, 10), (247, none, .return_, 1, 0, 0, 0)] := fq_of2 cd_218 ow_218 cl_218 rfl (pc := 216) (by decide +kernel)
      j_aldn (pc := 216) D rfl rfl rfl fun D =>
      j_gfc (pc := 217) (a := 377) D rfl rfl (by decide) rfl (s0_377 H) rfl (sf_165_377 H) fun D =>
      j_aldn (pc := 220) D rfl rfl rfl fun D =>
      j_gf (pc := 221) (a := 377) D rfl rfl (by decide) rfl (s0_377 H) rfl fun D =>
      j_new (pc := 224) D rfl fun r3 h4 er eh4 S D =>
      have gt_r3 := nw_gt H.1 er
      have kc_r3 := nw_cls H.1 er eh4
      have T := fj_hs_ok H.1 S
      have H := shp_st H T
      j_sh (pc := 227) D rfl rfl rfl fun D =>
      j_ildn (pc := 228) D rfl rfl rfl fun D =>
      j_ild (pc := 229) D rfl rfl rfl fun D =>
      j_ald (pc := 231) D rfl rfl rfl fun D =>
      j_spv (pc := 233) (m := 299) (a := [(0, x3), (0, x4), (4, x6)]) (rest := [(4, r3), (0, h 163 377 0), (4, 386)]) D rfl rfl rfl rfl (by rw [show h4 0 r3.toNat 0 = 126 from kc_r3]; decide) (gt_nz gt_r3) (fun h5 e1 D =>
        have T := fj_run_ok _ _ _ _ _ _ H.1 e1
        have kc_r3 := cls_st H.1 T.2 kc_r3 (by decide)
        have H := shp_st H T
        j_asr (pc := 236) (a := 386) D rfl rfl (by decide) (s0_386 H) (s1_386 H) ⟨rfl, rfl, rfl⟩ rfl gn (gy (Or.inr (by rw [show h5 0 r3.toNat 0 = 126 from kc_r3]; decide +kernel))) fun h8 eh8 S qb9 D =>
        have T := fj_hs_ok H.1 S
        have H := shp_st H T
        j_aldn (pc := 237) D rfl rfl rfl fun D =>
        j_sh (pc := 238) D rfl rfl rfl fun D =>
        j_gf (pc := 239) (a := 377) D rfl rfl (by decide) rfl (s0_377 H) rfl fun D =>
        j_ic (pc := 242) D rfl fun D =>
        j_iadd (pc := 243) D rfl fun D =>
        j_pf (pc := 244) (a := 377) D rfl rfl rfl (s0_377 H) rfl rfl (gy (by decide)) (gy rfl) fun h10 eh10 S D =>
        have T := fj_hs_ok H.1 S
        have H := shp_st H T
        j_vret D rt_218) (fun q7 h5 e1 =>
        j_tx (hx_218 _)))
theorem m_218 (d : Nat) (x1 : Int) {h : fi_H} (H : Shp h) : fj_run (d + 1) 218 h [(4, 377), (4, x1)] =
  if 0 ≤ h 158 377 0 ∧ h 158 377 0 < 1202 then
  ca_ (fj_run d 219 h [(4, 377)]) 0
    (fun v3 h2 =>
    ca_ (fj_run d 162 h2 [(4, 377), (4, 215)]) 0
      (fun v6 h5 =>
      if v6 = 0 then
        c_218_44 d x1 (h 9 379 (h 158 377 0).toNat) v3 (h2 239 303 0) h5
      else
        cv_ (fj_run d 166 h5 [(4, 377)])
          (fun h8 =>
          ca_ (fj_run d 195 h8 [(4, 377)]) 0
            (fun v12 h11 =>
            c_218_44 d x1 (h 9 379 (h 158 377 0).toNat) v3 v12 h11)
            (fun q13 h11 => tx_ q13 h11))
          (fun q10 h8 => tx_ q10 h8))
      (fun q7 h5 => tx_ q7 h5))
    (fun q4 h2 => tx_ q4 h2)
  else none := by
  rw [fj_run_eq d (by decide) h [(4, 377), (4, x1)] (Nat.le_of_ble_eq_true (by rw [nl_218]; rfl))]
  show gG (fj_run d) 218 0 [(0, (4, 377)), (1, (4, x1))] [] h = _
  exact
    have D : fk_D 218 [(0, none, .aload_n 0, 1, 0, 0, 0), (1, none, .getfield 19, 3, 150, 115, 12), (4, none, .aload_n 0, 1, 0, 0, 0), (5, none, .getfield 104, 3, 158, 115, 10), (8, none, .saload, 1, 0, 0, 0), (9, none, .istore_n 2, 1, 0, 0, 0), (10, none, .aload_n 0, 1, 0, 0, 0), (11, none, .invokevirtual 613, 3, 0, 290, 1), (14, none, .istore_n 3, 1, 0, 0, 0), (15, none, .aload_n 0, 1, 0, 0, 0), (16, none, .getfield 3, 3, 182, 115, 12), (19, none, .getfield 616, 3, 239, 100, 10), (22, none, .istore 4, 2, 0, 0, 0), (24, none, .aload_n 0, 1, 0, 0, 0), (25, none, .ldc_w 292, 3, 4, 215, 0), (28, none, .invokevirtual 209, 3, 1, 262, 1), (31, none, .ifCond .eq 13, 3, 44, 0, 0), (34, none, .aload_n 0, 1, 0, 0, 0), (35, none, .invokevirtual 206, 3, 0, 261, 0), (38, none, .aload_n 0, 1, 0, 0, 0)] := fq_of2 cd_218 ow_218 cl_218 rfl (pc := 0) (by decide +kernel)
    j_aldn (pc := 0) D rfl rfl rfl fun D =>
    j_gfc (pc := 1) (a := 377) D rfl rfl (by decide) rfl (s0_377 H) rfl (sf_150_377 H) fun D =>
    j_aldn (pc := 4) D rfl rfl rfl fun D =>
    j_gf (pc := 5) (a := 377) D rfl rfl (by decide) rfl (s0_377 H) rfl fun D =>
    j_al (pc := 8) (a := 379) (e := 9) D rfl rfl rfl (by decide) (s0_379 H) (s1_379 H) ⟨rfl, rfl, rfl⟩ rfl gn fun qb1 D =>
    j_istn (pc := 9) (L' := [(2, (0, h 9 379 (h 158 377 0).toNat)), (0, (4, 377)), (1, (4, x1))]) D rfl nl_218 rfl rfl fun D =>
    j_aldn (pc := 10) D rfl rfl rfl fun D =>
    j_iv (pc := 11) (m := 219) (dd := 290) (a := []) (rest := []) D rfl rfl rfl rfl rfl (by decide) (s0_377 H) (by decide +kernel) (fun v3 h2 e1 D =>
      have T := fj_run_ok _ _ _ _ _ _ H.1 e1
      have H := shp_st H T
      j_istn (pc := 14) (L' := [(3, (0, v3)), (2, (0, h 9 379 (h 158 377 0).toNat)), (0, (4, 377)), (1, (4, x1))]) D rfl nl_218 rfl rfl fun D =>
      j_aldn (pc := 15) D rfl rfl rfl fun D =>
      j_gfc (pc := 16) (a := 377) D rfl rfl (by decide) rfl (s0_377 H) rfl (sf_182_377 H) fun D =>
      j_gf (pc := 19) (a := 303) D rfl rfl (by decide) rfl (s0_303 H) rfl fun D =>
      j_ist (pc := 22) (L' := [(4, (0, h2 239 303 0)), (3, (0, v3)), (2, (0, h 9 379 (h 158 377 0).toNat)), (0, (4, 377)), (1, (4, x1))]) D rfl nl_218 rfl rfl fun D =>
      j_aldn (pc := 24) D rfl rfl rfl fun D =>
      j_ldcw (pc := 25) D rfl fun D =>
      j_iv (pc := 28) (m := 162) (dd := 262) (a := [(4, 215)]) (rest := []) D rfl rfl rfl rfl rfl (by decide) (s0_377 H) (by decide +kernel) (fun v6 h5 e1 D =>
        have T := fj_run_ok _ _ _ _ _ _ H.1 e1
        have H := shp_st H T
        j_ifeq (pc := 31) D rfl (fun q =>
          fk_jump cut_218_44 rfl rfl) (fun q D =>
          j_aldn (pc := 34) D rfl rfl rfl fun D =>
          j_ivv (pc := 35) (m := 166) (dd := 261) (a := []) (rest := []) D rfl rfl rfl rfl rfl (by decide) (s0_377 H) (by decide +kernel) (fun h8 e1 D =>
            have T := fj_run_ok _ _ _ _ _ _ H.1 e1
            have H := shp_st H T
            j_aldn (pc := 38) D rfl rfl rfl fun D =>
            have D : fk_D 218 [(39, none, .invokevirtual 437, 3, 0, 270, 1), (42, none, .istore 4, 2, 0, 0, 0)] := fq_of2 cd_218 ow_218 cl_218 rfl (pc := 39) (by decide +kernel)
            j_iv (pc := 39) (m := 195) (dd := 270) (a := []) (rest := []) D rfl rfl rfl rfl rfl (by decide) (s0_377 H) (by decide +kernel) (fun v12 h11 e1 D =>
              have T := fj_run_ok _ _ _ _ _ _ H.1 e1
              have H := shp_st H T
              j_ist (pc := 42) (L' := [(4, (0, v12)), (3, (0, v3)), (2, (0, h 9 379 (h 158 377 0).toNat)), (0, (4, 377)), (1, (4, x1))]) D rfl nl_218 rfl rfl fun D =>
              fk_jump cut_218_44 rfl rfl) (fun q13 h11 e1 =>
              j_tx (hx_218 _))) (fun q10 h8 e1 =>
            j_tx (hx_218 _)))) (fun q7 h5 e1 =>
        j_tx (hx_218 _))) (fun q4 h2 e1 =>
      j_tx (hx_218 _))
/-! 219 StatuteHouse$Reader.address()I -/
theorem cd_219 : fi_code 219 = prog_53_method_50_code := rfl
theorem hx_219 : ∀ pc, fi_hat 219 pc = none := fun pc => by unfold fi_hat; rw [show fi_hh 219 = [] from rfl]; rfl
theorem rt_219 : fi_ret 219 = some .int := rfl
theorem nl_219 : fi_nl 219 = 2 := rfl
theorem ow_219 : fi_ow 219 = 15 := rfl
theorem cl_219 : fj_cutT.getD 219 [] = [] := rfl
theorem m_219 (d : Nat) {h : fi_H} (H : Shp h) : fj_run (d + 1) 219 h [(4, 377)] =
  ca_ (fj_run d 188 h [(4, 377), (0, 1), (0, 999)]) 0
    (fun v2 h1 =>
    if 0 ≤ h1 158 377 0 ∧ h1 158 377 0 < 1202 then
    if h1 8 378 (h1 158 377 0).toNat = 2 then
      dv_ (fi_vt 174 (h1 0 (h1 12 383 (h1 158 377 0).toNat).toNat 0)) fun m8 => ca_ (fj_run d m8 h1 [(4, h1 12 383 (h1 158 377 0).toNat)]) 0
        (fun v6 h5 =>
        if v6 = 1 then
          if 0 ≤ h5 158 377 0 ∧ h5 158 377 0 < 1202 then
          dv_ (fi_vt 175 (h5 0 (h5 12 383 (h5 158 377 0).toNat).toNat 0)) fun m13 => ca_ (fj_run d m13 h5 [(4, h5 12 383 (h5 158 377 0).toNat), (0, 0)]) 0
            (fun v11 h10 =>
            lt_ (wI ((wI (27 * v2)) + (wI ((wI (v11 - 97)) + 1)))) fun y14 =>
            cv_ (fj_run d 166 h10 [(4, 377)])
              (fun h15 =>
              some (.inl (some (0, y14)), h15))
              (fun q17 h15 => tx_ q17 h15))
            (fun q12 h10 => tx_ q12 h10)
          else none
        else
          some (.inl (some (0, wI (27 * v2))), h5))
        (fun q7 h5 => tx_ q7 h5)
    else
      some (.inl (some (0, wI (27 * v2))), h1)
    else none)
    (fun q3 h1 => tx_ q3 h1) := by
  rw [fj_run_eq d (by decide) h [(4, 377)] (Nat.le_of_ble_eq_true (by rw [nl_219]; rfl))]
  show gG (fj_run d) 219 0 [(0, (4, 377))] [] h = _
  exact
    have D : fk_D 219 [(0, none, .bipush 27, 2, 0, 27, 0), (2, none, .aload_n 0, 1, 0, 0, 0), (3, none, .iconst 1, 1, 0, 1, 0), (4, none, .sipush 999, 3, 0, 999, 0), (7, none, .invokevirtual 508, 3, 2, 277, 1), (10, none, .imul, 1, 0, 0, 0), (11, none, .istore_n 1, 1, 0, 0, 0), (12, none, .aload_n 0, 1, 0, 0, 0), (13, none, .getfield 15, 3, 149, 115, 12), (16, none, .aload_n 0, 1, 0, 0, 0), (17, none, .getfield 104, 3, 158, 115, 10), (20, none, .baload, 1, 0, 0, 0), (21, none, .iconst 2, 1, 0, 2, 0), (22, none, .if_icmp .ne 19, 3, 41, 0, 0), (25, none, .aload_n 0, 1, 0, 0, 0), (26, none, .getfield 37, 3, 154, 115, 12), (29, none, .aload_n 0, 1, 0, 0, 0), (30, none, .getfield 104, 3, 158, 115, 10), (33, none, .aaload, 1, 0, 0, 0), (34, none, .invokevirtual 607, 3, 0, 174, 1)] := fq_of2 cd_219 ow_219 cl_219 rfl (pc := 0) (by decide +kernel)
    j_bp (pc := 0) D rfl fun D =>
    j_aldn (pc := 2) D rfl rfl rfl fun D =>
    j_ic (pc := 3) D rfl fun D =>
    j_sp (pc := 4) D rfl fun D =>
    j_iv (pc := 7) (m := 188) (dd := 277) (a := [(0, 1), (0, 999)]) (rest := [(0, 27)]) D rfl rfl rfl rfl rfl (by decide) (s0_377 H) (by decide +kernel) (fun v2 h1 e1 D =>
      have T := fj_run_ok _ _ _ _ _ _ H.1 e1
      have H := shp_st H T
      j_imul (pc := 10) D rfl fun D =>
      j_istn (pc := 11) (L' := [(1, (0, wI (27 * v2))), (0, (4, 377))]) D rfl nl_219 rfl rfl fun D =>
      j_aldn (pc := 12) D rfl rfl rfl fun D =>
      j_gfc (pc := 13) (a := 377) D rfl rfl (by decide) rfl (s0_377 H) rfl (sf_149_377 H) fun D =>
      j_aldn (pc := 16) D rfl rfl rfl fun D =>
      j_gf (pc := 17) (a := 377) D rfl rfl (by decide) rfl (s0_377 H) rfl fun D =>
      j_al (pc := 20) (a := 378) (e := 8) D rfl rfl rfl (by decide) (s0_378 H) (s1_378 H) ⟨rfl, rfl, rfl⟩ rfl gn fun qb4 D =>
      j_ic (pc := 21) D rfl fun D =>
      j_ine (pc := 22) D rfl (fun q D =>
        j_aldn (pc := 25) D rfl rfl rfl fun D =>
        j_gfc (pc := 26) (a := 377) D rfl rfl (by decide) rfl (s0_377 H) rfl (sf_154_377 H) fun D =>
        j_aldn (pc := 29) D rfl rfl rfl fun D =>
        j_gf (pc := 30) (a := 377) D rfl rfl (by decide) rfl (s0_377 H) rfl fun D =>
        j_al (pc := 33) (a := 383) (e := 12) D rfl rfl rfl (by decide) (s0_383 H) (s1_383 H) ⟨rfl, rfl, rfl⟩ rfl (gy qb4) fun q D =>
        j_ivu (pc := 34) (dd := 174) (a := []) (rest := []) H.2.1 D rfl rfl rfl rfl rfl (fun m8 v6 h5 e1 D =>
          have T := fj_run_ok _ _ _ _ _ _ H.1 e1
          have H := shp_st H T
          have D : fk_D 219 [(37, none, .iconst 1, 1, 0, 1, 0), (38, none, .if_icmp .eq 5, 3, 43, 0, 0), (41, none, .iload_n 1, 1, 0, 0, 0), (42, none, .ireturn, 1, 0, 0, 0)] := fq_of2 cd_219 ow_219 cl_219 rfl (pc := 37) (by decide +kernel)
          j_ic (pc := 37) D rfl fun D =>
          j_ieq (pc := 38) D rfl (fun q =>
            have D : fk_D 219 [(43, none, .iload_n 1, 1, 0, 0, 0), (44, none, .aload_n 0, 1, 0, 0, 0), (45, none, .getfield 37, 3, 154, 115, 12), (48, none, .aload_n 0, 1, 0, 0, 0), (49, none, .getfield 104, 3, 158, 115, 10), (52, none, .aaload, 1, 0, 0, 0), (53, none, .iconst 0, 1, 0, 0, 0), (54, none, .invokevirtual 609, 3, 1, 175, 1), (57, none, .bipush 97, 2, 0, 97, 0), (59, none, .isub, 1, 0, 0, 0), (60, none, .iconst 1, 1, 0, 1, 0), (61, none, .iadd, 1, 0, 0, 0), (62, none, .iadd, 1, 0, 0, 0), (63, none, .istore_n 1, 1, 0, 0, 0), (64, none, .aload_n 0, 1, 0, 0, 0), (65, none, .invokevirtual 206, 3, 0, 261, 0), (68, none, .iload_n 1, 1, 0, 0, 0), (69, none, .ireturn, 1, 0, 0, 0)] := fq_of2 cd_219 ow_219 cl_219 rfl (pc := 43) (by decide +kernel)
            j_ildn (pc := 43) D rfl rfl rfl fun D =>
            j_aldn (pc := 44) D rfl rfl rfl fun D =>
            j_gfc (pc := 45) (a := 377) D rfl rfl (by decide) rfl (s0_377 H) rfl (sf_154_377 H) fun D =>
            j_aldn (pc := 48) D rfl rfl rfl fun D =>
            j_gf (pc := 49) (a := 377) D rfl rfl (by decide) rfl (s0_377 H) rfl fun D =>
            j_al (pc := 52) (a := 383) (e := 12) D rfl rfl rfl (by decide) (s0_383 H) (s1_383 H) ⟨rfl, rfl, rfl⟩ rfl gn fun qb9 D =>
            j_ic (pc := 53) D rfl fun D =>
            j_ivu (pc := 54) (dd := 175) (a := [(0, 0)]) (rest := [(0, wI (27 * v2))]) H.2.1 D rfl rfl rfl rfl rfl (fun m13 v11 h10 e1 D =>
              have T := fj_run_ok _ _ _ _ _ _ H.1 e1
              have H := shp_st H T
              j_bp (pc := 57) D rfl fun D =>
              j_isub (pc := 59) D rfl fun D =>
              j_ic (pc := 60) D rfl fun D =>
              j_iadd (pc := 61) D rfl fun D =>
              j_iadd (pc := 62) D rfl fun D =>
              j_stl (pc := 63) (L' := fun y14 => [(1, (0, y14)), (0, (4, 377))]) D rfl ⟨rfl, rfl, rfl, rfl⟩ nl_219 rfl (fun _ => rfl) fun y14 ey14 D =>
              j_aldn (pc := 64) D rfl rfl rfl fun D =>
              j_ivv (pc := 65) (m := 166) (dd := 261) (a := []) (rest := []) D rfl rfl rfl rfl rfl (by decide) (s0_377 H) (by decide +kernel) (fun h15 e1 D =>
                have T := fj_run_ok _ _ _ _ _ _ H.1 e1
                have H := shp_st H T
                j_ildn (pc := 68) D rfl rfl rfl fun D =>
                j_iret D rt_219) (fun q17 h15 e1 =>
                j_tx (hx_219 _))) (fun m13 q12 h10 e1 =>
              j_tx (hx_219 _))) (fun q D =>
            j_ildn (pc := 41) D rfl rfl rfl fun D =>
            j_iret D rt_219)) (fun m8 q7 h5 e1 =>
          j_tx (hx_219 _))) (fun q =>
        have D : fk_D 219 [(41, none, .iload_n 1, 1, 0, 0, 0), (42, none, .ireturn, 1, 0, 0, 0)] := fq_of2 cd_219 ow_219 cl_219 rfl (pc := 41) (by decide +kernel)
        j_ildn (pc := 41) D rfl rfl rfl fun D =>
        j_iret D rt_219)) (fun q3 h1 e1 =>
      j_tx (hx_219 _))
/-! 220 StatuteHouse$Reader.basis(LStatuteHouse$Law;II)LStatuteHouse$Version; -/
theorem cd_220 : fi_code 220 = prog_53_method_47_code := rfl
theorem hx_220 : ∀ pc, fi_hat 220 pc = none := fun pc => by unfold fi_hat; rw [show fi_hh 220 = [] from rfl]; rfl
theorem rt_220 : fj_ft (fi_ret 220) = 5 := rfl
theorem nl_220 : fi_nl 220 = 7 := rfl
theorem ow_220 : fi_ow 220 = 15 := rfl
theorem cl_220 : fj_cutT.getD 220 [] = [(6, [0, 1, 2, 3, 4, 5]), (51, [0, 1, 2, 3, 4, 5]), (89, [0, 1, 2, 3, 5, 6]), (93, [0, 1, 2, 3, 4, 5])] := rfl
theorem cut_220_6 : fj_cut 220 6 = some [0, 1, 2, 3, 4, 5] := by decide +kernel
noncomputable def c_220_6 (d : Nat) (x1 x2 x3 x4 x5 : Int) (h : fi_H) : fk_R := gG (fj_run d) 220 6 [(0, (4, 377)), (1, (4, x1)), (2, (0, x2)), (3, (0, x3)), (4, (4, x4)), (5, (0, x5))] [] h
theorem cut_220_51 : fj_cut 220 51 = some [0, 1, 2, 3, 4, 5] := by decide +kernel
noncomputable def c_220_51 (d : Nat) (x1 x2 x3 x4 x5 s0 : Int) (h : fi_H) : fk_R := gG (fj_run d) 220 51 [(0, (4, 377)), (1, (4, x1)), (2, (0, x2)), (3, (0, x3)), (4, (4, x4)), (5, (0, x5))] [(4, s0)] h
theorem cut_220_89 : fj_cut 220 89 = some [0, 1, 2, 3, 5, 6] := by decide +kernel
noncomputable def c_220_89 (d : Nat) (x1 x2 x3 x5 x6 : Int) (h : fi_H) : fk_R := gG (fj_run d) 220 89 [(0, (4, 377)), (1, (4, x1)), (2, (0, x2)), (3, (0, x3)), (5, (0, x5)), (6, (4, x6))] [] h
theorem cut_220_93 : fj_cut 220 93 = some [0, 1, 2, 3, 4, 5] := by decide +kernel
noncomputable def c_220_93 (d : Nat) (x1 x2 x3 x4 x5 : Int) (h : fi_H) : fk_R := gG (fj_run d) 220 93 [(0, (4, 377)), (1, (4, x1)), (2, (0, x2)), (3, (0, x3)), (4, (4, x4)), (5, (0, x5))] [] h
theorem e_220_6 (d : Nat) (x1 x2 x3 x4 x5 : Int) {h : fi_H} (H : Shp h) : c_220_6 d x1 x2 x3 x4 x5 h =
  if h 0 x1.toNat 0 = 110 then
  if x5 < wI ((h 190 x1.toNat 0) + (h 163 377 0)) then
    if x5 < h 190 x1.toNat 0 then
      if (20 ≤ h 0 (h 187 x1.toNat 0).toNat 0 ∧ h 0 (h 187 x1.toNat 0).toNat 0 < 30) ∧ 0 ≤ x5 ∧ x5 < h 1 (h 187 x1.toNat 0).toNat 0 then
      c_220_51 d x1 x2 x3 x4 x5 (h 12 (h 187 x1.toNat 0).toNat x5.toNat) h
      else none
    else
      if 0 ≤ wI (x5 - (h 190 x1.toNat 0)) ∧ wI (x5 - (h 190 x1.toNat 0)) < 30 then
      c_220_51 d x1 x2 x3 x4 x5 (h 12 386 (wI (x5 - (h 190 x1.toNat 0))).toNat) h
      else none
  else
    some (.inl (some (4, x4)), h)
  else none := by
  unfold c_220_6
  exact
    have D : fk_D 220 [(6, some [0, 1, 2, 3, 4, 5], .iload 5, 2, 0, 0, 0), (8, none, .aload_n 1, 1, 0, 0, 0), (9, none, .getfield 585, 3, 190, (-110), 10), (12, none, .aload_n 0, 1, 0, 0, 0), (13, none, .getfield 122, 3, 163, 115, 10), (16, none, .iadd, 1, 0, 0, 0), (17, none, .if_icmp .ge 82, 3, 99, 0, 0), (20, none, .iload 5, 2, 0, 0, 0), (22, none, .aload_n 1, 1, 0, 0, 0), (23, none, .getfield 585, 3, 190, 110, 10), (26, none, .if_icmp .ge 13, 3, 39, 0, 0), (29, none, .aload_n 1, 1, 0, 0, 0), (30, none, .getfield 591, 3, 187, 110, 12), (33, none, .iload 5, 2, 0, 0, 0), (35, none, .aaload, 1, 0, 0, 0), (36, none, .goto 15, 3, 51, 0, 0)] := fq_of2 cd_220 ow_220 cl_220 rfl (pc := 6) (by decide +kernel)
    j_ild (pc := 6) D rfl rfl rfl fun D =>
    j_aldn (pc := 8) D rfl rfl rfl fun D =>
    j_gfo (pc := 9) H.2.1 D rfl rfl rfl rfl fun kc1 D =>
    j_aldn (pc := 12) D rfl rfl rfl fun D =>
    j_gf (pc := 13) (a := 377) D rfl rfl (by decide) rfl (s0_377 H) rfl fun D =>
    j_iadd (pc := 16) D rfl fun D =>
    j_ige (pc := 17) D rfl (fun q D =>
      j_ild (pc := 20) D rfl rfl rfl fun D =>
      j_aldn (pc := 22) D rfl rfl rfl fun D =>
      j_gf (pc := 23) (a := x1.toNat) D rfl rfl (nz_cls H.2.1 kc1 (by decide)) rfl kc1 rfl fun D =>
      j_ige (pc := 26) D rfl (fun q D =>
        j_aldn (pc := 29) D rfl rfl rfl fun D =>
        j_gf (pc := 30) (a := x1.toNat) D rfl rfl (nz_cls H.2.1 kc1 (by decide)) rfl kc1 rfl fun D =>
        j_ild (pc := 33) D rfl rfl rfl fun D =>
        j_alr (pc := 35) H.2.1 D rfl rfl fun q q2 D =>
        j_goto (pc := 36) D rfl <|
        fk_jump cut_220_51 rfl rfl) (fun q =>
        have D : fk_D 220 [(39, none, .aload_n 0, 1, 0, 0, 0), (40, none, .getfield 50, 3, 165, 115, 12), (43, none, .iload 5, 2, 0, 0, 0), (45, none, .aload_n 1, 1, 0, 0, 0), (46, none, .getfield 585, 3, 190, 110, 10), (49, none, .isub, 1, 0, 0, 0), (50, none, .aaload, 1, 0, 0, 0)] := fq_of2 cd_220 ow_220 cl_220 rfl (pc := 39) (by decide +kernel)
        j_aldn (pc := 39) D rfl rfl rfl fun D =>
        j_gfc (pc := 40) (a := 377) D rfl rfl (by decide) rfl (s0_377 H) rfl (sf_165_377 H) fun D =>
        j_ild (pc := 43) D rfl rfl rfl fun D =>
        j_aldn (pc := 45) D rfl rfl rfl fun D =>
        j_gf (pc := 46) (a := x1.toNat) D rfl rfl (nz_cls H.2.1 kc1 (by decide)) rfl kc1 rfl fun D =>
        j_isub (pc := 49) D rfl fun D =>
        j_al (pc := 50) (a := 386) (e := 12) D rfl rfl rfl (by decide) (s0_386 H) (s1_386 H) ⟨rfl, rfl, rfl⟩ rfl gn fun qb2 D =>
        fk_jump cut_220_51 rfl rfl)) (fun q =>
      have D : fk_D 220 [(99, none, .aload 4, 2, 0, 0, 0), (101, none, .areturn, 1, 0, 0, 0)] := fq_of2 cd_220 ow_220 cl_220 rfl (pc := 99) (by decide +kernel)
      j_ald (pc := 99) D rfl rfl rfl fun D =>
      j_aret D rt_220)
theorem e_220_51 (d : Nat) (x1 x2 x3 x4 x5 s0 : Int) {h : fi_H} (H : Shp h) : c_220_51 d x1 x2 x3 x4 x5 s0 h =
  if h 0 s0.toNat 0 = 126 then
  if h 372 s0.toNat 0 = x2 then
    if x3 < h 373 s0.toNat 0 then
      c_220_93 d x1 x2 x3 x4 x5 h
    else
      if x4 = 0 then
        c_220_89 d x1 x2 x3 x5 s0 h
      else
        if h 0 x4.toNat 0 = 126 then
        if h 373 s0.toNat 0 < h 373 x4.toNat 0 then
          c_220_93 d x1 x2 x3 x4 x5 h
        else
          c_220_89 d x1 x2 x3 x5 s0 h
        else none
  else
    c_220_93 d x1 x2 x3 x4 x5 h
  else none := by
  unfold c_220_51
  exact
    have D : fk_D 220 [(51, some [0, 1, 2, 3, 4, 5], .astore 6, 2, 0, 0, 0), (53, none, .aload 6, 2, 0, 0, 0), (55, none, .getfield 592, 3, 372, (-126), 10), (58, none, .iload_n 2, 1, 0, 0, 0), (59, none, .if_icmp .ne 34, 3, 93, 0, 0), (62, none, .aload 6, 2, 0, 0, 0), (64, none, .getfield 594, 3, 373, 126, 10), (67, none, .iload_n 3, 1, 0, 0, 0), (68, none, .if_icmp .gt 25, 3, 93, 0, 0), (71, none, .aload 4, 2, 0, 0, 0), (73, none, .ifnull 16, 3, 89, 0, 0), (76, none, .aload 6, 2, 0, 0, 0), (78, none, .getfield 594, 3, 373, 126, 10), (81, none, .aload 4, 2, 0, 0, 0), (83, none, .getfield 594, 3, 373, (-126), 10), (86, none, .if_icmp .lt 7, 3, 93, 0, 0)] := fq_of2 cd_220 ow_220 cl_220 rfl (pc := 51) (by decide +kernel)
    j_ast (pc := 51) (L' := [(6, (4, s0)), (0, (4, 377)), (1, (4, x1)), (2, (0, x2)), (3, (0, x3)), (4, (4, x4)), (5, (0, x5))]) D rfl nl_220 rfl rfl fun D =>
    j_ald (pc := 53) D rfl rfl rfl fun D =>
    j_gfo (pc := 55) H.2.1 D rfl rfl rfl rfl fun kc1 D =>
    j_ildn (pc := 58) D rfl rfl rfl fun D =>
    j_ine (pc := 59) D rfl (fun q D =>
      j_ald (pc := 62) D rfl rfl rfl fun D =>
      j_gf (pc := 64) (a := s0.toNat) D rfl rfl (nz_cls H.2.1 kc1 (by decide)) rfl kc1 rfl fun D =>
      j_ildn (pc := 67) D rfl rfl rfl fun D =>
      j_igt (pc := 68) D rfl (fun q =>
        fk_jump cut_220_93 rfl rfl) (fun q D =>
        j_ald (pc := 71) D rfl rfl rfl fun D =>
        j_null (pc := 73) D rfl (fun q =>
          fk_jump cut_220_89 rfl rfl) (fun q D =>
          j_ald (pc := 76) D rfl rfl rfl fun D =>
          j_gf (pc := 78) (a := s0.toNat) D rfl rfl (nz_cls H.2.1 kc1 (by decide)) rfl kc1 rfl fun D =>
          j_ald (pc := 81) D rfl rfl rfl fun D =>
          j_gfo (pc := 83) H.2.1 D rfl rfl rfl rfl fun kc2 D =>
          j_ilt (pc := 86) D rfl (fun q =>
            fk_jump cut_220_93 rfl rfl) (fun q D =>
            fk_jump cut_220_89 rfl rfl)))) (fun q =>
      fk_jump cut_220_93 rfl rfl)
theorem e_220_89 (d : Nat) (x1 x2 x3 x5 x6 : Int) {h : fi_H} (H : Shp h) : c_220_89 d x1 x2 x3 x5 x6 h =
  c_220_93 d x1 x2 x3 x6 x5 h := by
  unfold c_220_89
  exact
    have D : fk_D 220 [(89, some [0, 1, 2, 3, 5, 6], .aload 6, 2, 0, 0, 0), (91, none, .astore 4, 2, 0, 0, 0)] := fq_of2 cd_220 ow_220 cl_220 rfl (pc := 89) (by decide +kernel)
    j_ald (pc := 89) D rfl rfl rfl fun D =>
    j_ast (pc := 91) (L' := [(4, (4, x6)), (0, (4, 377)), (1, (4, x1)), (2, (0, x2)), (3, (0, x3)), (5, (0, x5)), (6, (4, x6))]) D rfl nl_220 rfl rfl fun D =>
    fk_jump cut_220_93 rfl rfl
theorem e_220_93 (d : Nat) (x1 x2 x3 x4 x5 : Int) {h : fi_H} (H : Shp h) : c_220_93 d x1 x2 x3 x4 x5 h =
  c_220_6 d x1 x2 x3 x4 (wI (x5 + 1)) h := by
  unfold c_220_93
  exact
    have D : fk_D 220 [(93, some [0, 1, 2, 3, 4, 5], .iinc 5 1, 3, 0, 1, 0), (96, none, .goto (-90), 3, 6, 0, 0)] := fq_of2 cd_220 ow_220 cl_220 rfl (pc := 93) (by decide +kernel)
    j_inc (pc := 93) (L' := [(5, (0, wI (x5 + 1))), (0, (4, 377)), (1, (4, x1)), (2, (0, x2)), (3, (0, x3)), (4, (4, x4))]) D rfl rfl rfl (by decide +kernel) rfl fun D =>
    j_goto (pc := 96) D rfl <|
    fk_jump cut_220_6 rfl rfl
theorem m_220 (d : Nat) (x1 x2 x3 : Int) {h : fi_H} (H : Shp h) : fj_run (d + 1) 220 h [(4, 377), (4, x1), (0, x2), (0, x3)] =
  c_220_6 d x1 x2 x3 0 0 h := by
  rw [fj_run_eq d (by decide) h [(4, 377), (4, x1), (0, x2), (0, x3)] (Nat.le_of_ble_eq_true (by rw [nl_220]; rfl))]
  show gG (fj_run d) 220 0 [(0, (4, 377)), (1, (4, x1)), (2, (0, x2)), (3, (0, x3))] [] h = _
  exact
    have D : fk_D 220 [(0, none, .aconst_null, 1, 0, 0, 0), (1, none, .astore 4, 2, 0, 0, 0), (3, none, .iconst 0, 1, 0, 0, 0), (4, none, .istore 5, 2, 0, 0, 0)] := fq_of2 cd_220 ow_220 cl_220 rfl (pc := 0) (by decide +kernel)
    j_c0 (pc := 0) (v := (4, 0)) D rfl rfl (by decide +kernel) fun D =>
    j_ast (pc := 1) (L' := [(4, (4, 0)), (0, (4, 377)), (1, (4, x1)), (2, (0, x2)), (3, (0, x3))]) D rfl nl_220 rfl rfl fun D =>
    j_ic (pc := 3) D rfl fun D =>
    j_ist (pc := 4) (L' := [(5, (0, 0)), (4, (4, 0)), (0, (4, 377)), (1, (4, x1)), (2, (0, x2)), (3, (0, x3))]) D rfl nl_220 rfl rfl fun D =>
    fk_jump cut_220_6 rfl rfl
/-! 221 StatuteHouse$Reader.change(II)I -/
theorem cd_221 : fi_code 221 = prog_53_method_49_code := rfl
theorem hx_221 : ∀ pc, fi_hat 221 pc = none := fun pc => by unfold fi_hat; rw [show fi_hh 221 = [] from rfl]; rfl
theorem rt_221 : fi_ret 221 = some .int := rfl
theorem nl_221 : fi_nl 221 = 4 := rfl
theorem ow_221 : fi_ow 221 = 15 := rfl
theorem cl_221 : fj_cutT.getD 221 [] = [] := rfl
theorem m_221 (d : Nat) (x1 x2 : Int) {h : fi_H} (H : Shp h) : fj_run (d + 1) 221 h [(4, 377), (0, x1), (0, x2)] =
  ca_ (fj_run d 162 h [(4, 377), (4, 249)]) 0
    (fun v2 h1 =>
    if v2 = 0 then
      ca_ (fj_run d 162 h1 [(4, 377), (4, 251)]) 0
        (fun v5 h4 =>
        if v5 = 0 then
          ca_ (fj_run d 162 h4 [(4, 377), (4, 253)]) 0
            (fun v8 h7 =>
            if v8 = 0 then
              ca_ (fj_run d 164 h7 [(4, 377), (0, 1)]) 4
                (fun v11 h10 =>
                if v11 ≠ 0 then
                tx_ v11.toNat h10
                else none)
                (fun q12 h10 => tx_ q12 h10)
            else
              if x2 = 40 then
                ca_ (fj_run d 164 h7 [(4, 377), (0, 4)]) 4
                  (fun v14 h13 =>
                  if v14 ≠ 0 then
                  tx_ v14.toNat h13
                  else none)
                  (fun q15 h13 => tx_ q15 h13)
              else
                cv_ (fj_run d 166 h7 [(4, 377)])
                  (fun h16 =>
                  ca_ (fj_run d 223 h16 [(4, 377), (0, x1), (0, x2), (0, 0)]) 4
                    (fun v20 h19 =>
                    if 0 ≤ x2 ∧ x2 < 40 then
                    if v20 = 0 ∨ (fi_sup (h19 0 v20.toNat 0)).contains 117 = true then
                    lt_ (fi_upd h19 12 387 x2.toNat v20) fun h22 =>
                    some (.inl (some (0, wI (x2 + 1))), h22)
                    else none
                    else none)
                    (fun q21 h19 => tx_ q21 h19))
                  (fun q18 h16 => tx_ q18 h16))
            (fun q9 h7 => tx_ q9 h7)
        else
          cv_ (fj_run d 166 h4 [(4, 377)])
            (fun h24 =>
            ca_ (fj_run d 222 h24 [(4, 377), (0, x2)]) 0
              (fun v28 h27 =>
              cv_ (fj_run d 182 h27 [(4, 377), (0, 58)])
                (fun h30 =>
                ca_ (fj_run d 223 h30 [(4, 377), (0, x1), (0, v28), (0, 0)]) 4
                  (fun v34 h33 =>
                  if 0 ≤ v28 ∧ v28 < 40 then
                  if v34 = 0 ∨ (fi_sup (h33 0 v34.toNat 0)).contains 117 = true then
                  lt_ (fi_upd h33 12 387 v28.toNat v34) fun h36 =>
                  some (.inl (some (0, x2)), h36)
                  else none
                  else none)
                  (fun q35 h33 => tx_ q35 h33))
                (fun q32 h30 => tx_ q32 h30))
              (fun q29 h27 => tx_ q29 h27))
            (fun q26 h24 => tx_ q26 h24))
        (fun q6 h4 => tx_ q6 h4)
    else
      cv_ (fj_run d 166 h1 [(4, 377)])
        (fun h38 =>
        ca_ (fj_run d 222 h38 [(4, 377), (0, x2)]) 0
          (fun v42 h41 =>
          if 0 ≤ v42 ∧ v42 < 40 then
          lt_ (fi_upd h41 12 387 v42.toNat 356) fun h44 =>
          cv_ (fj_run d 182 h44 [(4, 377), (0, 59)])
            (fun h46 =>
            some (.inl (some (0, x2)), h46))
            (fun q48 h46 => tx_ q48 h46)
          else none)
          (fun q43 h41 => tx_ q43 h41))
        (fun q40 h38 => tx_ q40 h38))
    (fun q3 h1 => tx_ q3 h1) := by
  rw [fj_run_eq d (by decide) h [(4, 377), (0, x1), (0, x2)] (Nat.le_of_ble_eq_true (by rw [nl_221]; rfl))]
  show gG (fj_run d) 221 0 [(0, (4, 377)), (1, (0, x1)), (2, (0, x2))] [] h = _
  exact
    have D : fk_D 221 [(0, none, .aload_n 0, 1, 0, 0, 0), (1, none, .ldc_w 338, 3, 4, 249, 0), (4, none, .invokevirtual 209, 3, 1, 262, 1), (7, none, .ifCond .eq 32, 3, 39, 0, 0), (10, none, .aload_n 0, 1, 0, 0, 0), (11, none, .invokevirtual 206, 3, 0, 261, 0), (14, none, .aload_n 0, 1, 0, 0, 0), (15, none, .getfield 56, 3, 166, 115, 12), (18, none, .aload_n 0, 1, 0, 0, 0), (19, none, .iload_n 2, 1, 0, 0, 0), (20, none, .invokevirtual 596, 3, 1, 288, 1), (23, none, .aload_n 0, 1, 0, 0, 0), (24, none, .getfield 3, 3, 182, 115, 12), (27, none, .getfield 599, 3, 234, 100, 12), (30, none, .aastore, 1, 0, 0, 0), (31, none, .aload_n 0, 1, 0, 0, 0), (32, none, .bipush 59, 2, 0, 59, 0), (34, none, .invokevirtual 216, 3, 1, 264, 0), (37, none, .iload_n 2, 1, 0, 0, 0), (38, none, .ireturn, 1, 0, 0, 0)] := fq_of2 cd_221 ow_221 cl_221 rfl (pc := 0) (by decide +kernel)
    j_aldn (pc := 0) D rfl rfl rfl fun D =>
    j_ldcw (pc := 1) D rfl fun D =>
    j_iv (pc := 4) (m := 162) (dd := 262) (a := [(4, 249)]) (rest := []) D rfl rfl rfl rfl rfl (by decide) (s0_377 H) (by decide +kernel) (fun v2 h1 e1 D =>
      have T := fj_run_ok _ _ _ _ _ _ H.1 e1
      have H := shp_st H T
      j_ifeq (pc := 7) D rfl (fun q =>
        have D : fk_D 221 [(39, none, .aload_n 0, 1, 0, 0, 0), (40, none, .ldc_w 340, 3, 4, 251, 0), (43, none, .invokevirtual 209, 3, 1, 262, 1), (46, none, .ifCond .eq 34, 3, 80, 0, 0), (49, none, .aload_n 0, 1, 0, 0, 0), (50, none, .invokevirtual 206, 3, 0, 261, 0), (53, none, .aload_n 0, 1, 0, 0, 0), (54, none, .iload_n 2, 1, 0, 0, 0), (55, none, .invokevirtual 596, 3, 1, 288, 1), (58, none, .istore_n 3, 1, 0, 0, 0), (59, none, .aload_n 0, 1, 0, 0, 0), (60, none, .bipush 58, 2, 0, 58, 0), (62, none, .invokevirtual 216, 3, 1, 264, 0), (65, none, .aload_n 0, 1, 0, 0, 0), (66, none, .getfield 56, 3, 166, 115, 12), (69, none, .iload_n 3, 1, 0, 0, 0), (70, none, .aload_n 0, 1, 0, 0, 0), (71, none, .iload_n 1, 1, 0, 0, 0), (72, none, .iload_n 3, 1, 0, 0, 0), (73, none, .iconst 0, 1, 0, 0, 0)] := fq_of2 cd_221 ow_221 cl_221 rfl (pc := 39) (by decide +kernel)
        j_aldn (pc := 39) D rfl rfl rfl fun D =>
        j_ldcw (pc := 40) D rfl fun D =>
        j_iv (pc := 43) (m := 162) (dd := 262) (a := [(4, 251)]) (rest := []) D rfl rfl rfl rfl rfl (by decide) (s0_377 H) (by decide +kernel) (fun v5 h4 e1 D =>
          have T := fj_run_ok _ _ _ _ _ _ H.1 e1
          have H := shp_st H T
          j_ifeq (pc := 46) D rfl (fun q =>
            have D : fk_D 221 [(80, none, .aload_n 0, 1, 0, 0, 0), (81, none, .ldc_w 342, 3, 4, 253, 0), (84, none, .invokevirtual 209, 3, 1, 262, 1), (87, none, .ifCond .ne 9, 3, 96, 0, 0), (90, none, .aload_n 0, 1, 0, 0, 0), (91, none, .iconst 1, 1, 0, 1, 0), (92, none, .invokevirtual 190, 3, 1, 258, 5), (95, none, .athrow, 1, 0, 0, 0)] := fq_of2 cd_221 ow_221 cl_221 rfl (pc := 80) (by decide +kernel)
            j_aldn (pc := 80) D rfl rfl rfl fun D =>
            j_ldcw (pc := 81) D rfl fun D =>
            j_iv (pc := 84) (m := 162) (dd := 262) (a := [(4, 253)]) (rest := []) D rfl rfl rfl rfl rfl (by decide) (s0_377 H) (by decide +kernel) (fun v8 h7 e1 D =>
              have T := fj_run_ok _ _ _ _ _ _ H.1 e1
              have H := shp_st H T
              j_ifne (pc := 87) D rfl (fun q D =>
                j_aldn (pc := 90) D rfl rfl rfl fun D =>
                j_ic (pc := 91) D rfl fun D =>
                j_iv (pc := 92) (m := 164) (dd := 258) (a := [(0, 1)]) (rest := []) D rfl rfl rfl rfl rfl (by decide) (s0_377 H) (by decide +kernel) (fun v11 h10 e1 D =>
                  have T := fj_run_ok _ _ _ _ _ _ H.1 e1
                  have H := shp_st H T
                  j_at (pc := 95) D gn <|
                  j_tx (hx_221 _)) (fun q12 h10 e1 =>
                  j_tx (hx_221 _))) (fun q =>
                have D : fk_D 221 [(96, none, .iload_n 2, 1, 0, 0, 0), (97, none, .bipush 40, 2, 0, 40, 0), (99, none, .if_icmp .ne 9, 3, 108, 0, 0), (102, none, .aload_n 0, 1, 0, 0, 0), (103, none, .iconst 4, 1, 0, 4, 0), (104, none, .invokevirtual 190, 3, 1, 258, 5), (107, none, .athrow, 1, 0, 0, 0)] := fq_of2 cd_221 ow_221 cl_221 rfl (pc := 96) (by decide +kernel)
                j_ildn (pc := 96) D rfl rfl rfl fun D =>
                j_bp (pc := 97) D rfl fun D =>
                j_ine (pc := 99) D rfl (fun q D =>
                  j_aldn (pc := 102) D rfl rfl rfl fun D =>
                  j_ic (pc := 103) D rfl fun D =>
                  j_iv (pc := 104) (m := 164) (dd := 258) (a := [(0, 4)]) (rest := []) D rfl rfl rfl rfl rfl (by decide) (s0_377 H) (by decide +kernel) (fun v14 h13 e1 D =>
                    have T := fj_run_ok _ _ _ _ _ _ H.1 e1
                    have H := shp_st H T
                    j_at (pc := 107) D gn <|
                    j_tx (hx_221 _)) (fun q15 h13 e1 =>
                    j_tx (hx_221 _))) (fun q =>
                  have D : fk_D 221 [(108, none, .aload_n 0, 1, 0, 0, 0), (109, none, .invokevirtual 206, 3, 0, 261, 0), (112, none, .aload_n 0, 1, 0, 0, 0), (113, none, .getfield 56, 3, 166, 115, 12), (116, none, .iload_n 2, 1, 0, 0, 0), (117, none, .aload_n 0, 1, 0, 0, 0), (118, none, .iload_n 1, 1, 0, 0, 0), (119, none, .iload_n 2, 1, 0, 0, 0), (120, none, .iconst 0, 1, 0, 0, 0), (121, none, .invokevirtual 603, 3, 3, 289, 5), (124, none, .aastore, 1, 0, 0, 0), (125, none, .iload_n 2, 1, 0, 0, 0), (126, none, .iconst 1, 1, 0, 1, 0), (127, none, .iadd, 1, 0, 0, 0), (128, none, .ireturn, 1, 0, 0, 0)] := fq_of2 cd_221 ow_221 cl_221 rfl (pc := 108) (by decide +kernel)
                  j_aldn (pc := 108) D rfl rfl rfl fun D =>
                  j_ivv (pc := 109) (m := 166) (dd := 261) (a := []) (rest := []) D rfl rfl rfl rfl rfl (by decide) (s0_377 H) (by decide +kernel) (fun h16 e1 D =>
                    have T := fj_run_ok _ _ _ _ _ _ H.1 e1
                    have H := shp_st H T
                    j_aldn (pc := 112) D rfl rfl rfl fun D =>
                    j_gfc (pc := 113) (a := 377) D rfl rfl (by decide) rfl (s0_377 H) rfl (sf_166_377 H) fun D =>
                    j_ildn (pc := 116) D rfl rfl rfl fun D =>
                    j_aldn (pc := 117) D rfl rfl rfl fun D =>
                    j_ildn (pc := 118) D rfl rfl rfl fun D =>
                    j_ildn (pc := 119) D rfl rfl rfl fun D =>
                    j_ic (pc := 120) D rfl fun D =>
                    j_iv (pc := 121) (m := 223) (dd := 289) (a := [(0, x1), (0, x2), (0, 0)]) (rest := [(0, x2), (4, 387)]) D rfl rfl rfl rfl rfl (by decide) (s0_377 H) (by decide +kernel) (fun v20 h19 e1 D =>
                      have T := fj_run_ok _ _ _ _ _ _ H.1 e1
                      have H := shp_st H T
                      j_asr (pc := 124) (a := 387) D rfl rfl (by decide) (s0_387 H) (s1_387 H) ⟨rfl, rfl, rfl⟩ rfl gn gn fun h22 eh22 S qb23 D =>
                      have T := fj_hs_ok H.1 S
                      have H := shp_st H T
                      j_ildn (pc := 125) D rfl rfl rfl fun D =>
                      j_ic (pc := 126) D rfl fun D =>
                      j_iadd (pc := 127) D rfl fun D =>
                      j_iret D rt_221) (fun q21 h19 e1 =>
                      j_tx (hx_221 _))) (fun q18 h16 e1 =>
                    j_tx (hx_221 _))))) (fun q9 h7 e1 =>
              j_tx (hx_221 _))) (fun q D =>
            j_aldn (pc := 49) D rfl rfl rfl fun D =>
            j_ivv (pc := 50) (m := 166) (dd := 261) (a := []) (rest := []) D rfl rfl rfl rfl rfl (by decide) (s0_377 H) (by decide +kernel) (fun h24 e1 D =>
              have T := fj_run_ok _ _ _ _ _ _ H.1 e1
              have H := shp_st H T
              j_aldn (pc := 53) D rfl rfl rfl fun D =>
              j_ildn (pc := 54) D rfl rfl rfl fun D =>
              j_iv (pc := 55) (m := 222) (dd := 288) (a := [(0, x2)]) (rest := []) D rfl rfl rfl rfl rfl (by decide) (s0_377 H) (by decide +kernel) (fun v28 h27 e1 D =>
                have T := fj_run_ok _ _ _ _ _ _ H.1 e1
                have H := shp_st H T
                j_istn (pc := 58) (L' := [(3, (0, v28)), (0, (4, 377)), (1, (0, x1)), (2, (0, x2))]) D rfl nl_221 rfl rfl fun D =>
                j_aldn (pc := 59) D rfl rfl rfl fun D =>
                j_bp (pc := 60) D rfl fun D =>
                j_ivv (pc := 62) (m := 182) (dd := 264) (a := [(0, 58)]) (rest := []) D rfl rfl rfl rfl rfl (by decide) (s0_377 H) (by decide +kernel) (fun h30 e1 D =>
                  have T := fj_run_ok _ _ _ _ _ _ H.1 e1
                  have H := shp_st H T
                  j_aldn (pc := 65) D rfl rfl rfl fun D =>
                  j_gfc (pc := 66) (a := 377) D rfl rfl (by decide) rfl (s0_377 H) rfl (sf_166_377 H) fun D =>
                  j_ildn (pc := 69) D rfl rfl rfl fun D =>
                  j_aldn (pc := 70) D rfl rfl rfl fun D =>
                  j_ildn (pc := 71) D rfl rfl rfl fun D =>
                  j_ildn (pc := 72) D rfl rfl rfl fun D =>
                  j_ic (pc := 73) D rfl fun D =>
                  have D : fk_D 221 [(74, none, .invokevirtual 603, 3, 3, 289, 5), (77, none, .aastore, 1, 0, 0, 0), (78, none, .iload_n 2, 1, 0, 0, 0), (79, none, .ireturn, 1, 0, 0, 0)] := fq_of2 cd_221 ow_221 cl_221 rfl (pc := 74) (by decide +kernel)
                  j_iv (pc := 74) (m := 223) (dd := 289) (a := [(0, x1), (0, v28), (0, 0)]) (rest := [(0, v28), (4, 387)]) D rfl rfl rfl rfl rfl (by decide) (s0_377 H) (by decide +kernel) (fun v34 h33 e1 D =>
                    have T := fj_run_ok _ _ _ _ _ _ H.1 e1
                    have H := shp_st H T
                    j_asr (pc := 77) (a := 387) D rfl rfl (by decide) (s0_387 H) (s1_387 H) ⟨rfl, rfl, rfl⟩ rfl gn gn fun h36 eh36 S qb37 D =>
                    have T := fj_hs_ok H.1 S
                    have H := shp_st H T
                    j_ildn (pc := 78) D rfl rfl rfl fun D =>
                    j_iret D rt_221) (fun q35 h33 e1 =>
                    j_tx (hx_221 _))) (fun q32 h30 e1 =>
                  j_tx (hx_221 _))) (fun q29 h27 e1 =>
                j_tx (hx_221 _))) (fun q26 h24 e1 =>
              j_tx (hx_221 _)))) (fun q6 h4 e1 =>
          j_tx (hx_221 _))) (fun q D =>
        j_aldn (pc := 10) D rfl rfl rfl fun D =>
        j_ivv (pc := 11) (m := 166) (dd := 261) (a := []) (rest := []) D rfl rfl rfl rfl rfl (by decide) (s0_377 H) (by decide +kernel) (fun h38 e1 D =>
          have T := fj_run_ok _ _ _ _ _ _ H.1 e1
          have H := shp_st H T
          j_aldn (pc := 14) D rfl rfl rfl fun D =>
          j_gfc (pc := 15) (a := 377) D rfl rfl (by decide) rfl (s0_377 H) rfl (sf_166_377 H) fun D =>
          j_aldn (pc := 18) D rfl rfl rfl fun D =>
          j_ildn (pc := 19) D rfl rfl rfl fun D =>
          j_iv (pc := 20) (m := 222) (dd := 288) (a := [(0, x2)]) (rest := [(4, 387)]) D rfl rfl rfl rfl rfl (by decide) (s0_377 H) (by decide +kernel) (fun v42 h41 e1 D =>
            have T := fj_run_ok _ _ _ _ _ _ H.1 e1
            have H := shp_st H T
            j_aldn (pc := 23) D rfl rfl rfl fun D =>
            j_gfc (pc := 24) (a := 377) D rfl rfl (by decide) rfl (s0_377 H) rfl (sf_182_377 H) fun D =>
            j_gfc (pc := 27) (a := 303) D rfl rfl (by decide) rfl (s0_303 H) rfl (sf_234_303 H) fun D =>
            j_asr (pc := 30) (a := 387) D rfl rfl (by decide) (s0_387 H) (s1_387 H) ⟨rfl, rfl, rfl⟩ rfl gn (gy (Or.inr (by rw [show h41 0 ((356 : Int)).toNat 0 = 117 from (s0_356 H)]; decide +kernel))) fun h44 eh44 S qb45 D =>
            have T := fj_hs_ok H.1 S
            have H := shp_st H T
            j_aldn (pc := 31) D rfl rfl rfl fun D =>
            j_bp (pc := 32) D rfl fun D =>
            j_ivv (pc := 34) (m := 182) (dd := 264) (a := [(0, 59)]) (rest := []) D rfl rfl rfl rfl rfl (by decide) (s0_377 H) (by decide +kernel) (fun h46 e1 D =>
              have T := fj_run_ok _ _ _ _ _ _ H.1 e1
              have H := shp_st H T
              j_ildn (pc := 37) D rfl rfl rfl fun D =>
              j_iret D rt_221) (fun q48 h46 e1 =>
              j_tx (hx_221 _))) (fun q43 h41 e1 =>
            j_tx (hx_221 _))) (fun q40 h38 e1 =>
          j_tx (hx_221 _)))) (fun q3 h1 e1 =>
      j_tx (hx_221 _))
/-! 222 StatuteHouse$Reader.ownNumber(I)I -/
theorem cd_222 : fi_code 222 = prog_53_method_48_code := rfl
theorem hx_222 : ∀ pc, fi_hat 222 pc = none := fun pc => by unfold fi_hat; rw [show fi_hh 222 = [] from rfl]; rfl
theorem rt_222 : fi_ret 222 = some .int := rfl
theorem nl_222 : fi_nl 222 = 4 := rfl
theorem ow_222 : fi_ow 222 = 15 := rfl
theorem cl_222 : fj_cutT.getD 222 [] = [] := rfl
theorem m_222 (d : Nat) (x1 : Int) {h : fi_H} (H : Shp h) : fj_run (d + 1) 222 h [(4, 377), (0, x1)] =
  ca_ (fj_run d 188 h [(4, 377), (0, 1), (0, 99)]) 0
    (fun v2 h1 =>
    if x1 < v2 then
      if 0 ≤ h 158 377 0 ∧ h 158 377 0 < 1202 then
      ca_ (fj_run d 165 h1 [(4, 303), (0, 7), (0, h1 9 379 (h 158 377 0).toNat)]) 4
        (fun v6 h5 =>
        if v6 ≠ 0 then
        tx_ v6.toNat h5
        else none)
        (fun q7 h5 => tx_ q7 h5)
      else none
    else
      some (.inl (some (0, wI (v2 - 1))), h1))
    (fun q3 h1 => tx_ q3 h1) := by
  rw [fj_run_eq d (by decide) h [(4, 377), (0, x1)] (Nat.le_of_ble_eq_true (by rw [nl_222]; rfl))]
  show gG (fj_run d) 222 0 [(0, (4, 377)), (1, (0, x1))] [] h = _
  exact
    have D : fk_D 222 [(0, none, .aload_n 0, 1, 0, 0, 0), (1, none, .getfield 104, 3, 158, 115, 10), (4, none, .istore_n 2, 1, 0, 0, 0), (5, none, .aload_n 0, 1, 0, 0, 0), (6, none, .iconst 1, 1, 0, 1, 0), (7, none, .bipush 99, 2, 0, 99, 0), (9, none, .invokevirtual 508, 3, 2, 277, 1), (12, none, .istore_n 3, 1, 0, 0, 0), (13, none, .iload_n 3, 1, 0, 0, 0), (14, none, .iload_n 1, 1, 0, 0, 0), (15, none, .if_icmp .le 19, 3, 34, 0, 0), (18, none, .aload_n 0, 1, 0, 0, 0), (19, none, .getfield 3, 3, 182, 115, 12), (22, none, .bipush 7, 2, 0, 7, 0), (24, none, .aload_n 0, 1, 0, 0, 0), (25, none, .getfield 19, 3, 150, 115, 12), (28, none, .iload_n 2, 1, 0, 0, 0), (29, none, .saload, 1, 0, 0, 0), (30, none, .invokevirtual 186, 3, 2, 257, 5), (33, none, .athrow, 1, 0, 0, 0)] := fq_of2 cd_222 ow_222 cl_222 rfl (pc := 0) (by decide +kernel)
    j_aldn (pc := 0) D rfl rfl rfl fun D =>
    j_gf (pc := 1) (a := 377) D rfl rfl (by decide) rfl (s0_377 H) rfl fun D =>
    j_istn (pc := 4) (L' := [(2, (0, h 158 377 0)), (0, (4, 377)), (1, (0, x1))]) D rfl nl_222 rfl rfl fun D =>
    j_aldn (pc := 5) D rfl rfl rfl fun D =>
    j_ic (pc := 6) D rfl fun D =>
    j_bp (pc := 7) D rfl fun D =>
    j_iv (pc := 9) (m := 188) (dd := 277) (a := [(0, 1), (0, 99)]) (rest := []) D rfl rfl rfl rfl rfl (by decide) (s0_377 H) (by decide +kernel) (fun v2 h1 e1 D =>
      have T := fj_run_ok _ _ _ _ _ _ H.1 e1
      have H := shp_st H T
      j_istn (pc := 12) (L' := [(3, (0, v2)), (2, (0, h 158 377 0)), (0, (4, 377)), (1, (0, x1))]) D rfl nl_222 rfl rfl fun D =>
      j_ildn (pc := 13) D rfl rfl rfl fun D =>
      j_ildn (pc := 14) D rfl rfl rfl fun D =>
      j_ile (pc := 15) D rfl (fun q D =>
        j_aldn (pc := 18) D rfl rfl rfl fun D =>
        j_gfc (pc := 19) (a := 377) D rfl rfl (by decide) rfl (s0_377 H) rfl (sf_182_377 H) fun D =>
        j_bp (pc := 22) D rfl fun D =>
        j_aldn (pc := 24) D rfl rfl rfl fun D =>
        j_gfc (pc := 25) (a := 377) D rfl rfl (by decide) rfl (s0_377 H) rfl (sf_150_377 H) fun D =>
        j_ildn (pc := 28) D rfl rfl rfl fun D =>
        j_al (pc := 29) (a := 379) (e := 9) D rfl rfl rfl (by decide) (s0_379 H) (s1_379 H) ⟨rfl, rfl, rfl⟩ rfl gn fun qb4 D =>
        j_iv (pc := 30) (m := 165) (dd := 257) (a := [(0, 7), (0, h1 9 379 (h 158 377 0).toNat)]) (rest := []) D rfl rfl rfl rfl rfl (by decide) (s0_303 H) (by decide +kernel) (fun v6 h5 e1 D =>
          have T := fj_run_ok _ _ _ _ _ _ H.1 e1
          have H := shp_st H T
          j_at (pc := 33) D gn <|
          j_tx (hx_222 _)) (fun q7 h5 e1 =>
          j_tx (hx_222 _))) (fun q =>
        have D : fk_D 222 [(34, none, .iload_n 3, 1, 0, 0, 0), (35, none, .iconst 1, 1, 0, 1, 0), (36, none, .isub, 1, 0, 0, 0), (37, none, .ireturn, 1, 0, 0, 0)] := fq_of2 cd_222 ow_222 cl_222 rfl (pc := 34) (by decide +kernel)
        j_ildn (pc := 34) D rfl rfl rfl fun D =>
        j_ic (pc := 35) D rfl fun D =>
        j_isub (pc := 36) D rfl fun D =>
        j_iret D rt_222)) (fun q3 h1 e1 =>
      j_tx (hx_222 _))
