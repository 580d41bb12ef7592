/-! forms of methods 562..578, printed by gen/forms.py -/
set_option maxRecDepth 100000
/-! 562 StatuteHouseModel.kindOfTwo(III)I -/
theorem cd_562 : fi_code 562 = prog_69_method_54_code := rfl
theorem hx_562 : ∀ pc, fi_hat 562 pc = none := fun pc => by unfold fi_hat; rw [show fi_hh 562 = [] from rfl]; rfl
theorem rt_562 : fi_ret 562 = some .int := rfl
theorem nl_562 : fi_nl 562 = 3 := rfl
theorem ow_562 : fi_ow 562 = 29 := rfl
theorem cl_562 : fj_cutT.getD 562 [] = [(113, [1, 2]), (248, [1, 2]), (263, [1, 2]), (280, [1, 2]), (290, [1, 2])] := rfl
theorem cut_562_113 : fj_cut 562 113 = some [1, 2] := by decide +kernel
noncomputable def c_562_113 (d : Nat) (x1 x2 : Int) (h : fi_H) : fk_R := gG (fj_run d) 562 113 [(1, (0, x1)), (2, (0, x2))] [] h
theorem cut_562_248 : fj_cut 562 248 = some [1, 2] := by decide +kernel
noncomputable def c_562_248 (d : Nat) (x1 x2 : Int) (h : fi_H) : fk_R := gG (fj_run d) 562 248 [(1, (0, x1)), (2, (0, x2))] [] h
theorem cut_562_263 : fj_cut 562 263 = some [1, 2] := by decide +kernel
noncomputable def c_562_263 (d : Nat) (x1 x2 : Int) (h : fi_H) : fk_R := gG (fj_run d) 562 263 [(1, (0, x1)), (2, (0, x2))] [] h
theorem cut_562_280 : fj_cut 562 280 = some [1, 2] := by decide +kernel
noncomputable def c_562_280 (d : Nat) (x1 x2 : Int) (h : fi_H) : fk_R := gG (fj_run d) 562 280 [(1, (0, x1)), (2, (0, x2))] [] h
theorem cut_562_290 : fj_cut 562 290 = some [1, 2] := by decide +kernel
noncomputable def c_562_290 (d : Nat) (x1 x2 : Int) (h : fi_H) : fk_R := gG (fj_run d) 562 290 [(1, (0, x1)), (2, (0, x2))] [] h
theorem e_562_113 (d : Nat) (x1 x2 : Int) {h : fi_H} (H : Shp h) : c_562_113 d x1 x2 h =
  ca_ (fj_run d 563 h [(0, x1), (0, x2)]) 0
    (fun v2 h1 =>
    if v2 = 0 then
      some (.inl (some (0, (-1))), h1)
    else
      some (.inl (some (0, 0)), h1))
    (fun q3 h1 => tx_ q3 h1) := by
  unfold c_562_113
  exact
    have D : fk_D 562 [(113, some [1, 2], .iload_n 1, 1, 0, 0, 0), (114, none, .iload_n 2, 1, 0, 0, 0), (115, none, .invokestatic 673, 3, 2, 563, 1), (118, none, .ifCond .eq 7, 3, 125, 0, 0), (121, none, .iconst 0, 1, 0, 0, 0), (122, none, .goto 4, 3, 126, 0, 0)] := fq_of2 cd_562 ow_562 cl_562 rfl (pc := 113) (by decide +kernel)
    j_ildn (pc := 113) D rfl rfl rfl fun D =>
    j_ildn (pc := 114) D rfl rfl rfl fun D =>
    j_is (pc := 115) (m := 563) (a := [(0, x1), (0, x2)]) (rest := []) D rfl rfl rfl rfl (fun v2 h1 e1 D =>
      have T := fj_run_ok _ _ _ _ _ _ H.1 e1
      have H := shp_st H T
      j_ifeq (pc := 118) D rfl (fun q =>
        have D : fk_D 562 [(125, none, .iconst (-1), 1, 0, (-1), 0), (126, none, .ireturn, 1, 0, 0, 0)] := fq_of2 cd_562 ow_562 cl_562 rfl (pc := 125) (by decide +kernel)
        j_ic (pc := 125) D rfl fun D =>
        j_iret D rt_562) (fun q D =>
        j_ic (pc := 121) D rfl fun D =>
        j_goto (pc := 122) D rfl <|
        have D : fk_D 562 [(126, none, .ireturn, 1, 0, 0, 0)] := fq_of2 cd_562 ow_562 cl_562 rfl (pc := 126) (by decide +kernel)
        j_iret D rt_562)) (fun q3 h1 e1 =>
      j_tx (hx_562 _))
theorem e_562_248 (d : Nat) (x1 x2 : Int) {h : fi_H} (H : Shp h) : c_562_248 d x1 x2 h =
  if x1 = 2 then
    if x2 = 1 then
      some (.inl (some (0, 2)), h)
    else
      if x2 = 3 then
        some (.inl (some (0, 2)), h)
      else
        c_562_263 d x1 x2 h
  else
    c_562_263 d x1 x2 h := by
  unfold c_562_248
  exact
    have D : fk_D 562 [(248, some [1, 2], .iload_n 1, 1, 0, 0, 0), (249, none, .iconst 2, 1, 0, 2, 0), (250, none, .if_icmp .ne 13, 3, 263, 0, 0), (253, none, .iload_n 2, 1, 0, 0, 0), (254, none, .iconst 1, 1, 0, 1, 0), (255, none, .if_icmp .eq 23, 3, 278, 0, 0), (258, none, .iload_n 2, 1, 0, 0, 0), (259, none, .iconst 3, 1, 0, 3, 0), (260, none, .if_icmp .eq 18, 3, 278, 0, 0)] := fq_of2 cd_562 ow_562 cl_562 rfl (pc := 248) (by decide +kernel)
    j_ildn (pc := 248) D rfl rfl rfl fun D =>
    j_ic (pc := 249) D rfl fun D =>
    j_ine (pc := 250) D rfl (fun q D =>
      j_ildn (pc := 253) D rfl rfl rfl fun D =>
      j_ic (pc := 254) D rfl fun D =>
      j_ieq (pc := 255) D rfl (fun q =>
        have D : fk_D 562 [(278, none, .iconst 2, 1, 0, 2, 0), (279, none, .ireturn, 1, 0, 0, 0)] := fq_of2 cd_562 ow_562 cl_562 rfl (pc := 278) (by decide +kernel)
        j_ic (pc := 278) D rfl fun D =>
        j_iret D rt_562) (fun q D =>
        j_ildn (pc := 258) D rfl rfl rfl fun D =>
        j_ic (pc := 259) D rfl fun D =>
        j_ieq (pc := 260) D rfl (fun q =>
          have D : fk_D 562 [(278, none, .iconst 2, 1, 0, 2, 0), (279, none, .ireturn, 1, 0, 0, 0)] := fq_of2 cd_562 ow_562 cl_562 rfl (pc := 278) (by decide +kernel)
          j_ic (pc := 278) D rfl fun D =>
          j_iret D rt_562) (fun q D =>
          fk_jump cut_562_263 rfl rfl))) (fun q =>
      fk_jump cut_562_263 rfl rfl)
theorem e_562_263 (d : Nat) (x1 x2 : Int) {h : fi_H} (H : Shp h) : c_562_263 d x1 x2 h =
  if x2 = 2 then
    if x1 = 1 then
      some (.inl (some (0, 2)), h)
    else
      if x1 = 3 then
        some (.inl (some (0, 2)), h)
      else
        c_562_280 d x1 x2 h
  else
    c_562_280 d x1 x2 h := by
  unfold c_562_263
  exact
    have D : fk_D 562 [(263, some [1, 2], .iload_n 2, 1, 0, 0, 0), (264, none, .iconst 2, 1, 0, 2, 0), (265, none, .if_icmp .ne 15, 3, 280, 0, 0), (268, none, .iload_n 1, 1, 0, 0, 0), (269, none, .iconst 1, 1, 0, 1, 0), (270, none, .if_icmp .eq 8, 3, 278, 0, 0), (273, none, .iload_n 1, 1, 0, 0, 0), (274, none, .iconst 3, 1, 0, 3, 0), (275, none, .if_icmp .ne 5, 3, 280, 0, 0), (278, none, .iconst 2, 1, 0, 2, 0), (279, none, .ireturn, 1, 0, 0, 0)] := fq_of2 cd_562 ow_562 cl_562 rfl (pc := 263) (by decide +kernel)
    j_ildn (pc := 263) D rfl rfl rfl fun D =>
    j_ic (pc := 264) D rfl fun D =>
    j_ine (pc := 265) D rfl (fun q D =>
      j_ildn (pc := 268) D rfl rfl rfl fun D =>
      j_ic (pc := 269) D rfl fun D =>
      j_ieq (pc := 270) D rfl (fun q =>
        have D : fk_D 562 [(278, none, .iconst 2, 1, 0, 2, 0), (279, none, .ireturn, 1, 0, 0, 0)] := fq_of2 cd_562 ow_562 cl_562 rfl (pc := 278) (by decide +kernel)
        j_ic (pc := 278) D rfl fun D =>
        j_iret D rt_562) (fun q D =>
        j_ildn (pc := 273) D rfl rfl rfl fun D =>
        j_ic (pc := 274) D rfl fun D =>
        j_ine (pc := 275) D rfl (fun q D =>
          j_ic (pc := 278) D rfl fun D =>
          j_iret D rt_562) (fun q =>
          fk_jump cut_562_280 rfl rfl))) (fun q =>
      fk_jump cut_562_280 rfl rfl)
theorem e_562_280 (d : Nat) (x1 x2 : Int) {h : fi_H} (H : Shp h) : c_562_280 d x1 x2 h =
  if x1 = 5 then
    if x2 = 1 then
      some (.inl (some (0, 5)), h)
    else
      c_562_290 d x1 x2 h
  else
    c_562_290 d x1 x2 h := by
  unfold c_562_280
  exact
    have D : fk_D 562 [(280, some [1, 2], .iload_n 1, 1, 0, 0, 0), (281, none, .iconst 5, 1, 0, 5, 0), (282, none, .if_icmp .ne 8, 3, 290, 0, 0), (285, none, .iload_n 2, 1, 0, 0, 0), (286, none, .iconst 1, 1, 0, 1, 0), (287, none, .if_icmp .eq 13, 3, 300, 0, 0)] := fq_of2 cd_562 ow_562 cl_562 rfl (pc := 280) (by decide +kernel)
    j_ildn (pc := 280) D rfl rfl rfl fun D =>
    j_ic (pc := 281) D rfl fun D =>
    j_ine (pc := 282) D rfl (fun q D =>
      j_ildn (pc := 285) D rfl rfl rfl fun D =>
      j_ic (pc := 286) D rfl fun D =>
      j_ieq (pc := 287) D rfl (fun q =>
        have D : fk_D 562 [(300, none, .iconst 5, 1, 0, 5, 0), (301, none, .goto 4, 3, 305, 0, 0)] := fq_of2 cd_562 ow_562 cl_562 rfl (pc := 300) (by decide +kernel)
        j_ic (pc := 300) D rfl fun D =>
        j_goto (pc := 301) D rfl <|
        have D : fk_D 562 [(305, none, .ireturn, 1, 0, 0, 0)] := fq_of2 cd_562 ow_562 cl_562 rfl (pc := 305) (by decide +kernel)
        j_iret D rt_562) (fun q D =>
        fk_jump cut_562_290 rfl rfl)) (fun q =>
      fk_jump cut_562_290 rfl rfl)
theorem e_562_290 (d : Nat) (x1 x2 : Int) {h : fi_H} (H : Shp h) : c_562_290 d x1 x2 h =
  if x1 = 1 then
    if x2 = 5 then
      some (.inl (some (0, 5)), h)
    else
      some (.inl (some (0, (-1))), h)
  else
    some (.inl (some (0, (-1))), h) := by
  unfold c_562_290
  exact
    have D : fk_D 562 [(290, some [1, 2], .iload_n 1, 1, 0, 0, 0), (291, none, .iconst 1, 1, 0, 1, 0), (292, none, .if_icmp .ne 12, 3, 304, 0, 0), (295, none, .iload_n 2, 1, 0, 0, 0), (296, none, .iconst 5, 1, 0, 5, 0), (297, none, .if_icmp .ne 7, 3, 304, 0, 0), (300, none, .iconst 5, 1, 0, 5, 0), (301, none, .goto 4, 3, 305, 0, 0)] := fq_of2 cd_562 ow_562 cl_562 rfl (pc := 290) (by decide +kernel)
    j_ildn (pc := 290) D rfl rfl rfl fun D =>
    j_ic (pc := 291) D rfl fun D =>
    j_ine (pc := 292) D rfl (fun q D =>
      j_ildn (pc := 295) D rfl rfl rfl fun D =>
      j_ic (pc := 296) D rfl fun D =>
      j_ine (pc := 297) D rfl (fun q D =>
        j_ic (pc := 300) D rfl fun D =>
        j_goto (pc := 301) D rfl <|
        have D : fk_D 562 [(305, none, .ireturn, 1, 0, 0, 0)] := fq_of2 cd_562 ow_562 cl_562 rfl (pc := 305) (by decide +kernel)
        j_iret D rt_562) (fun q =>
        have D : fk_D 562 [(304, none, .iconst (-1), 1, 0, (-1), 0), (305, none, .ireturn, 1, 0, 0, 0)] := fq_of2 cd_562 ow_562 cl_562 rfl (pc := 304) (by decide +kernel)
        j_ic (pc := 304) D rfl fun D =>
        j_iret D rt_562)) (fun q =>
      have D : fk_D 562 [(304, none, .iconst (-1), 1, 0, (-1), 0), (305, none, .ireturn, 1, 0, 0, 0)] := fq_of2 cd_562 ow_562 cl_562 rfl (pc := 304) (by decide +kernel)
      j_ic (pc := 304) D rfl fun D =>
      j_iret D rt_562)
theorem m_562 (d : Nat) (x0 x1 x2 : Int) {h : fi_H} (H : Shp h) : fj_run (d + 1) 562 h [(0, x0), (0, x1), (0, x2)] =
  if x0 = 1 then
    if x1 = 0 then
      if x2 = 0 then
        some (.inl (some (0, 0)), h)
      else
        some (.inl (some (0, (-1))), h)
    else
      some (.inl (some (0, (-1))), h)
  else if x0 = 2 then
    if x1 = 0 then
      if x2 = 0 then
        some (.inl (some (0, 0)), h)
      else
        some (.inl (some (0, (-1))), h)
    else
      some (.inl (some (0, (-1))), h)
  else if x0 = 4 then
    if x1 = x2 then
      some (.inl (some (0, 0)), h)
    else
      ca_ (fj_run d 563 h [(0, x1), (0, x2)]) 0
        (fun v2 h1 =>
        if v2 = 0 then
          some (.inl (some (0, (-1))), h1)
        else
          some (.inl (some (0, 0)), h1))
        (fun q3 h1 => tx_ q3 h1)
  else if x0 = 5 then
    if x1 = x2 then
      some (.inl (some (0, 0)), h)
    else
      ca_ (fj_run d 563 h [(0, x1), (0, x2)]) 0
        (fun v5 h4 =>
        if v5 = 0 then
          some (.inl (some (0, (-1))), h4)
        else
          some (.inl (some (0, 0)), h4))
        (fun q6 h4 => tx_ q6 h4)
  else if x0 = 6 then
    ca_ (fj_run d 556 h [(0, x1)]) 0
      (fun v8 h7 =>
      if v8 = 0 then
        c_562_113 d x1 x2 h7
      else
        if x1 = x2 then
          some (.inl (some (0, 0)), h7)
        else
          c_562_113 d x1 x2 h7)
      (fun q9 h7 => tx_ q9 h7)
  else if x0 = 7 then
    ca_ (fj_run d 556 h [(0, x1)]) 0
      (fun v11 h10 =>
      if v11 = 0 then
        c_562_113 d x1 x2 h10
      else
        if x1 = x2 then
          some (.inl (some (0, 0)), h10)
        else
          c_562_113 d x1 x2 h10)
      (fun q12 h10 => tx_ q12 h10)
  else if x0 = 8 then
    ca_ (fj_run d 556 h [(0, x1)]) 0
      (fun v14 h13 =>
      if v14 = 0 then
        c_562_113 d x1 x2 h13
      else
        if x1 = x2 then
          some (.inl (some (0, 0)), h13)
        else
          c_562_113 d x1 x2 h13)
      (fun q15 h13 => tx_ q15 h13)
  else if x0 = 9 then
    ca_ (fj_run d 556 h [(0, x1)]) 0
      (fun v17 h16 =>
      if v17 = 0 then
        c_562_113 d x1 x2 h16
      else
        if x1 = x2 then
          some (.inl (some (0, 0)), h16)
        else
          c_562_113 d x1 x2 h16)
      (fun q18 h16 => tx_ q18 h16)
  else if x0 = 10 then
    if x1 = 4 then
      if x2 = 5 then
        some (.inl (some (0, 4)), h)
      else
        if x2 = 4 then
          if x0 = 11 then
            some (.inl (some (0, 5)), h)
          else
            some (.inl (some (0, (-1))), h)
        else
          some (.inl (some (0, (-1))), h)
    else
      ca_ (fj_run d 563 h [(0, x1), (0, x2)]) 0
        (fun v20 h19 =>
        if v20 = 0 then
          if x1 = x2 then
            if x1 = 2 then
              some (.inl (some (0, x1)), h19)
            else
              if x1 = 6 then
                some (.inl (some (0, x1)), h19)
              else
                if x1 = 5 then
                  some (.inl (some (0, x1)), h19)
                else
                  some (.inl (some (0, (-1))), h19)
          else
            some (.inl (some (0, (-1))), h19)
        else
          if x1 = 1 then
            if x2 = 1 then
              some (.inl (some (0, 1)), h19)
            else
              some (.inl (some (0, 3)), h19)
          else
            some (.inl (some (0, 3)), h19))
        (fun q21 h19 => tx_ q21 h19)
  else if x0 = 11 then
    if x1 = 4 then
      if x2 = 5 then
        some (.inl (some (0, 4)), h)
      else
        if x2 = 4 then
          if x0 = 11 then
            some (.inl (some (0, 5)), h)
          else
            some (.inl (some (0, (-1))), h)
        else
          some (.inl (some (0, (-1))), h)
    else
      ca_ (fj_run d 563 h [(0, x1), (0, x2)]) 0
        (fun v23 h22 =>
        if v23 = 0 then
          if x1 = x2 then
            if x1 = 2 then
              some (.inl (some (0, x1)), h22)
            else
              if x1 = 6 then
                some (.inl (some (0, x1)), h22)
              else
                if x1 = 5 then
                  some (.inl (some (0, x1)), h22)
                else
                  some (.inl (some (0, (-1))), h22)
          else
            some (.inl (some (0, (-1))), h22)
        else
          if x1 = 1 then
            if x2 = 1 then
              some (.inl (some (0, 1)), h22)
            else
              some (.inl (some (0, 3)), h22)
          else
            some (.inl (some (0, 3)), h22))
        (fun q24 h22 => tx_ q24 h22)
  else if x0 = 12 then
    ca_ (fj_run d 563 h [(0, x1), (0, x2)]) 0
      (fun v26 h25 =>
      if v26 = 0 then
        if x1 = 6 then
          if x2 = 6 then
            some (.inl (some (0, 6)), h25)
          else
            c_562_248 d x1 x2 h25
        else
          c_562_248 d x1 x2 h25
      else
        if x1 = 1 then
          if x2 = 1 then
            some (.inl (some (0, 1)), h25)
          else
            some (.inl (some (0, 3)), h25)
        else
          some (.inl (some (0, 3)), h25))
      (fun q27 h25 => tx_ q27 h25)
  else if x0 = 13 then
    ca_ (fj_run d 563 h [(0, x1), (0, x2)]) 0
      (fun v29 h28 =>
      if v29 = 0 then
        if x1 = 2 then
          if x2 = 1 then
            some (.inl (some (0, 2)), h28)
          else
            if x2 = 3 then
              some (.inl (some (0, 2)), h28)
            else
              if x2 = 2 then
                some (.inl (some (0, 3)), h28)
              else
                some (.inl (some (0, (-1))), h28)
        else
          if x1 = 6 then
            if x2 = 6 then
              some (.inl (some (0, 6)), h28)
            else
              some (.inl (some (0, (-1))), h28)
          else
            some (.inl (some (0, (-1))), h28)
      else
        some (.inl (some (0, 3)), h28))
      (fun q30 h28 => tx_ q30 h28)
  else 
    if x1 = x2 then
      if x1 = 1 then
        some (.inl (some (0, x1)), h)
      else
        if x1 = 2 then
          some (.inl (some (0, x1)), h)
        else
          if x1 = 6 then
            some (.inl (some (0, x1)), h)
          else
            some (.inl (some (0, (-1))), h)
    else
      some (.inl (some (0, (-1))), h) := by
  rw [fj_run_eq d (by decide) h [(0, x0), (0, x1), (0, x2)] (Nat.le_of_ble_eq_true (by rw [nl_562]; rfl))]
  show gG (fj_run d) 562 0 [(0, (0, x0)), (1, (0, x1)), (2, (0, x2))] [] h = _
  exact
    have D : fk_D 562 [(0, none, .iload_n 0, 1, 0, 0, 0), (1, none, .tableswitch 364 1 13 #[67, 67, 364, 81, 81, 100, 100, 100, 100, 126, 126, 208, 305], 67, 0, 0, 0)] := fq_of3 cd_562 ow_562 cl_562 rfl (pc := 0) (by decide +kernel)
    j_ildn (pc := 0) D rfl rfl rfl fun D =>
    have N : fk_ni (x0) [] := trivial
    j_tc (pc := 1) 1 (t := 68) D N rfl (by decide +kernel) (fun q =>
      have D : fk_D 562 [(68, none, .iload_n 1, 1, 0, 0, 0), (69, none, .ifCond .ne 11, 3, 80, 0, 0), (72, none, .iload_n 2, 1, 0, 0, 0), (73, none, .ifCond .ne 7, 3, 80, 0, 0), (76, none, .iconst 0, 1, 0, 0, 0), (77, none, .goto 4, 3, 81, 0, 0)] := fq_of2 cd_562 ow_562 cl_562 rfl (pc := 68) (by decide +kernel)
      j_ildn (pc := 68) D rfl rfl rfl fun D =>
      j_ifne (pc := 69) D rfl (fun q D =>
        j_ildn (pc := 72) D rfl rfl rfl fun D =>
        j_ifne (pc := 73) D rfl (fun q D =>
          j_ic (pc := 76) D rfl fun D =>
          j_goto (pc := 77) D rfl <|
          have D : fk_D 562 [(81, none, .ireturn, 1, 0, 0, 0)] := fq_of2 cd_562 ow_562 cl_562 rfl (pc := 81) (by decide +kernel)
          j_iret D rt_562) (fun q =>
          have D : fk_D 562 [(80, none, .iconst (-1), 1, 0, (-1), 0), (81, none, .ireturn, 1, 0, 0, 0)] := fq_of2 cd_562 ow_562 cl_562 rfl (pc := 80) (by decide +kernel)
          j_ic (pc := 80) D rfl fun D =>
          j_iret D rt_562)) (fun q =>
        have D : fk_D 562 [(80, none, .iconst (-1), 1, 0, (-1), 0), (81, none, .ireturn, 1, 0, 0, 0)] := fq_of2 cd_562 ow_562 cl_562 rfl (pc := 80) (by decide +kernel)
        j_ic (pc := 80) D rfl fun D =>
        j_iret D rt_562)) (fun N =>
      j_tc 2 (t := 68) D N rfl (by decide +kernel) (fun q =>
        have D : fk_D 562 [(68, none, .iload_n 1, 1, 0, 0, 0), (69, none, .ifCond .ne 11, 3, 80, 0, 0), (72, none, .iload_n 2, 1, 0, 0, 0), (73, none, .ifCond .ne 7, 3, 80, 0, 0), (76, none, .iconst 0, 1, 0, 0, 0), (77, none, .goto 4, 3, 81, 0, 0)] := fq_of2 cd_562 ow_562 cl_562 rfl (pc := 68) (by decide +kernel)
        j_ildn (pc := 68) D rfl rfl rfl fun D =>
        j_ifne (pc := 69) D rfl (fun q D =>
          j_ildn (pc := 72) D rfl rfl rfl fun D =>
          j_ifne (pc := 73) D rfl (fun q D =>
            j_ic (pc := 76) D rfl fun D =>
            j_goto (pc := 77) D rfl <|
            have D : fk_D 562 [(81, none, .ireturn, 1, 0, 0, 0)] := fq_of2 cd_562 ow_562 cl_562 rfl (pc := 81) (by decide +kernel)
            j_iret D rt_562) (fun q =>
            have D : fk_D 562 [(80, none, .iconst (-1), 1, 0, (-1), 0), (81, none, .ireturn, 1, 0, 0, 0)] := fq_of2 cd_562 ow_562 cl_562 rfl (pc := 80) (by decide +kernel)
            j_ic (pc := 80) D rfl fun D =>
            j_iret D rt_562)) (fun q =>
          have D : fk_D 562 [(80, none, .iconst (-1), 1, 0, (-1), 0), (81, none, .ireturn, 1, 0, 0, 0)] := fq_of2 cd_562 ow_562 cl_562 rfl (pc := 80) (by decide +kernel)
          j_ic (pc := 80) D rfl fun D =>
          j_iret D rt_562)) (fun N =>
        j_tc 4 (t := 82) D N rfl (by decide +kernel) (fun q =>
          have D : fk_D 562 [(82, none, .iload_n 1, 1, 0, 0, 0), (83, none, .iload_n 2, 1, 0, 0, 0), (84, none, .if_icmp .eq 11, 3, 95, 0, 0), (87, none, .iload_n 1, 1, 0, 0, 0), (88, none, .iload_n 2, 1, 0, 0, 0), (89, none, .invokestatic 673, 3, 2, 563, 1), (92, none, .ifCond .eq 7, 3, 99, 0, 0), (95, none, .iconst 0, 1, 0, 0, 0), (96, none, .goto 4, 3, 100, 0, 0)] := fq_of2 cd_562 ow_562 cl_562 rfl (pc := 82) (by decide +kernel)
          j_ildn (pc := 82) D rfl rfl rfl fun D =>
          j_ildn (pc := 83) D rfl rfl rfl fun D =>
          j_ieq (pc := 84) D rfl (fun q =>
            have D : fk_D 562 [(95, none, .iconst 0, 1, 0, 0, 0), (96, none, .goto 4, 3, 100, 0, 0)] := fq_of2 cd_562 ow_562 cl_562 rfl (pc := 95) (by decide +kernel)
            j_ic (pc := 95) D rfl fun D =>
            j_goto (pc := 96) D rfl <|
            have D : fk_D 562 [(100, none, .ireturn, 1, 0, 0, 0)] := fq_of2 cd_562 ow_562 cl_562 rfl (pc := 100) (by decide +kernel)
            j_iret D rt_562) (fun q D =>
            j_ildn (pc := 87) D rfl rfl rfl fun D =>
            j_ildn (pc := 88) D rfl rfl rfl fun D =>
            j_is (pc := 89) (m := 563) (a := [(0, x1), (0, x2)]) (rest := []) D rfl rfl rfl rfl (fun v2 h1 e1 D =>
              have T := fj_run_ok _ _ _ _ _ _ H.1 e1
              have H := shp_st H T
              j_ifeq (pc := 92) D rfl (fun q =>
                have D : fk_D 562 [(99, none, .iconst (-1), 1, 0, (-1), 0), (100, none, .ireturn, 1, 0, 0, 0)] := fq_of2 cd_562 ow_562 cl_562 rfl (pc := 99) (by decide +kernel)
                j_ic (pc := 99) D rfl fun D =>
                j_iret D rt_562) (fun q D =>
                j_ic (pc := 95) D rfl fun D =>
                j_goto (pc := 96) D rfl <|
                have D : fk_D 562 [(100, none, .ireturn, 1, 0, 0, 0)] := fq_of2 cd_562 ow_562 cl_562 rfl (pc := 100) (by decide +kernel)
                j_iret D rt_562)) (fun q3 h1 e1 =>
              j_tx (hx_562 _)))) (fun N =>
          j_tc 5 (t := 82) D N rfl (by decide +kernel) (fun q =>
            have D : fk_D 562 [(82, none, .iload_n 1, 1, 0, 0, 0), (83, none, .iload_n 2, 1, 0, 0, 0), (84, none, .if_icmp .eq 11, 3, 95, 0, 0), (87, none, .iload_n 1, 1, 0, 0, 0), (88, none, .iload_n 2, 1, 0, 0, 0), (89, none, .invokestatic 673, 3, 2, 563, 1), (92, none, .ifCond .eq 7, 3, 99, 0, 0), (95, none, .iconst 0, 1, 0, 0, 0), (96, none, .goto 4, 3, 100, 0, 0)] := fq_of2 cd_562 ow_562 cl_562 rfl (pc := 82) (by decide +kernel)
            j_ildn (pc := 82) D rfl rfl rfl fun D =>
            j_ildn (pc := 83) D rfl rfl rfl fun D =>
            j_ieq (pc := 84) D rfl (fun q =>
              have D : fk_D 562 [(95, none, .iconst 0, 1, 0, 0, 0), (96, none, .goto 4, 3, 100, 0, 0)] := fq_of2 cd_562 ow_562 cl_562 rfl (pc := 95) (by decide +kernel)
              j_ic (pc := 95) D rfl fun D =>
              j_goto (pc := 96) D rfl <|
              have D : fk_D 562 [(100, none, .ireturn, 1, 0, 0, 0)] := fq_of2 cd_562 ow_562 cl_562 rfl (pc := 100) (by decide +kernel)
              j_iret D rt_562) (fun q D =>
              j_ildn (pc := 87) D rfl rfl rfl fun D =>
              j_ildn (pc := 88) D rfl rfl rfl fun D =>
              j_is (pc := 89) (m := 563) (a := [(0, x1), (0, x2)]) (rest := []) D rfl rfl rfl rfl (fun v5 h4 e1 D =>
                have T := fj_run_ok _ _ _ _ _ _ H.1 e1
                have H := shp_st H T
                j_ifeq (pc := 92) D rfl (fun q =>
                  have D : fk_D 562 [(99, none, .iconst (-1), 1, 0, (-1), 0), (100, none, .ireturn, 1, 0, 0, 0)] := fq_of2 cd_562 ow_562 cl_562 rfl (pc := 99) (by decide +kernel)
                  j_ic (pc := 99) D rfl fun D =>
                  j_iret D rt_562) (fun q D =>
                  j_ic (pc := 95) D rfl fun D =>
                  j_goto (pc := 96) D rfl <|
                  have D : fk_D 562 [(100, none, .ireturn, 1, 0, 0, 0)] := fq_of2 cd_562 ow_562 cl_562 rfl (pc := 100) (by decide +kernel)
                  j_iret D rt_562)) (fun q6 h4 e1 =>
                j_tx (hx_562 _)))) (fun N =>
            j_tc 6 (t := 101) D N rfl (by decide +kernel) (fun q =>
              have D : fk_D 562 [(101, none, .iload_n 1, 1, 0, 0, 0), (102, none, .invokestatic 677, 3, 1, 556, 1), (105, none, .ifCond .eq 8, 3, 113, 0, 0), (108, none, .iload_n 1, 1, 0, 0, 0), (109, none, .iload_n 2, 1, 0, 0, 0), (110, none, .if_icmp .eq 11, 3, 121, 0, 0)] := fq_of2 cd_562 ow_562 cl_562 rfl (pc := 101) (by decide +kernel)
              j_ildn (pc := 101) D rfl rfl rfl fun D =>
              j_is (pc := 102) (m := 556) (a := [(0, x1)]) (rest := []) D rfl rfl rfl rfl (fun v8 h7 e1 D =>
                have T := fj_run_ok _ _ _ _ _ _ H.1 e1
                have H := shp_st H T
                j_ifeq (pc := 105) D rfl (fun q =>
                  fk_jump cut_562_113 rfl rfl) (fun q D =>
                  j_ildn (pc := 108) D rfl rfl rfl fun D =>
                  j_ildn (pc := 109) D rfl rfl rfl fun D =>
                  j_ieq (pc := 110) D rfl (fun q =>
                    have D : fk_D 562 [(121, none, .iconst 0, 1, 0, 0, 0), (122, none, .goto 4, 3, 126, 0, 0)] := fq_of2 cd_562 ow_562 cl_562 rfl (pc := 121) (by decide +kernel)
                    j_ic (pc := 121) D rfl fun D =>
                    j_goto (pc := 122) D rfl <|
                    have D : fk_D 562 [(126, none, .ireturn, 1, 0, 0, 0)] := fq_of2 cd_562 ow_562 cl_562 rfl (pc := 126) (by decide +kernel)
                    j_iret D rt_562) (fun q D =>
                    fk_jump cut_562_113 rfl rfl))) (fun q9 h7 e1 =>
                j_tx (hx_562 _))) (fun N =>
              j_tc 7 (t := 101) D N rfl (by decide +kernel) (fun q =>
                have D : fk_D 562 [(101, none, .iload_n 1, 1, 0, 0, 0), (102, none, .invokestatic 677, 3, 1, 556, 1), (105, none, .ifCond .eq 8, 3, 113, 0, 0), (108, none, .iload_n 1, 1, 0, 0, 0), (109, none, .iload_n 2, 1, 0, 0, 0), (110, none, .if_icmp .eq 11, 3, 121, 0, 0)] := fq_of2 cd_562 ow_562 cl_562 rfl (pc := 101) (by decide +kernel)
                j_ildn (pc := 101) D rfl rfl rfl fun D =>
                j_is (pc := 102) (m := 556) (a := [(0, x1)]) (rest := []) D rfl rfl rfl rfl (fun v11 h10 e1 D =>
                  have T := fj_run_ok _ _ _ _ _ _ H.1 e1
                  have H := shp_st H T
                  j_ifeq (pc := 105) D rfl (fun q =>
                    fk_jump cut_562_113 rfl rfl) (fun q D =>
                    j_ildn (pc := 108) D rfl rfl rfl fun D =>
                    j_ildn (pc := 109) D rfl rfl rfl fun D =>
                    j_ieq (pc := 110) D rfl (fun q =>
                      have D : fk_D 562 [(121, none, .iconst 0, 1, 0, 0, 0), (122, none, .goto 4, 3, 126, 0, 0)] := fq_of2 cd_562 ow_562 cl_562 rfl (pc := 121) (by decide +kernel)
                      j_ic (pc := 121) D rfl fun D =>
                      j_goto (pc := 122) D rfl <|
                      have D : fk_D 562 [(126, none, .ireturn, 1, 0, 0, 0)] := fq_of2 cd_562 ow_562 cl_562 rfl (pc := 126) (by decide +kernel)
                      j_iret D rt_562) (fun q D =>
                      fk_jump cut_562_113 rfl rfl))) (fun q12 h10 e1 =>
                  j_tx (hx_562 _))) (fun N =>
                j_tc 8 (t := 101) D N rfl (by decide +kernel) (fun q =>
                  have D : fk_D 562 [(101, none, .iload_n 1, 1, 0, 0, 0), (102, none, .invokestatic 677, 3, 1, 556, 1), (105, none, .ifCond .eq 8, 3, 113, 0, 0), (108, none, .iload_n 1, 1, 0, 0, 0), (109, none, .iload_n 2, 1, 0, 0, 0), (110, none, .if_icmp .eq 11, 3, 121, 0, 0)] := fq_of2 cd_562 ow_562 cl_562 rfl (pc := 101) (by decide +kernel)
                  j_ildn (pc := 101) D rfl rfl rfl fun D =>
                  j_is (pc := 102) (m := 556) (a := [(0, x1)]) (rest := []) D rfl rfl rfl rfl (fun v14 h13 e1 D =>
                    have T := fj_run_ok _ _ _ _ _ _ H.1 e1
                    have H := shp_st H T
                    j_ifeq (pc := 105) D rfl (fun q =>
                      fk_jump cut_562_113 rfl rfl) (fun q D =>
                      j_ildn (pc := 108) D rfl rfl rfl fun D =>
                      j_ildn (pc := 109) D rfl rfl rfl fun D =>
                      j_ieq (pc := 110) D rfl (fun q =>
                        have D : fk_D 562 [(121, none, .iconst 0, 1, 0, 0, 0), (122, none, .goto 4, 3, 126, 0, 0)] := fq_of2 cd_562 ow_562 cl_562 rfl (pc := 121) (by decide +kernel)
                        j_ic (pc := 121) D rfl fun D =>
                        j_goto (pc := 122) D rfl <|
                        have D : fk_D 562 [(126, none, .ireturn, 1, 0, 0, 0)] := fq_of2 cd_562 ow_562 cl_562 rfl (pc := 126) (by decide +kernel)
                        j_iret D rt_562) (fun q D =>
                        fk_jump cut_562_113 rfl rfl))) (fun q15 h13 e1 =>
                    j_tx (hx_562 _))) (fun N =>
                  j_tc 9 (t := 101) D N rfl (by decide +kernel) (fun q =>
                    have D : fk_D 562 [(101, none, .iload_n 1, 1, 0, 0, 0), (102, none, .invokestatic 677, 3, 1, 556, 1), (105, none, .ifCond .eq 8, 3, 113, 0, 0), (108, none, .iload_n 1, 1, 0, 0, 0), (109, none, .iload_n 2, 1, 0, 0, 0), (110, none, .if_icmp .eq 11, 3, 121, 0, 0)] := fq_of2 cd_562 ow_562 cl_562 rfl (pc := 101) (by decide +kernel)
                    j_ildn (pc := 101) D rfl rfl rfl fun D =>
                    j_is (pc := 102) (m := 556) (a := [(0, x1)]) (rest := []) D rfl rfl rfl rfl (fun v17 h16 e1 D =>
                      have T := fj_run_ok _ _ _ _ _ _ H.1 e1
                      have H := shp_st H T
                      j_ifeq (pc := 105) D rfl (fun q =>
                        fk_jump cut_562_113 rfl rfl) (fun q D =>
                        j_ildn (pc := 108) D rfl rfl rfl fun D =>
                        j_ildn (pc := 109) D rfl rfl rfl fun D =>
                        j_ieq (pc := 110) D rfl (fun q =>
                          have D : fk_D 562 [(121, none, .iconst 0, 1, 0, 0, 0), (122, none, .goto 4, 3, 126, 0, 0)] := fq_of2 cd_562 ow_562 cl_562 rfl (pc := 121) (by decide +kernel)
                          j_ic (pc := 121) D rfl fun D =>
                          j_goto (pc := 122) D rfl <|
                          have D : fk_D 562 [(126, none, .ireturn, 1, 0, 0, 0)] := fq_of2 cd_562 ow_562 cl_562 rfl (pc := 126) (by decide +kernel)
                          j_iret D rt_562) (fun q D =>
                          fk_jump cut_562_113 rfl rfl))) (fun q18 h16 e1 =>
                      j_tx (hx_562 _))) (fun N =>
                    j_tc 10 (t := 127) D N rfl (by decide +kernel) (fun q =>
                      have D : fk_D 562 [(127, none, .iload_n 1, 1, 0, 0, 0), (128, none, .iconst 4, 1, 0, 4, 0), (129, none, .if_icmp .ne 29, 3, 158, 0, 0), (132, none, .iload_n 2, 1, 0, 0, 0), (133, none, .iconst 5, 1, 0, 5, 0), (134, none, .if_icmp .ne 7, 3, 141, 0, 0), (137, none, .iconst 4, 1, 0, 4, 0), (138, none, .goto 19, 3, 157, 0, 0)] := fq_of2 cd_562 ow_562 cl_562 rfl (pc := 127) (by decide +kernel)
                      j_ildn (pc := 127) D rfl rfl rfl fun D =>
                      j_ic (pc := 128) D rfl fun D =>
                      j_ine (pc := 129) D rfl (fun q D =>
                        j_ildn (pc := 132) D rfl rfl rfl fun D =>
                        j_ic (pc := 133) D rfl fun D =>
                        j_ine (pc := 134) D rfl (fun q D =>
                          j_ic (pc := 137) D rfl fun D =>
                          j_goto (pc := 138) D rfl <|
                          have D : fk_D 562 [(157, none, .ireturn, 1, 0, 0, 0)] := fq_of2 cd_562 ow_562 cl_562 rfl (pc := 157) (by decide +kernel)
                          j_iret D rt_562) (fun q =>
                          have D : fk_D 562 [(141, none, .iload_n 2, 1, 0, 0, 0), (142, none, .iconst 4, 1, 0, 4, 0), (143, none, .if_icmp .ne 13, 3, 156, 0, 0), (146, none, .iload_n 0, 1, 0, 0, 0), (147, none, .bipush 11, 2, 0, 11, 0), (149, none, .if_icmp .ne 7, 3, 156, 0, 0), (152, none, .iconst 5, 1, 0, 5, 0), (153, none, .goto 4, 3, 157, 0, 0)] := fq_of2 cd_562 ow_562 cl_562 rfl (pc := 141) (by decide +kernel)
                          j_ildn (pc := 141) D rfl rfl rfl fun D =>
                          j_ic (pc := 142) D rfl fun D =>
                          j_ine (pc := 143) D rfl (fun q D =>
                            j_ildn (pc := 146) D rfl rfl rfl fun D =>
                            j_bp (pc := 147) D rfl fun D =>
                            j_ine (pc := 149) D rfl (fun q D =>
                              j_ic (pc := 152) D rfl fun D =>
                              j_goto (pc := 153) D rfl <|
                              have D : fk_D 562 [(157, none, .ireturn, 1, 0, 0, 0)] := fq_of2 cd_562 ow_562 cl_562 rfl (pc := 157) (by decide +kernel)
                              j_iret D rt_562) (fun q =>
                              have D : fk_D 562 [(156, none, .iconst (-1), 1, 0, (-1), 0), (157, none, .ireturn, 1, 0, 0, 0)] := fq_of2 cd_562 ow_562 cl_562 rfl (pc := 156) (by decide +kernel)
                              j_ic (pc := 156) D rfl fun D =>
                              j_iret D rt_562)) (fun q =>
                            have D : fk_D 562 [(156, none, .iconst (-1), 1, 0, (-1), 0), (157, none, .ireturn, 1, 0, 0, 0)] := fq_of2 cd_562 ow_562 cl_562 rfl (pc := 156) (by decide +kernel)
                            j_ic (pc := 156) D rfl fun D =>
                            j_iret D rt_562))) (fun q =>
                        have D : fk_D 562 [(158, none, .iload_n 1, 1, 0, 0, 0), (159, none, .iload_n 2, 1, 0, 0, 0), (160, none, .invokestatic 673, 3, 2, 563, 1), (163, none, .ifCond .eq 19, 3, 182, 0, 0), (166, none, .iload_n 1, 1, 0, 0, 0), (167, none, .iconst 1, 1, 0, 1, 0), (168, none, .if_icmp .ne 12, 3, 180, 0, 0), (171, none, .iload_n 2, 1, 0, 0, 0), (172, none, .iconst 1, 1, 0, 1, 0), (173, none, .if_icmp .ne 7, 3, 180, 0, 0), (176, none, .iconst 1, 1, 0, 1, 0), (177, none, .goto 4, 3, 181, 0, 0)] := fq_of2 cd_562 ow_562 cl_562 rfl (pc := 158) (by decide +kernel)
                        j_ildn (pc := 158) D rfl rfl rfl fun D =>
                        j_ildn (pc := 159) D rfl rfl rfl fun D =>
                        j_is (pc := 160) (m := 563) (a := [(0, x1), (0, x2)]) (rest := []) D rfl rfl rfl rfl (fun v20 h19 e1 D =>
                          have T := fj_run_ok _ _ _ _ _ _ H.1 e1
                          have H := shp_st H T
                          j_ifeq (pc := 163) D rfl (fun q =>
                            have D : fk_D 562 [(182, none, .iload_n 1, 1, 0, 0, 0), (183, none, .iload_n 2, 1, 0, 0, 0), (184, none, .if_icmp .ne 23, 3, 207, 0, 0), (187, none, .iload_n 1, 1, 0, 0, 0), (188, none, .iconst 2, 1, 0, 2, 0), (189, none, .if_icmp .eq 14, 3, 203, 0, 0), (192, none, .iload_n 1, 1, 0, 0, 0), (193, none, .bipush 6, 2, 0, 6, 0), (195, none, .if_icmp .eq 8, 3, 203, 0, 0), (198, none, .iload_n 1, 1, 0, 0, 0), (199, none, .iconst 5, 1, 0, 5, 0), (200, none, .if_icmp .ne 7, 3, 207, 0, 0), (203, none, .iload_n 1, 1, 0, 0, 0), (204, none, .goto 4, 3, 208, 0, 0)] := fq_of2 cd_562 ow_562 cl_562 rfl (pc := 182) (by decide +kernel)
                            j_ildn (pc := 182) D rfl rfl rfl fun D =>
                            j_ildn (pc := 183) D rfl rfl rfl fun D =>
                            j_ine (pc := 184) D rfl (fun q D =>
                              j_ildn (pc := 187) D rfl rfl rfl fun D =>
                              j_ic (pc := 188) D rfl fun D =>
                              j_ieq (pc := 189) D rfl (fun q =>
                                have D : fk_D 562 [(203, none, .iload_n 1, 1, 0, 0, 0), (204, none, .goto 4, 3, 208, 0, 0)] := fq_of2 cd_562 ow_562 cl_562 rfl (pc := 203) (by decide +kernel)
                                j_ildn (pc := 203) D rfl rfl rfl fun D =>
                                j_goto (pc := 204) D rfl <|
                                have D : fk_D 562 [(208, none, .ireturn, 1, 0, 0, 0)] := fq_of2 cd_562 ow_562 cl_562 rfl (pc := 208) (by decide +kernel)
                                j_iret D rt_562) (fun q D =>
                                j_ildn (pc := 192) D rfl rfl rfl fun D =>
                                j_bp (pc := 193) D rfl fun D =>
                                j_ieq (pc := 195) D rfl (fun q =>
                                  have D : fk_D 562 [(203, none, .iload_n 1, 1, 0, 0, 0), (204, none, .goto 4, 3, 208, 0, 0)] := fq_of2 cd_562 ow_562 cl_562 rfl (pc := 203) (by decide +kernel)
                                  j_ildn (pc := 203) D rfl rfl rfl fun D =>
                                  j_goto (pc := 204) D rfl <|
                                  have D : fk_D 562 [(208, none, .ireturn, 1, 0, 0, 0)] := fq_of2 cd_562 ow_562 cl_562 rfl (pc := 208) (by decide +kernel)
                                  j_iret D rt_562) (fun q D =>
                                  j_ildn (pc := 198) D rfl rfl rfl fun D =>
                                  j_ic (pc := 199) D rfl fun D =>
                                  j_ine (pc := 200) D rfl (fun q D =>
                                    j_ildn (pc := 203) D rfl rfl rfl fun D =>
                                    j_goto (pc := 204) D rfl <|
                                    have D : fk_D 562 [(208, none, .ireturn, 1, 0, 0, 0)] := fq_of2 cd_562 ow_562 cl_562 rfl (pc := 208) (by decide +kernel)
                                    j_iret D rt_562) (fun q =>
                                    have D : fk_D 562 [(207, none, .iconst (-1), 1, 0, (-1), 0), (208, none, .ireturn, 1, 0, 0, 0)] := fq_of2 cd_562 ow_562 cl_562 rfl (pc := 207) (by decide +kernel)
                                    j_ic (pc := 207) D rfl fun D =>
                                    j_iret D rt_562)))) (fun q =>
                              have D : fk_D 562 [(207, none, .iconst (-1), 1, 0, (-1), 0), (208, none, .ireturn, 1, 0, 0, 0)] := fq_of2 cd_562 ow_562 cl_562 rfl (pc := 207) (by decide +kernel)
                              j_ic (pc := 207) D rfl fun D =>
                              j_iret D rt_562)) (fun q D =>
                            j_ildn (pc := 166) D rfl rfl rfl fun D =>
                            j_ic (pc := 167) D rfl fun D =>
                            j_ine (pc := 168) D rfl (fun q D =>
                              j_ildn (pc := 171) D rfl rfl rfl fun D =>
                              j_ic (pc := 172) D rfl fun D =>
                              j_ine (pc := 173) D rfl (fun q D =>
                                j_ic (pc := 176) D rfl fun D =>
                                j_goto (pc := 177) D rfl <|
                                have D : fk_D 562 [(181, none, .ireturn, 1, 0, 0, 0)] := fq_of2 cd_562 ow_562 cl_562 rfl (pc := 181) (by decide +kernel)
                                j_iret D rt_562) (fun q =>
                                have D : fk_D 562 [(180, none, .iconst 3, 1, 0, 3, 0), (181, none, .ireturn, 1, 0, 0, 0)] := fq_of2 cd_562 ow_562 cl_562 rfl (pc := 180) (by decide +kernel)
                                j_ic (pc := 180) D rfl fun D =>
                                j_iret D rt_562)) (fun q =>
                              have D : fk_D 562 [(180, none, .iconst 3, 1, 0, 3, 0), (181, none, .ireturn, 1, 0, 0, 0)] := fq_of2 cd_562 ow_562 cl_562 rfl (pc := 180) (by decide +kernel)
                              j_ic (pc := 180) D rfl fun D =>
                              j_iret D rt_562))) (fun q21 h19 e1 =>
                          j_tx (hx_562 _)))) (fun N =>
                      j_tc 11 (t := 127) D N rfl (by decide +kernel) (fun q =>
                        have D : fk_D 562 [(127, none, .iload_n 1, 1, 0, 0, 0), (128, none, .iconst 4, 1, 0, 4, 0), (129, none, .if_icmp .ne 29, 3, 158, 0, 0), (132, none, .iload_n 2, 1, 0, 0, 0), (133, none, .iconst 5, 1, 0, 5, 0), (134, none, .if_icmp .ne 7, 3, 141, 0, 0), (137, none, .iconst 4, 1, 0, 4, 0), (138, none, .goto 19, 3, 157, 0, 0)] := fq_of2 cd_562 ow_562 cl_562 rfl (pc := 127) (by decide +kernel)
                        j_ildn (pc := 127) D rfl rfl rfl fun D =>
                        j_ic (pc := 128) D rfl fun D =>
                        j_ine (pc := 129) D rfl (fun q D =>
                          j_ildn (pc := 132) D rfl rfl rfl fun D =>
                          j_ic (pc := 133) D rfl fun D =>
                          j_ine (pc := 134) D rfl (fun q D =>
                            j_ic (pc := 137) D rfl fun D =>
                            j_goto (pc := 138) D rfl <|
                            have D : fk_D 562 [(157, none, .ireturn, 1, 0, 0, 0)] := fq_of2 cd_562 ow_562 cl_562 rfl (pc := 157) (by decide +kernel)
                            j_iret D rt_562) (fun q =>
                            have D : fk_D 562 [(141, none, .iload_n 2, 1, 0, 0, 0), (142, none, .iconst 4, 1, 0, 4, 0), (143, none, .if_icmp .ne 13, 3, 156, 0, 0), (146, none, .iload_n 0, 1, 0, 0, 0), (147, none, .bipush 11, 2, 0, 11, 0), (149, none, .if_icmp .ne 7, 3, 156, 0, 0), (152, none, .iconst 5, 1, 0, 5, 0), (153, none, .goto 4, 3, 157, 0, 0)] := fq_of2 cd_562 ow_562 cl_562 rfl (pc := 141) (by decide +kernel)
                            j_ildn (pc := 141) D rfl rfl rfl fun D =>
                            j_ic (pc := 142) D rfl fun D =>
                            j_ine (pc := 143) D rfl (fun q D =>
                              j_ildn (pc := 146) D rfl rfl rfl fun D =>
                              j_bp (pc := 147) D rfl fun D =>
                              j_ine (pc := 149) D rfl (fun q D =>
                                j_ic (pc := 152) D rfl fun D =>
                                j_goto (pc := 153) D rfl <|
                                have D : fk_D 562 [(157, none, .ireturn, 1, 0, 0, 0)] := fq_of2 cd_562 ow_562 cl_562 rfl (pc := 157) (by decide +kernel)
                                j_iret D rt_562) (fun q =>
                                have D : fk_D 562 [(156, none, .iconst (-1), 1, 0, (-1), 0), (157, none, .ireturn, 1, 0, 0, 0)] := fq_of2 cd_562 ow_562 cl_562 rfl (pc := 156) (by decide +kernel)
                                j_ic (pc := 156) D rfl fun D =>
                                j_iret D rt_562)) (fun q =>
                              have D : fk_D 562 [(156, none, .iconst (-1), 1, 0, (-1), 0), (157, none, .ireturn, 1, 0, 0, 0)] := fq_of2 cd_562 ow_562 cl_562 rfl (pc := 156) (by decide +kernel)
                              j_ic (pc := 156) D rfl fun D =>
                              j_iret D rt_562))) (fun q =>
                          have D : fk_D 562 [(158, none, .iload_n 1, 1, 0, 0, 0), (159, none, .iload_n 2, 1, 0, 0, 0), (160, none, .invokestatic 673, 3, 2, 563, 1), (163, none, .ifCond .eq 19, 3, 182, 0, 0), (166, none, .iload_n 1, 1, 0, 0, 0), (167, none, .iconst 1, 1, 0, 1, 0), (168, none, .if_icmp .ne 12, 3, 180, 0, 0), (171, none, .iload_n 2, 1, 0, 0, 0), (172, none, .iconst 1, 1, 0, 1, 0), (173, none, .if_icmp .ne 7, 3, 180, 0, 0), (176, none, .iconst 1, 1, 0, 1, 0), (177, none, .goto 4, 3, 181, 0, 0)] := fq_of2 cd_562 ow_562 cl_562 rfl (pc := 158) (by decide +kernel)
                          j_ildn (pc := 158) D rfl rfl rfl fun D =>
                          j_ildn (pc := 159) D rfl rfl rfl fun D =>
                          j_is (pc := 160) (m := 563) (a := [(0, x1), (0, x2)]) (rest := []) D rfl rfl rfl rfl (fun v23 h22 e1 D =>
                            have T := fj_run_ok _ _ _ _ _ _ H.1 e1
                            have H := shp_st H T
                            j_ifeq (pc := 163) D rfl (fun q =>
                              have D : fk_D 562 [(182, none, .iload_n 1, 1, 0, 0, 0), (183, none, .iload_n 2, 1, 0, 0, 0), (184, none, .if_icmp .ne 23, 3, 207, 0, 0), (187, none, .iload_n 1, 1, 0, 0, 0), (188, none, .iconst 2, 1, 0, 2, 0), (189, none, .if_icmp .eq 14, 3, 203, 0, 0), (192, none, .iload_n 1, 1, 0, 0, 0), (193, none, .bipush 6, 2, 0, 6, 0), (195, none, .if_icmp .eq 8, 3, 203, 0, 0), (198, none, .iload_n 1, 1, 0, 0, 0), (199, none, .iconst 5, 1, 0, 5, 0), (200, none, .if_icmp .ne 7, 3, 207, 0, 0), (203, none, .iload_n 1, 1, 0, 0, 0), (204, none, .goto 4, 3, 208, 0, 0)] := fq_of2 cd_562 ow_562 cl_562 rfl (pc := 182) (by decide +kernel)
                              j_ildn (pc := 182) D rfl rfl rfl fun D =>
                              j_ildn (pc := 183) D rfl rfl rfl fun D =>
                              j_ine (pc := 184) D rfl (fun q D =>
                                j_ildn (pc := 187) D rfl rfl rfl fun D =>
                                j_ic (pc := 188) D rfl fun D =>
                                j_ieq (pc := 189) D rfl (fun q =>
                                  have D : fk_D 562 [(203, none, .iload_n 1, 1, 0, 0, 0), (204, none, .goto 4, 3, 208, 0, 0)] := fq_of2 cd_562 ow_562 cl_562 rfl (pc := 203) (by decide +kernel)
                                  j_ildn (pc := 203) D rfl rfl rfl fun D =>
                                  j_goto (pc := 204) D rfl <|
                                  have D : fk_D 562 [(208, none, .ireturn, 1, 0, 0, 0)] := fq_of2 cd_562 ow_562 cl_562 rfl (pc := 208) (by decide +kernel)
                                  j_iret D rt_562) (fun q D =>
                                  j_ildn (pc := 192) D rfl rfl rfl fun D =>
                                  j_bp (pc := 193) D rfl fun D =>
                                  j_ieq (pc := 195) D rfl (fun q =>
                                    have D : fk_D 562 [(203, none, .iload_n 1, 1, 0, 0, 0), (204, none, .goto 4, 3, 208, 0, 0)] := fq_of2 cd_562 ow_562 cl_562 rfl (pc := 203) (by decide +kernel)
                                    j_ildn (pc := 203) D rfl rfl rfl fun D =>
                                    j_goto (pc := 204) D rfl <|
                                    have D : fk_D 562 [(208, none, .ireturn, 1, 0, 0, 0)] := fq_of2 cd_562 ow_562 cl_562 rfl (pc := 208) (by decide +kernel)
                                    j_iret D rt_562) (fun q D =>
                                    j_ildn (pc := 198) D rfl rfl rfl fun D =>
                                    j_ic (pc := 199) D rfl fun D =>
                                    j_ine (pc := 200) D rfl (fun q D =>
                                      j_ildn (pc := 203) D rfl rfl rfl fun D =>
                                      j_goto (pc := 204) D rfl <|
                                      have D : fk_D 562 [(208, none, .ireturn, 1, 0, 0, 0)] := fq_of2 cd_562 ow_562 cl_562 rfl (pc := 208) (by decide +kernel)
                                      j_iret D rt_562) (fun q =>
                                      have D : fk_D 562 [(207, none, .iconst (-1), 1, 0, (-1), 0), (208, none, .ireturn, 1, 0, 0, 0)] := fq_of2 cd_562 ow_562 cl_562 rfl (pc := 207) (by decide +kernel)
                                      j_ic (pc := 207) D rfl fun D =>
                                      j_iret D rt_562)))) (fun q =>
                                have D : fk_D 562 [(207, none, .iconst (-1), 1, 0, (-1), 0), (208, none, .ireturn, 1, 0, 0, 0)] := fq_of2 cd_562 ow_562 cl_562 rfl (pc := 207) (by decide +kernel)
                                j_ic (pc := 207) D rfl fun D =>
                                j_iret D rt_562)) (fun q D =>
                              j_ildn (pc := 166) D rfl rfl rfl fun D =>
                              j_ic (pc := 167) D rfl fun D =>
                              j_ine (pc := 168) D rfl (fun q D =>
                                j_ildn (pc := 171) D rfl rfl rfl fun D =>
                                j_ic (pc := 172) D rfl fun D =>
                                j_ine (pc := 173) D rfl (fun q D =>
                                  j_ic (pc := 176) D rfl fun D =>
                                  j_goto (pc := 177) D rfl <|
                                  have D : fk_D 562 [(181, none, .ireturn, 1, 0, 0, 0)] := fq_of2 cd_562 ow_562 cl_562 rfl (pc := 181) (by decide +kernel)
                                  j_iret D rt_562) (fun q =>
                                  have D : fk_D 562 [(180, none, .iconst 3, 1, 0, 3, 0), (181, none, .ireturn, 1, 0, 0, 0)] := fq_of2 cd_562 ow_562 cl_562 rfl (pc := 180) (by decide +kernel)
                                  j_ic (pc := 180) D rfl fun D =>
                                  j_iret D rt_562)) (fun q =>
                                have D : fk_D 562 [(180, none, .iconst 3, 1, 0, 3, 0), (181, none, .ireturn, 1, 0, 0, 0)] := fq_of2 cd_562 ow_562 cl_562 rfl (pc := 180) (by decide +kernel)
                                j_ic (pc := 180) D rfl fun D =>
                                j_iret D rt_562))) (fun q24 h22 e1 =>
                            j_tx (hx_562 _)))) (fun N =>
                        j_tc 12 (t := 209) D N rfl (by decide +kernel) (fun q =>
                          have D : fk_D 562 [(209, none, .iload_n 1, 1, 0, 0, 0), (210, none, .iload_n 2, 1, 0, 0, 0), (211, none, .invokestatic 673, 3, 2, 563, 1), (214, none, .ifCond .eq 19, 3, 233, 0, 0), (217, none, .iload_n 1, 1, 0, 0, 0), (218, none, .iconst 1, 1, 0, 1, 0), (219, none, .if_icmp .ne 12, 3, 231, 0, 0), (222, none, .iload_n 2, 1, 0, 0, 0), (223, none, .iconst 1, 1, 0, 1, 0), (224, none, .if_icmp .ne 7, 3, 231, 0, 0), (227, none, .iconst 1, 1, 0, 1, 0), (228, none, .goto 4, 3, 232, 0, 0)] := fq_of2 cd_562 ow_562 cl_562 rfl (pc := 209) (by decide +kernel)
                          j_ildn (pc := 209) D rfl rfl rfl fun D =>
                          j_ildn (pc := 210) D rfl rfl rfl fun D =>
                          j_is (pc := 211) (m := 563) (a := [(0, x1), (0, x2)]) (rest := []) D rfl rfl rfl rfl (fun v26 h25 e1 D =>
                            have T := fj_run_ok _ _ _ _ _ _ H.1 e1
                            have H := shp_st H T
                            j_ifeq (pc := 214) D rfl (fun q =>
                              have D : fk_D 562 [(233, none, .iload_n 1, 1, 0, 0, 0), (234, none, .bipush 6, 2, 0, 6, 0), (236, none, .if_icmp .ne 12, 3, 248, 0, 0), (239, none, .iload_n 2, 1, 0, 0, 0), (240, none, .bipush 6, 2, 0, 6, 0), (242, none, .if_icmp .ne 6, 3, 248, 0, 0), (245, none, .bipush 6, 2, 0, 6, 0), (247, none, .ireturn, 1, 0, 0, 0)] := fq_of2 cd_562 ow_562 cl_562 rfl (pc := 233) (by decide +kernel)
                              j_ildn (pc := 233) D rfl rfl rfl fun D =>
                              j_bp (pc := 234) D rfl fun D =>
                              j_ine (pc := 236) D rfl (fun q D =>
                                j_ildn (pc := 239) D rfl rfl rfl fun D =>
                                j_bp (pc := 240) D rfl fun D =>
                                j_ine (pc := 242) D rfl (fun q D =>
                                  j_bp (pc := 245) D rfl fun D =>
                                  j_iret D rt_562) (fun q =>
                                  fk_jump cut_562_248 rfl rfl)) (fun q =>
                                fk_jump cut_562_248 rfl rfl)) (fun q D =>
                              j_ildn (pc := 217) D rfl rfl rfl fun D =>
                              j_ic (pc := 218) D rfl fun D =>
                              j_ine (pc := 219) D rfl (fun q D =>
                                j_ildn (pc := 222) D rfl rfl rfl fun D =>
                                j_ic (pc := 223) D rfl fun D =>
                                j_ine (pc := 224) D rfl (fun q D =>
                                  j_ic (pc := 227) D rfl fun D =>
                                  j_goto (pc := 228) D rfl <|
                                  have D : fk_D 562 [(232, none, .ireturn, 1, 0, 0, 0)] := fq_of2 cd_562 ow_562 cl_562 rfl (pc := 232) (by decide +kernel)
                                  j_iret D rt_562) (fun q =>
                                  have D : fk_D 562 [(231, none, .iconst 3, 1, 0, 3, 0), (232, none, .ireturn, 1, 0, 0, 0)] := fq_of2 cd_562 ow_562 cl_562 rfl (pc := 231) (by decide +kernel)
                                  j_ic (pc := 231) D rfl fun D =>
                                  j_iret D rt_562)) (fun q =>
                                have D : fk_D 562 [(231, none, .iconst 3, 1, 0, 3, 0), (232, none, .ireturn, 1, 0, 0, 0)] := fq_of2 cd_562 ow_562 cl_562 rfl (pc := 231) (by decide +kernel)
                                j_ic (pc := 231) D rfl fun D =>
                                j_iret D rt_562))) (fun q27 h25 e1 =>
                            j_tx (hx_562 _))) (fun N =>
                          j_tc 13 (t := 306) D N rfl (by decide +kernel) (fun q =>
                            have D : fk_D 562 [(306, none, .iload_n 1, 1, 0, 0, 0), (307, none, .iload_n 2, 1, 0, 0, 0), (308, none, .invokestatic 673, 3, 2, 563, 1), (311, none, .ifCond .eq 5, 3, 316, 0, 0), (314, none, .iconst 3, 1, 0, 3, 0), (315, none, .ireturn, 1, 0, 0, 0)] := fq_of2 cd_562 ow_562 cl_562 rfl (pc := 306) (by decide +kernel)
                            j_ildn (pc := 306) D rfl rfl rfl fun D =>
                            j_ildn (pc := 307) D rfl rfl rfl fun D =>
                            j_is (pc := 308) (m := 563) (a := [(0, x1), (0, x2)]) (rest := []) D rfl rfl rfl rfl (fun v29 h28 e1 D =>
                              have T := fj_run_ok _ _ _ _ _ _ H.1 e1
                              have H := shp_st H T
                              j_ifeq (pc := 311) D rfl (fun q =>
                                have D : fk_D 562 [(316, none, .iload_n 1, 1, 0, 0, 0), (317, none, .iconst 2, 1, 0, 2, 0), (318, none, .if_icmp .ne 28, 3, 346, 0, 0), (321, none, .iload_n 2, 1, 0, 0, 0), (322, none, .iconst 1, 1, 0, 1, 0), (323, none, .if_icmp .eq 8, 3, 331, 0, 0), (326, none, .iload_n 2, 1, 0, 0, 0), (327, none, .iconst 3, 1, 0, 3, 0), (328, none, .if_icmp .ne 7, 3, 335, 0, 0), (331, none, .iconst 2, 1, 0, 2, 0), (332, none, .goto 13, 3, 345, 0, 0)] := fq_of2 cd_562 ow_562 cl_562 rfl (pc := 316) (by decide +kernel)
                                j_ildn (pc := 316) D rfl rfl rfl fun D =>
                                j_ic (pc := 317) D rfl fun D =>
                                j_ine (pc := 318) D rfl (fun q D =>
                                  j_ildn (pc := 321) D rfl rfl rfl fun D =>
                                  j_ic (pc := 322) D rfl fun D =>
                                  j_ieq (pc := 323) D rfl (fun q =>
                                    have D : fk_D 562 [(331, none, .iconst 2, 1, 0, 2, 0), (332, none, .goto 13, 3, 345, 0, 0)] := fq_of2 cd_562 ow_562 cl_562 rfl (pc := 331) (by decide +kernel)
                                    j_ic (pc := 331) D rfl fun D =>
                                    j_goto (pc := 332) D rfl <|
                                    have D : fk_D 562 [(345, none, .ireturn, 1, 0, 0, 0)] := fq_of2 cd_562 ow_562 cl_562 rfl (pc := 345) (by decide +kernel)
                                    j_iret D rt_562) (fun q D =>
                                    j_ildn (pc := 326) D rfl rfl rfl fun D =>
                                    j_ic (pc := 327) D rfl fun D =>
                                    j_ine (pc := 328) D rfl (fun q D =>
                                      j_ic (pc := 331) D rfl fun D =>
                                      j_goto (pc := 332) D rfl <|
                                      have D : fk_D 562 [(345, none, .ireturn, 1, 0, 0, 0)] := fq_of2 cd_562 ow_562 cl_562 rfl (pc := 345) (by decide +kernel)
                                      j_iret D rt_562) (fun q =>
                                      have D : fk_D 562 [(335, none, .iload_n 2, 1, 0, 0, 0), (336, none, .iconst 2, 1, 0, 2, 0), (337, none, .if_icmp .ne 7, 3, 344, 0, 0), (340, none, .iconst 3, 1, 0, 3, 0), (341, none, .goto 4, 3, 345, 0, 0)] := fq_of2 cd_562 ow_562 cl_562 rfl (pc := 335) (by decide +kernel)
                                      j_ildn (pc := 335) D rfl rfl rfl fun D =>
                                      j_ic (pc := 336) D rfl fun D =>
                                      j_ine (pc := 337) D rfl (fun q D =>
                                        j_ic (pc := 340) D rfl fun D =>
                                        j_goto (pc := 341) D rfl <|
                                        have D : fk_D 562 [(345, none, .ireturn, 1, 0, 0, 0)] := fq_of2 cd_562 ow_562 cl_562 rfl (pc := 345) (by decide +kernel)
                                        j_iret D rt_562) (fun q =>
                                        have D : fk_D 562 [(344, none, .iconst (-1), 1, 0, (-1), 0), (345, none, .ireturn, 1, 0, 0, 0)] := fq_of2 cd_562 ow_562 cl_562 rfl (pc := 344) (by decide +kernel)
                                        j_ic (pc := 344) D rfl fun D =>
                                        j_iret D rt_562)))) (fun q =>
                                  have D : fk_D 562 [(346, none, .iload_n 1, 1, 0, 0, 0), (347, none, .bipush 6, 2, 0, 6, 0), (349, none, .if_icmp .ne 14, 3, 363, 0, 0), (352, none, .iload_n 2, 1, 0, 0, 0), (353, none, .bipush 6, 2, 0, 6, 0), (355, none, .if_icmp .ne 8, 3, 363, 0, 0), (358, none, .bipush 6, 2, 0, 6, 0), (360, none, .goto 4, 3, 364, 0, 0)] := fq_of2 cd_562 ow_562 cl_562 rfl (pc := 346) (by decide +kernel)
                                  j_ildn (pc := 346) D rfl rfl rfl fun D =>
                                  j_bp (pc := 347) D rfl fun D =>
                                  j_ine (pc := 349) D rfl (fun q D =>
                                    j_ildn (pc := 352) D rfl rfl rfl fun D =>
                                    j_bp (pc := 353) D rfl fun D =>
                                    j_ine (pc := 355) D rfl (fun q D =>
                                      j_bp (pc := 358) D rfl fun D =>
                                      j_goto (pc := 360) D rfl <|
                                      have D : fk_D 562 [(364, none, .ireturn, 1, 0, 0, 0)] := fq_of2 cd_562 ow_562 cl_562 rfl (pc := 364) (by decide +kernel)
                                      j_iret D rt_562) (fun q =>
                                      have D : fk_D 562 [(363, none, .iconst (-1), 1, 0, (-1), 0), (364, none, .ireturn, 1, 0, 0, 0)] := fq_of2 cd_562 ow_562 cl_562 rfl (pc := 363) (by decide +kernel)
                                      j_ic (pc := 363) D rfl fun D =>
                                      j_iret D rt_562)) (fun q =>
                                    have D : fk_D 562 [(363, none, .iconst (-1), 1, 0, (-1), 0), (364, none, .ireturn, 1, 0, 0, 0)] := fq_of2 cd_562 ow_562 cl_562 rfl (pc := 363) (by decide +kernel)
                                    j_ic (pc := 363) D rfl fun D =>
                                    j_iret D rt_562))) (fun q D =>
                                j_ic (pc := 314) D rfl fun D =>
                                j_iret D rt_562)) (fun q30 h28 e1 =>
                              j_tx (hx_562 _))) (fun N =>
                            j_td (t := 365) D N rfl (by decide +kernel) (by decide +kernel) <|
                            have D : fk_D 562 [(365, none, .iload_n 1, 1, 0, 0, 0), (366, none, .iload_n 2, 1, 0, 0, 0), (367, none, .if_icmp .ne 23, 3, 390, 0, 0), (370, none, .iload_n 1, 1, 0, 0, 0), (371, none, .iconst 1, 1, 0, 1, 0), (372, none, .if_icmp .eq 14, 3, 386, 0, 0), (375, none, .iload_n 1, 1, 0, 0, 0), (376, none, .iconst 2, 1, 0, 2, 0), (377, none, .if_icmp .eq 9, 3, 386, 0, 0), (380, none, .iload_n 1, 1, 0, 0, 0), (381, none, .bipush 6, 2, 0, 6, 0), (383, none, .if_icmp .ne 7, 3, 390, 0, 0), (386, none, .iload_n 1, 1, 0, 0, 0), (387, none, .goto 4, 3, 391, 0, 0)] := fq_of2 cd_562 ow_562 cl_562 rfl (pc := 365) (by decide +kernel)
                            j_ildn (pc := 365) D rfl rfl rfl fun D =>
                            j_ildn (pc := 366) D rfl rfl rfl fun D =>
                            j_ine (pc := 367) D rfl (fun q D =>
                              j_ildn (pc := 370) D rfl rfl rfl fun D =>
                              j_ic (pc := 371) D rfl fun D =>
                              j_ieq (pc := 372) D rfl (fun q =>
                                have D : fk_D 562 [(386, none, .iload_n 1, 1, 0, 0, 0), (387, none, .goto 4, 3, 391, 0, 0)] := fq_of2 cd_562 ow_562 cl_562 rfl (pc := 386) (by decide +kernel)
                                j_ildn (pc := 386) D rfl rfl rfl fun D =>
                                j_goto (pc := 387) D rfl <|
                                have D : fk_D 562 [(391, none, .ireturn, 1, 0, 0, 0)] := fq_of2 cd_562 ow_562 cl_562 rfl (pc := 391) (by decide +kernel)
                                j_iret D rt_562) (fun q D =>
                                j_ildn (pc := 375) D rfl rfl rfl fun D =>
                                j_ic (pc := 376) D rfl fun D =>
                                j_ieq (pc := 377) D rfl (fun q =>
                                  have D : fk_D 562 [(386, none, .iload_n 1, 1, 0, 0, 0), (387, none, .goto 4, 3, 391, 0, 0)] := fq_of2 cd_562 ow_562 cl_562 rfl (pc := 386) (by decide +kernel)
                                  j_ildn (pc := 386) D rfl rfl rfl fun D =>
                                  j_goto (pc := 387) D rfl <|
                                  have D : fk_D 562 [(391, none, .ireturn, 1, 0, 0, 0)] := fq_of2 cd_562 ow_562 cl_562 rfl (pc := 391) (by decide +kernel)
                                  j_iret D rt_562) (fun q D =>
                                  j_ildn (pc := 380) D rfl rfl rfl fun D =>
                                  j_bp (pc := 381) D rfl fun D =>
                                  j_ine (pc := 383) D rfl (fun q D =>
                                    j_ildn (pc := 386) D rfl rfl rfl fun D =>
                                    j_goto (pc := 387) D rfl <|
                                    have D : fk_D 562 [(391, none, .ireturn, 1, 0, 0, 0)] := fq_of2 cd_562 ow_562 cl_562 rfl (pc := 391) (by decide +kernel)
                                    j_iret D rt_562) (fun q =>
                                    have D : fk_D 562 [(390, none, .iconst (-1), 1, 0, (-1), 0), (391, none, .ireturn, 1, 0, 0, 0)] := fq_of2 cd_562 ow_562 cl_562 rfl (pc := 390) (by decide +kernel)
                                    j_ic (pc := 390) D rfl fun D =>
                                    j_iret D rt_562)))) (fun q =>
                              have D : fk_D 562 [(390, none, .iconst (-1), 1, 0, (-1), 0), (391, none, .ireturn, 1, 0, 0, 0)] := fq_of2 cd_562 ow_562 cl_562 rfl (pc := 390) (by decide +kernel)
                              j_ic (pc := 390) D rfl fun D =>
                              j_iret D rt_562)))))))))))))
/-! 563 StatuteHouseModel.isMixed(II)Z -/
theorem cd_563 : fi_code 563 = prog_69_method_52_code := rfl
theorem hx_563 : ∀ pc, fi_hat 563 pc = none := fun pc => by unfold fi_hat; rw [show fi_hh 563 = [] from rfl]; rfl
theorem rt_563 : fi_ret 563 = some .boolean := rfl
theorem nl_563 : fi_nl 563 = 2 := rfl
theorem ow_563 : fi_ow 563 = 29 := rfl
theorem cl_563 : fj_cutT.getD 563 [] = [(10, [1])] := rfl
theorem cut_563_10 : fj_cut 563 10 = some [1] := by decide +kernel
noncomputable def c_563_10 (d : Nat) (x1 : Int) (h : fi_H) : fk_R := gG (fj_run d) 563 10 [(1, (0, x1))] [] h
theorem e_563_10 (d : Nat) (x1 : Int) {h : fi_H} (H : Shp h) : c_563_10 d x1 h =
  if x1 = 1 then
    some (.inl (some (0, 1)), h)
  else
    if x1 = 3 then
      some (.inl (some (0, 1)), h)
    else
      some (.inl (some (0, 0)), h) := by
  unfold c_563_10
  exact
    have D : fk_D 563 [(10, some [1], .iload_n 1, 1, 0, 0, 0), (11, none, .iconst 1, 1, 0, 1, 0), (12, none, .if_icmp .eq 8, 3, 20, 0, 0), (15, none, .iload_n 1, 1, 0, 0, 0), (16, none, .iconst 3, 1, 0, 3, 0), (17, none, .if_icmp .ne 7, 3, 24, 0, 0), (20, none, .iconst 1, 1, 0, 1, 0), (21, none, .goto 4, 3, 25, 0, 0)] := fq_of2 cd_563 ow_563 cl_563 rfl (pc := 10) (by decide +kernel)
    j_ildn (pc := 10) D rfl rfl rfl fun D =>
    j_ic (pc := 11) D rfl fun D =>
    j_ieq (pc := 12) D rfl (fun q =>
      have D : fk_D 563 [(20, none, .iconst 1, 1, 0, 1, 0), (21, none, .goto 4, 3, 25, 0, 0)] := fq_of2 cd_563 ow_563 cl_563 rfl (pc := 20) (by decide +kernel)
      j_ic (pc := 20) D rfl fun D =>
      j_goto (pc := 21) D rfl <|
      have D : fk_D 563 [(25, none, .ireturn, 1, 0, 0, 0)] := fq_of2 cd_563 ow_563 cl_563 rfl (pc := 25) (by decide +kernel)
      j_zret D rt_563 (gy (by decide))) (fun q D =>
      j_ildn (pc := 15) D rfl rfl rfl fun D =>
      j_ic (pc := 16) D rfl fun D =>
      j_ine (pc := 17) D rfl (fun q D =>
        j_ic (pc := 20) D rfl fun D =>
        j_goto (pc := 21) D rfl <|
        have D : fk_D 563 [(25, none, .ireturn, 1, 0, 0, 0)] := fq_of2 cd_563 ow_563 cl_563 rfl (pc := 25) (by decide +kernel)
        j_zret D rt_563 (gy (by decide))) (fun q =>
        have D : fk_D 563 [(24, none, .iconst 0, 1, 0, 0, 0), (25, none, .ireturn, 1, 0, 0, 0)] := fq_of2 cd_563 ow_563 cl_563 rfl (pc := 24) (by decide +kernel)
        j_ic (pc := 24) D rfl fun D =>
        j_zret D rt_563 (gy (by decide))))
theorem m_563 (d : Nat) (x0 x1 : Int) {h : fi_H} (H : Shp h) : fj_run (d + 1) 563 h [(0, x0), (0, x1)] =
  if x0 = 1 then
    c_563_10 d x1 h
  else
    if x0 = 3 then
      c_563_10 d x1 h
    else
      some (.inl (some (0, 0)), h) := by
  rw [fj_run_eq d (by decide) h [(0, x0), (0, x1)] (Nat.le_of_ble_eq_true (by rw [nl_563]; rfl))]
  show gG (fj_run d) 563 0 [(0, (0, x0)), (1, (0, x1))] [] h = _
  exact
    have D : fk_D 563 [(0, none, .iload_n 0, 1, 0, 0, 0), (1, none, .iconst 1, 1, 0, 1, 0), (2, none, .if_icmp .eq 8, 3, 10, 0, 0), (5, none, .iload_n 0, 1, 0, 0, 0), (6, none, .iconst 3, 1, 0, 3, 0), (7, none, .if_icmp .ne 17, 3, 24, 0, 0)] := fq_of2 cd_563 ow_563 cl_563 rfl (pc := 0) (by decide +kernel)
    j_ildn (pc := 0) D rfl rfl rfl fun D =>
    j_ic (pc := 1) D rfl fun D =>
    j_ieq (pc := 2) D rfl (fun q =>
      fk_jump cut_563_10 rfl rfl) (fun q D =>
      j_ildn (pc := 5) D rfl rfl rfl fun D =>
      j_ic (pc := 6) D rfl fun D =>
      j_ine (pc := 7) D rfl (fun q D =>
        fk_jump cut_563_10 rfl rfl) (fun q =>
        have D : fk_D 563 [(24, none, .iconst 0, 1, 0, 0, 0), (25, none, .ireturn, 1, 0, 0, 0)] := fq_of2 cd_563 ow_563 cl_563 rfl (pc := 24) (by decide +kernel)
        j_ic (pc := 24) D rfl fun D =>
        j_zret D rt_563 (gy (by decide))))
/-! 564 StatuteHouseModel.comparison()I -/
theorem cd_564 : fi_code 564 = prog_69_method_59_code := rfl
theorem hx_564 : ∀ pc, fi_hat 564 pc = none := fun pc => by unfold fi_hat; rw [show fi_hh 564 = [] from rfl]; rfl
theorem rt_564 : fi_ret 564 = some .int := rfl
theorem nl_564 : fi_nl 564 = 1 := rfl
theorem ow_564 : fi_ow 564 = 29 := rfl
theorem cl_564 : fj_cutT.getD 564 [] = [] := rfl
theorem m_564 (d : Nat) {h : fi_H} (H : Shp h) : fj_run (d + 1) 564 h [(4, 602)] =
  if h 394 602 0 = 6 then
    if h 395 602 0 = 61 then
      some (.inl (some (0, 4)), h)
    else
      if h 395 602 0 = 35 then
        some (.inl (some (0, 5)), h)
      else
        if h 395 602 0 = 60 then
          some (.inl (some (0, 6)), h)
        else
          if h 395 602 0 = 256 then
            some (.inl (some (0, 7)), h)
          else
            if h 395 602 0 = 62 then
              some (.inl (some (0, 8)), h)
            else
              if h 395 602 0 = 257 then
                some (.inl (some (0, 9)), h)
              else
                some (.inl (some (0, (-1))), h)
  else
    some (.inl (some (0, (-1))), h) := by
  rw [fj_run_eq d (by decide) h [(4, 602)] (Nat.le_of_ble_eq_true (by rw [nl_564]; rfl))]
  show gG (fj_run d) 564 0 [(0, (4, 602))] [] h = _
  exact
    have D : fk_D 564 [(0, none, .aload_n 0, 1, 0, 0, 0), (1, none, .getfield 513, 3, 394, 129, 10), (4, none, .bipush 6, 2, 0, 6, 0), (6, none, .if_icmp .eq 5, 3, 11, 0, 0), (9, none, .iconst (-1), 1, 0, (-1), 0), (10, none, .ireturn, 1, 0, 0, 0)] := fq_of2 cd_564 ow_564 cl_564 rfl (pc := 0) (by decide +kernel)
    j_aldn (pc := 0) D rfl rfl rfl fun D =>
    j_gf (pc := 1) (a := 602) D rfl rfl (by decide) rfl (s0_602 H) rfl fun D =>
    j_bp (pc := 4) D rfl fun D =>
    j_ieq (pc := 6) D rfl (fun q =>
      have D : fk_D 564 [(11, none, .aload_n 0, 1, 0, 0, 0), (12, none, .getfield 531, 3, 395, 129, 10), (15, none, .bipush 61, 2, 0, 61, 0), (17, none, .if_icmp .ne 7, 3, 24, 0, 0), (20, none, .iconst 4, 1, 0, 4, 0), (21, none, .goto 75, 3, 96, 0, 0)] := fq_of2 cd_564 ow_564 cl_564 rfl (pc := 11) (by decide +kernel)
      j_aldn (pc := 11) D rfl rfl rfl fun D =>
      j_gf (pc := 12) (a := 602) D rfl rfl (by decide) rfl (s0_602 H) rfl fun D =>
      j_bp (pc := 15) D rfl fun D =>
      j_ine (pc := 17) D rfl (fun q D =>
        j_ic (pc := 20) D rfl fun D =>
        j_goto (pc := 21) D rfl <|
        have D : fk_D 564 [(96, none, .ireturn, 1, 0, 0, 0)] := fq_of2 cd_564 ow_564 cl_564 rfl (pc := 96) (by decide +kernel)
        j_iret D rt_564) (fun q =>
        have D : fk_D 564 [(24, none, .aload_n 0, 1, 0, 0, 0), (25, none, .getfield 531, 3, 395, 129, 10), (28, none, .bipush 35, 2, 0, 35, 0), (30, none, .if_icmp .ne 7, 3, 37, 0, 0), (33, none, .iconst 5, 1, 0, 5, 0), (34, none, .goto 62, 3, 96, 0, 0)] := fq_of2 cd_564 ow_564 cl_564 rfl (pc := 24) (by decide +kernel)
        j_aldn (pc := 24) D rfl rfl rfl fun D =>
        j_gf (pc := 25) (a := 602) D rfl rfl (by decide) rfl (s0_602 H) rfl fun D =>
        j_bp (pc := 28) D rfl fun D =>
        j_ine (pc := 30) D rfl (fun q D =>
          j_ic (pc := 33) D rfl fun D =>
          j_goto (pc := 34) D rfl <|
          have D : fk_D 564 [(96, none, .ireturn, 1, 0, 0, 0)] := fq_of2 cd_564 ow_564 cl_564 rfl (pc := 96) (by decide +kernel)
          j_iret D rt_564) (fun q =>
          have D : fk_D 564 [(37, none, .aload_n 0, 1, 0, 0, 0), (38, none, .getfield 531, 3, 395, 129, 10), (41, none, .bipush 60, 2, 0, 60, 0), (43, none, .if_icmp .ne 8, 3, 51, 0, 0), (46, none, .bipush 6, 2, 0, 6, 0), (48, none, .goto 48, 3, 96, 0, 0)] := fq_of2 cd_564 ow_564 cl_564 rfl (pc := 37) (by decide +kernel)
          j_aldn (pc := 37) D rfl rfl rfl fun D =>
          j_gf (pc := 38) (a := 602) D rfl rfl (by decide) rfl (s0_602 H) rfl fun D =>
          j_bp (pc := 41) D rfl fun D =>
          j_ine (pc := 43) D rfl (fun q D =>
            j_bp (pc := 46) D rfl fun D =>
            j_goto (pc := 48) D rfl <|
            have D : fk_D 564 [(96, none, .ireturn, 1, 0, 0, 0)] := fq_of2 cd_564 ow_564 cl_564 rfl (pc := 96) (by decide +kernel)
            j_iret D rt_564) (fun q =>
            have D : fk_D 564 [(51, none, .aload_n 0, 1, 0, 0, 0), (52, none, .getfield 531, 3, 395, 129, 10), (55, none, .sipush 256, 3, 0, 256, 0), (58, none, .if_icmp .ne 8, 3, 66, 0, 0), (61, none, .bipush 7, 2, 0, 7, 0), (63, none, .goto 33, 3, 96, 0, 0)] := fq_of2 cd_564 ow_564 cl_564 rfl (pc := 51) (by decide +kernel)
            j_aldn (pc := 51) D rfl rfl rfl fun D =>
            j_gf (pc := 52) (a := 602) D rfl rfl (by decide) rfl (s0_602 H) rfl fun D =>
            j_sp (pc := 55) D rfl fun D =>
            j_ine (pc := 58) D rfl (fun q D =>
              j_bp (pc := 61) D rfl fun D =>
              j_goto (pc := 63) D rfl <|
              have D : fk_D 564 [(96, none, .ireturn, 1, 0, 0, 0)] := fq_of2 cd_564 ow_564 cl_564 rfl (pc := 96) (by decide +kernel)
              j_iret D rt_564) (fun q =>
              have D : fk_D 564 [(66, none, .aload_n 0, 1, 0, 0, 0), (67, none, .getfield 531, 3, 395, 129, 10), (70, none, .bipush 62, 2, 0, 62, 0), (72, none, .if_icmp .ne 8, 3, 80, 0, 0), (75, none, .bipush 8, 2, 0, 8, 0), (77, none, .goto 19, 3, 96, 0, 0)] := fq_of2 cd_564 ow_564 cl_564 rfl (pc := 66) (by decide +kernel)
              j_aldn (pc := 66) D rfl rfl rfl fun D =>
              j_gf (pc := 67) (a := 602) D rfl rfl (by decide) rfl (s0_602 H) rfl fun D =>
              j_bp (pc := 70) D rfl fun D =>
              j_ine (pc := 72) D rfl (fun q D =>
                j_bp (pc := 75) D rfl fun D =>
                j_goto (pc := 77) D rfl <|
                have D : fk_D 564 [(96, none, .ireturn, 1, 0, 0, 0)] := fq_of2 cd_564 ow_564 cl_564 rfl (pc := 96) (by decide +kernel)
                j_iret D rt_564) (fun q =>
                have D : fk_D 564 [(80, none, .aload_n 0, 1, 0, 0, 0), (81, none, .getfield 531, 3, 395, 129, 10), (84, none, .sipush 257, 3, 0, 257, 0), (87, none, .if_icmp .ne 8, 3, 95, 0, 0), (90, none, .bipush 9, 2, 0, 9, 0), (92, none, .goto 4, 3, 96, 0, 0)] := fq_of2 cd_564 ow_564 cl_564 rfl (pc := 80) (by decide +kernel)
                j_aldn (pc := 80) D rfl rfl rfl fun D =>
                j_gf (pc := 81) (a := 602) D rfl rfl (by decide) rfl (s0_602 H) rfl fun D =>
                j_sp (pc := 84) D rfl fun D =>
                j_ine (pc := 87) D rfl (fun q D =>
                  j_bp (pc := 90) D rfl fun D =>
                  j_goto (pc := 92) D rfl <|
                  have D : fk_D 564 [(96, none, .ireturn, 1, 0, 0, 0)] := fq_of2 cd_564 ow_564 cl_564 rfl (pc := 96) (by decide +kernel)
                  j_iret D rt_564) (fun q =>
                  have D : fk_D 564 [(95, none, .iconst (-1), 1, 0, (-1), 0), (96, none, .ireturn, 1, 0, 0, 0)] := fq_of2 cd_564 ow_564 cl_564 rfl (pc := 95) (by decide +kernel)
                  j_ic (pc := 95) D rfl fun D =>
                  j_iret D rt_564))))))) (fun q D =>
      j_ic (pc := 9) D rfl fun D =>
      j_iret D rt_564)
/-! 565 StatuteHouseModel.add(IIIZ)V -/
theorem cd_565 : fi_code 565 = prog_69_method_89_code := rfl
theorem hx_565 : ∀ pc, fi_hat 565 pc = none := fun pc => by unfold fi_hat; rw [show fi_hh 565 = [] from rfl]; rfl
theorem rt_565 : fi_ret 565 = none := rfl
theorem nl_565 : fi_nl 565 = 6 := rfl
theorem ow_565 : fi_ow 565 = 29 := rfl
theorem cl_565 : fj_cutT.getD 565 [] = [(49, [])] := rfl
theorem cut_565_49 : fj_cut 565 49 = some [] := by decide +kernel
noncomputable def c_565_49 (d : Nat) (h : fi_H) : fk_R := gG (fj_run d) 565 49 [] [] h
theorem e_565_49 (d : Nat) {h : fi_H} (H : Shp h) : c_565_49 d h =
  some (.inl none, h) := by
  unfold c_565_49
  exact
    have D : fk_D 565 [(49, some [], .return_, 1, 0, 0, 0)] := fq_of2 cd_565 ow_565 cl_565 rfl (pc := 49) (by decide +kernel)
    j_vret D rt_565
theorem m_565 (d : Nat) (x1 x2 x3 x4 : Int) {h : fi_H} (H : Shp h) : fj_run (d + 1) 565 h [(4, 602), (0, x1), (0, x2), (0, x3), (0, x4)] =
  if 0 ≤ x1 ∧ x1 < 4 then
  if 0 ≤ wI ((wI (200 * x1)) + (h 10 642 x1.toNat)) ∧ wI ((wI (200 * x1)) + (h 10 642 x1.toNat)) < 800 then
  lt_ (fi_upd h 10 639 (wI ((wI (200 * x1)) + (h 10 642 x1.toNat))).toNat x2) fun h2 =>
  lt_ (fi_upd h2 10 640 (wI ((wI (200 * x1)) + (h 10 642 x1.toNat))).toNat x3) fun h4 =>
  if fi_rg 4 x4 = true then
  lt_ (fi_upd h4 4 641 (wI ((wI (200 * x1)) + (h 10 642 x1.toNat))).toNat x4) fun h5 =>
  lt_ (fi_upd h5 10 642 x1.toNat (wI ((h5 10 642 x1.toNat) + 1))) fun h6 =>
  c_565_49 d h6
  else none
  else none
  else none := by
  rw [fj_run_eq d (by decide) h [(4, 602), (0, x1), (0, x2), (0, x3), (0, x4)] (Nat.le_of_ble_eq_true (by rw [nl_565]; rfl))]
  show gG (fj_run d) 565 0 [(0, (4, 602)), (1, (0, x1)), (2, (0, x2)), (3, (0, x3)), (4, (0, x4))] [] h = _
  exact
    have D : fk_D 565 [(0, none, .sipush 200, 3, 0, 200, 0), (3, none, .iload_n 1, 1, 0, 0, 0), (4, none, .imul, 1, 0, 0, 0), (5, none, .aload_n 0, 1, 0, 0, 0), (6, none, .getfield 137, 3, 448, 129, 12), (9, none, .iload_n 1, 1, 0, 0, 0), (10, none, .iaload, 1, 0, 0, 0), (11, none, .iadd, 1, 0, 0, 0), (12, none, .istore 5, 2, 0, 0, 0), (14, none, .aload_n 0, 1, 0, 0, 0), (15, none, .getfield 128, 3, 445, 129, 12), (18, none, .iload 5, 2, 0, 0, 0), (20, none, .iload_n 2, 1, 0, 0, 0), (21, none, .iastore, 1, 0, 0, 0), (22, none, .aload_n 0, 1, 0, 0, 0), (23, none, .getfield 131, 3, 446, 129, 12), (26, none, .iload 5, 2, 0, 0, 0), (28, none, .iload_n 3, 1, 0, 0, 0), (29, none, .iastore, 1, 0, 0, 0), (30, none, .aload_n 0, 1, 0, 0, 0)] := fq_of2 cd_565 ow_565 cl_565 rfl (pc := 0) (by decide +kernel)
    j_sp (pc := 0) D rfl fun D =>
    j_ildn (pc := 3) D rfl rfl rfl fun D =>
    j_imul (pc := 4) D rfl fun D =>
    j_aldn (pc := 5) D rfl rfl rfl fun D =>
    j_gfc (pc := 6) (a := 602) D rfl rfl (by decide) rfl (s0_602 H) rfl (sf_448_602 H) fun D =>
    j_ildn (pc := 9) D rfl rfl rfl fun D =>
    j_al (pc := 10) (a := 642) (e := 10) D rfl rfl rfl (by decide) (s0_642 H) (s1_642 H) ⟨rfl, rfl, rfl⟩ rfl gn fun qb1 D =>
    j_iadd (pc := 11) D rfl fun D =>
    j_ist (pc := 12) (L' := [(5, (0, wI ((wI (200 * x1)) + (h 10 642 x1.toNat)))), (0, (4, 602)), (1, (0, x1)), (2, (0, x2)), (3, (0, x3)), (4, (0, x4))]) D rfl nl_565 rfl rfl fun D =>
    j_aldn (pc := 14) D rfl rfl rfl fun D =>
    j_gfc (pc := 15) (a := 602) D rfl rfl (by decide) rfl (s0_602 H) rfl (sf_445_602 H) fun D =>
    j_ild (pc := 18) D rfl rfl rfl fun D =>
    j_ildn (pc := 20) D rfl rfl rfl fun D =>
    j_as (pc := 21) (a := 639) (e := 10) D rfl ⟨rfl, rfl⟩ rfl (by decide) (s0_639 H) (s1_639 H) ⟨rfl, rfl, rfl⟩ rfl gn (gy rfl) fun h2 eh2 S qb3 D =>
    have T := fj_hs_ok H.1 S
    have H := shp_st H T
    j_aldn (pc := 22) D rfl rfl rfl fun D =>
    j_gfc (pc := 23) (a := 602) D rfl rfl (by decide) rfl (s0_602 H) rfl (sf_446_602 H) fun D =>
    j_ild (pc := 26) D rfl rfl rfl fun D =>
    j_ildn (pc := 28) D rfl rfl rfl fun D =>
    j_as (pc := 29) (a := 640) (e := 10) D rfl ⟨rfl, rfl⟩ rfl (by decide) (s0_640 H) (s1_640 H) ⟨rfl, rfl, rfl⟩ rfl (gy qb3) (gy rfl) fun h4 eh4 S q D =>
    have T := fj_hs_ok H.1 S
    have H := shp_st H T
    j_aldn (pc := 30) D rfl rfl rfl fun D =>
    have D : fk_D 565 [(31, none, .getfield 134, 3, 447, 129, 12), (34, none, .iload 5, 2, 0, 0, 0), (36, none, .iload 4, 2, 0, 0, 0), (38, none, .bastore, 1, 0, 0, 0), (39, none, .aload_n 0, 1, 0, 0, 0), (40, none, .getfield 137, 3, 448, 129, 12), (43, none, .iload_n 1, 1, 0, 0, 0), (44, none, .dup2, 1, 0, 0, 0), (45, none, .iaload, 1, 0, 0, 0), (46, none, .iconst 1, 1, 0, 1, 0), (47, none, .iadd, 1, 0, 0, 0), (48, none, .iastore, 1, 0, 0, 0)] := fq_of2 cd_565 ow_565 cl_565 rfl (pc := 31) (by decide +kernel)
    j_gfc (pc := 31) (a := 602) D rfl rfl (by decide) rfl (s0_602 H) rfl (sf_447_602 H) fun D =>
    j_ild (pc := 34) D rfl rfl rfl fun D =>
    j_ild (pc := 36) D rfl rfl rfl fun D =>
    j_as (pc := 38) (a := 641) (e := 4) D rfl ⟨rfl, rfl⟩ rfl (by decide) (s0_641 H) (s1_641 H) ⟨rfl, rfl, rfl⟩ rfl (gy qb3) gn fun h5 eh5 S q D =>
    have T := fj_hs_ok H.1 S
    have H := shp_st H T
    j_aldn (pc := 39) D rfl rfl rfl fun D =>
    j_gfc (pc := 40) (a := 602) D rfl rfl (by decide) rfl (s0_602 H) rfl (sf_448_602 H) fun D =>
    j_ildn (pc := 43) D rfl rfl rfl fun D =>
    j_sh (pc := 44) D rfl rfl rfl fun D =>
    j_al (pc := 45) (a := 642) (e := 10) D rfl rfl rfl (by decide) (s0_642 H) (s1_642 H) ⟨rfl, rfl, rfl⟩ rfl (gy qb1) fun q D =>
    j_ic (pc := 46) D rfl fun D =>
    j_iadd (pc := 47) D rfl fun D =>
    j_as (pc := 48) (a := 642) (e := 10) D rfl ⟨rfl, rfl⟩ rfl (by decide) (s0_642 H) (s1_642 H) ⟨rfl, rfl, rfl⟩ rfl (gy qb1) (gy rfl) fun h6 eh6 S q D =>
    have T := fj_hs_ok H.1 S
    have H := shp_st H T
    fk_jump cut_565_49 rfl rfl
/-! 566 StatuteHouseModel.feed(IIIII)I -/
theorem cd_566 : fi_code 566 = prog_69_method_131_code := rfl
theorem hx_566 : ∀ pc, fi_hat 566 pc = none := fun pc => by unfold fi_hat; rw [show fi_hh 566 = [] from rfl]; rfl
theorem rt_566 : fi_ret 566 = some .int := rfl
theorem nl_566 : fi_nl 566 = 9 := rfl
theorem ow_566 : fi_ow 566 = 29 := rfl
theorem cl_566 : fj_cutT.getD 566 [] = [(19, [0, 1, 2, 3, 4, 5, 6]), (67, [0, 1, 2, 3, 4, 5, 6]), (73, [0, 1, 2, 3, 4, 5, 6, 7, 8])] := rfl
theorem cut_566_19 : fj_cut 566 19 = some [0, 1, 2, 3, 4, 5, 6] := by decide +kernel
noncomputable def c_566_19 (d : Nat) (x1 x2 x3 x4 x5 x6 : Int) (h : fi_H) : fk_R := gG (fj_run d) 566 19 [(0, (4, 602)), (1, (0, x1)), (2, (0, x2)), (3, (0, x3)), (4, (0, x4)), (5, (0, x5)), (6, (0, x6))] [] h
theorem cut_566_67 : fj_cut 566 67 = some [0, 1, 2, 3, 4, 5, 6] := by decide +kernel
noncomputable def c_566_67 (d : Nat) (x1 x2 x3 x4 x5 x6 s0 : Int) (h : fi_H) : fk_R := gG (fj_run d) 566 67 [(0, (4, 602)), (1, (0, x1)), (2, (0, x2)), (3, (0, x3)), (4, (0, x4)), (5, (0, x5)), (6, (0, x6))] [(0, s0)] h
theorem cut_566_73 : fj_cut 566 73 = some [0, 1, 2, 3, 4, 5, 6, 7, 8] := by decide +kernel
noncomputable def c_566_73 (d : Nat) (x1 x2 x3 x4 x5 x6 x7 x8 : Int) (h : fi_H) : fk_R := gG (fj_run d) 566 73 [(0, (4, 602)), (1, (0, x1)), (2, (0, x2)), (3, (0, x3)), (4, (0, x4)), (5, (0, x5)), (6, (0, x6)), (7, (0, x7)), (8, (0, x8))] [] h
theorem e_566_19 (d : Nat) (x1 x2 x3 x4 x5 x6 : Int) {h : fi_H} (H : Shp h) : c_566_19 d x1 x2 x3 x4 x5 x6 h =
  if x6 < 5 then
    if x6 = 0 then
      c_566_67 d x1 x2 x3 x4 x5 x6 x1 h
    else
      if x6 = 1 then
        c_566_67 d x1 x2 x3 x4 x5 x6 x2 h
      else
        if x6 = 2 then
          c_566_67 d x1 x2 x3 x4 x5 x6 x3 h
        else
          if x6 = 3 then
            c_566_67 d x1 x2 x3 x4 x5 x6 x4 h
          else
            c_566_67 d x1 x2 x3 x4 x5 x6 x5 h
  else
    some (.inl (some (0, h 392 602 0)), h) := by
  unfold c_566_19
  exact
    have D : fk_D 566 [(19, some [0, 1, 2, 3, 4, 5, 6], .iload 6, 2, 0, 0, 0), (21, none, .iconst 5, 1, 0, 5, 0), (22, none, .if_icmp .ge 96, 3, 118, 0, 0), (25, none, .iload 6, 2, 0, 0, 0), (27, none, .ifCond .ne 7, 3, 34, 0, 0), (30, none, .iload_n 1, 1, 0, 0, 0), (31, none, .goto 36, 3, 67, 0, 0)] := fq_of2 cd_566 ow_566 cl_566 rfl (pc := 19) (by decide +kernel)
    j_ild (pc := 19) D rfl rfl rfl fun D =>
    j_ic (pc := 21) D rfl fun D =>
    j_ige (pc := 22) D rfl (fun q D =>
      j_ild (pc := 25) D rfl rfl rfl fun D =>
      j_ifne (pc := 27) D rfl (fun q D =>
        j_ildn (pc := 30) D rfl rfl rfl fun D =>
        j_goto (pc := 31) D rfl <|
        fk_jump cut_566_67 rfl rfl) (fun q =>
        have D : fk_D 566 [(34, none, .iload 6, 2, 0, 0, 0), (36, none, .iconst 1, 1, 0, 1, 0), (37, none, .if_icmp .ne 7, 3, 44, 0, 0), (40, none, .iload_n 2, 1, 0, 0, 0), (41, none, .goto 26, 3, 67, 0, 0)] := fq_of2 cd_566 ow_566 cl_566 rfl (pc := 34) (by decide +kernel)
        j_ild (pc := 34) D rfl rfl rfl fun D =>
        j_ic (pc := 36) D rfl fun D =>
        j_ine (pc := 37) D rfl (fun q D =>
          j_ildn (pc := 40) D rfl rfl rfl fun D =>
          j_goto (pc := 41) D rfl <|
          fk_jump cut_566_67 rfl rfl) (fun q =>
          have D : fk_D 566 [(44, none, .iload 6, 2, 0, 0, 0), (46, none, .iconst 2, 1, 0, 2, 0), (47, none, .if_icmp .ne 7, 3, 54, 0, 0), (50, none, .iload_n 3, 1, 0, 0, 0), (51, none, .goto 16, 3, 67, 0, 0)] := fq_of2 cd_566 ow_566 cl_566 rfl (pc := 44) (by decide +kernel)
          j_ild (pc := 44) D rfl rfl rfl fun D =>
          j_ic (pc := 46) D rfl fun D =>
          j_ine (pc := 47) D rfl (fun q D =>
            j_ildn (pc := 50) D rfl rfl rfl fun D =>
            j_goto (pc := 51) D rfl <|
            fk_jump cut_566_67 rfl rfl) (fun q =>
            have D : fk_D 566 [(54, none, .iload 6, 2, 0, 0, 0), (56, none, .iconst 3, 1, 0, 3, 0), (57, none, .if_icmp .ne 8, 3, 65, 0, 0), (60, none, .iload 4, 2, 0, 0, 0), (62, none, .goto 5, 3, 67, 0, 0)] := fq_of2 cd_566 ow_566 cl_566 rfl (pc := 54) (by decide +kernel)
            j_ild (pc := 54) D rfl rfl rfl fun D =>
            j_ic (pc := 56) D rfl fun D =>
            j_ine (pc := 57) D rfl (fun q D =>
              j_ild (pc := 60) D rfl rfl rfl fun D =>
              j_goto (pc := 62) D rfl <|
              fk_jump cut_566_67 rfl rfl) (fun q =>
              have D : fk_D 566 [(65, none, .iload 5, 2, 0, 0, 0)] := fq_of2 cd_566 ow_566 cl_566 rfl (pc := 65) (by decide +kernel)
              j_ild (pc := 65) D rfl rfl rfl fun D =>
              fk_jump cut_566_67 rfl rfl))))) (fun q =>
      have D : fk_D 566 [(118, none, .aload_n 0, 1, 0, 0, 0), (119, none, .getfield 573, 3, 392, 129, 10), (122, none, .ireturn, 1, 0, 0, 0)] := fq_of2 cd_566 ow_566 cl_566 rfl (pc := 118) (by decide +kernel)
      j_aldn (pc := 118) D rfl rfl rfl fun D =>
      j_gf (pc := 119) (a := 602) D rfl rfl (by decide) rfl (s0_602 H) rfl fun D =>
      j_iret D rt_566)
theorem e_566_67 (d : Nat) (x1 x2 x3 x4 x5 x6 s0 : Int) {h : fi_H} (H : Shp h) : c_566_67 d x1 x2 x3 x4 x5 x6 s0 h =
  c_566_73 d x1 x2 x3 x4 x5 x6 s0 24 h := by
  unfold c_566_67
  exact
    have D : fk_D 566 [(67, some [0, 1, 2, 3, 4, 5, 6], .istore 7, 2, 0, 0, 0), (69, none, .bipush 24, 2, 0, 24, 0), (71, none, .istore 8, 2, 0, 0, 0)] := fq_of2 cd_566 ow_566 cl_566 rfl (pc := 67) (by decide +kernel)
    j_ist (pc := 67) (L' := [(7, (0, s0)), (0, (4, 602)), (1, (0, x1)), (2, (0, x2)), (3, (0, x3)), (4, (0, x4)), (5, (0, x5)), (6, (0, x6))]) D rfl nl_566 rfl rfl fun D =>
    j_bp (pc := 69) D rfl fun D =>
    j_ist (pc := 71) (L' := [(8, (0, 24)), (7, (0, s0)), (0, (4, 602)), (1, (0, x1)), (2, (0, x2)), (3, (0, x3)), (4, (0, x4)), (5, (0, x5)), (6, (0, x6))]) D rfl nl_566 rfl rfl fun D =>
    fk_jump cut_566_73 rfl rfl
theorem e_566_73 (d : Nat) (x1 x2 x3 x4 x5 x6 x7 x8 : Int) {h : fi_H} (H : Shp h) : c_566_73 d x1 x2 x3 x4 x5 x6 x7 x8 h =
  if x8 < 0 then
    c_566_19 d x1 x2 x3 x4 x5 (wI (x6 + 1)) h
  else
    if 0 ≤ h 392 602 0 ∧ h 392 602 0 < 4000 then
    lt_ (fi_upd h 10 607 (h 392 602 0).toNat (ia_ (sr_ x7 x8) 255)) fun h1 =>
    lt_ (fi_upd h1 392 602 0 (wI ((h1 392 602 0) + 1))) fun h3 =>
    c_566_73 d x1 x2 x3 x4 x5 x6 x7 (wI (x8 + (-8))) h3
    else none := by
  unfold c_566_73
  exact
    have D : fk_D 566 [(73, some [0, 1, 2, 3, 4, 5, 6, 7, 8], .iload 8, 2, 0, 0, 0), (75, none, .ifCond .lt 37, 3, 112, 0, 0), (78, none, .aload_n 0, 1, 0, 0, 0), (79, none, .getfield 26, 3, 391, 129, 12), (82, none, .aload_n 0, 1, 0, 0, 0), (83, none, .getfield 573, 3, 392, 129, 10), (86, none, .iload 7, 2, 0, 0, 0), (88, none, .iload 8, 2, 0, 0, 0), (90, none, .ishr, 1, 0, 0, 0), (91, none, .sipush 255, 3, 0, 255, 0), (94, none, .iand, 1, 0, 0, 0), (95, none, .iastore, 1, 0, 0, 0), (96, none, .aload_n 0, 1, 0, 0, 0), (97, none, .dup, 1, 0, 0, 0), (98, none, .getfield 573, 3, 392, 129, 10), (101, none, .iconst 1, 1, 0, 1, 0), (102, none, .iadd, 1, 0, 0, 0), (103, none, .putfield 573, 3, 392, 129, 10), (106, none, .iinc 8 (-8), 3, 0, (-8), 0), (109, none, .goto (-36), 3, 73, 0, 0)] := fq_of2 cd_566 ow_566 cl_566 rfl (pc := 73) (by decide +kernel)
    j_ild (pc := 73) D rfl rfl rfl fun D =>
    j_iflt (pc := 75) D rfl (fun q =>
      have D : fk_D 566 [(112, none, .iinc 6 1, 3, 0, 1, 0), (115, none, .goto (-96), 3, 19, 0, 0)] := fq_of2 cd_566 ow_566 cl_566 rfl (pc := 112) (by decide +kernel)
      j_inc (pc := 112) (L' := [(6, (0, wI (x6 + 1))), (0, (4, 602)), (1, (0, x1)), (2, (0, x2)), (3, (0, x3)), (4, (0, x4)), (5, (0, x5)), (7, (0, x7)), (8, (0, x8))]) D rfl rfl rfl (by decide +kernel) rfl fun D =>
      j_goto (pc := 115) D rfl <|
      fk_jump cut_566_19 rfl rfl) (fun q D =>
      j_aldn (pc := 78) D rfl rfl rfl fun D =>
      j_gfc (pc := 79) (a := 602) D rfl rfl (by decide) rfl (s0_602 H) rfl (sf_391_602 H) fun D =>
      j_aldn (pc := 82) D rfl rfl rfl fun D =>
      j_gf (pc := 83) (a := 602) D rfl rfl (by decide) rfl (s0_602 H) rfl fun D =>
      j_ild (pc := 86) D rfl rfl rfl fun D =>
      j_ild (pc := 88) D rfl rfl rfl fun D =>
      j_ishr (pc := 90) D rfl fun D =>
      j_sp (pc := 91) D rfl fun D =>
      j_iand (pc := 94) D rfl fun D =>
      j_as (pc := 95) (a := 607) (e := 10) D rfl ⟨rfl, rfl⟩ rfl (by decide) (s0_607 H) (s1_607 H) ⟨rfl, rfl, rfl⟩ rfl gn (gy rfl) fun h1 eh1 S qb2 D =>
      have T := fj_hs_ok H.1 S
      have H := shp_st H T
      j_aldn (pc := 96) D rfl rfl rfl fun D =>
      j_sh (pc := 97) D rfl rfl rfl fun D =>
      j_gf (pc := 98) (a := 602) D rfl rfl (by decide) rfl (s0_602 H) rfl fun D =>
      j_ic (pc := 101) D rfl fun D =>
      j_iadd (pc := 102) D rfl fun D =>
      j_pf (pc := 103) (a := 602) D rfl rfl rfl (s0_602 H) rfl rfl (gy (by decide)) (gy rfl) fun h3 eh3 S D =>
      have T := fj_hs_ok H.1 S
      have H := shp_st H T
      j_inc (pc := 106) (L' := [(8, (0, wI (x8 + (-8)))), (0, (4, 602)), (1, (0, x1)), (2, (0, x2)), (3, (0, x3)), (4, (0, x4)), (5, (0, x5)), (6, (0, x6)), (7, (0, x7))]) D rfl rfl rfl (by decide +kernel) rfl fun D =>
      j_goto (pc := 109) D rfl <|
      fk_jump cut_566_73 rfl rfl)
theorem m_566 (d : Nat) (x1 x2 x3 x4 x5 : Int) {h : fi_H} (H : Shp h) : fj_run (d + 1) 566 h [(4, 602), (0, x1), (0, x2), (0, x3), (0, x4), (0, x5)] =
  if 4000 < wI ((h 392 602 0) + 20) then
    some (.inl (some (0, (-4))), h)
  else
    c_566_19 d x1 x2 x3 x4 x5 0 h := by
  rw [fj_run_eq d (by decide) h [(4, 602), (0, x1), (0, x2), (0, x3), (0, x4), (0, x5)] (Nat.le_of_ble_eq_true (by rw [nl_566]; rfl))]
  show gG (fj_run d) 566 0 [(0, (4, 602)), (1, (0, x1)), (2, (0, x2)), (3, (0, x3)), (4, (0, x4)), (5, (0, x5))] [] h = _
  exact
    have D : fk_D 566 [(0, none, .aload_n 0, 1, 0, 0, 0), (1, none, .getfield 573, 3, 392, 129, 10), (4, none, .bipush 20, 2, 0, 20, 0), (6, none, .iadd, 1, 0, 0, 0), (7, none, .sipush 4000, 3, 0, 4000, 0), (10, none, .if_icmp .le 6, 3, 16, 0, 0), (13, none, .bipush (-4), 2, 0, (-4), 0), (15, none, .ireturn, 1, 0, 0, 0)] := fq_of2 cd_566 ow_566 cl_566 rfl (pc := 0) (by decide +kernel)
    j_aldn (pc := 0) D rfl rfl rfl fun D =>
    j_gf (pc := 1) (a := 602) D rfl rfl (by decide) rfl (s0_602 H) rfl fun D =>
    j_bp (pc := 4) D rfl fun D =>
    j_iadd (pc := 6) D rfl fun D =>
    j_sp (pc := 7) D rfl fun D =>
    j_ile (pc := 10) D rfl (fun q D =>
      j_bp (pc := 13) D rfl fun D =>
      j_iret D rt_566) (fun q =>
      have D : fk_D 566 [(16, none, .iconst 0, 1, 0, 0, 0), (17, none, .istore 6, 2, 0, 0, 0)] := fq_of2 cd_566 ow_566 cl_566 rfl (pc := 16) (by decide +kernel)
      j_ic (pc := 16) D rfl fun D =>
      j_ist (pc := 17) (L' := [(6, (0, 0)), (0, (4, 602)), (1, (0, x1)), (2, (0, x2)), (3, (0, x3)), (4, (0, x4)), (5, (0, x5))]) D rfl nl_566 rfl rfl fun D =>
      fk_jump cut_566_19 rfl rfl)
/-! 567 StatuteHouseModel.end(I)I -/
theorem cd_567 : fi_code 567 = prog_69_method_132_code := rfl
theorem hx_567 : ∀ pc, fi_hat 567 pc = none := fun pc => by unfold fi_hat; rw [show fi_hh 567 = [] from rfl]; rfl
theorem rt_567 : fi_ret 567 = some .int := rfl
theorem nl_567 : fi_nl 567 = 2 := rfl
theorem ow_567 : fi_ow 567 = 29 := rfl
theorem cl_567 : fj_cutT.getD 567 [] = [] := rfl
theorem m_567 (d : Nat) (x1 : Int) {h : fi_H} (H : Shp h) : fj_run (d + 1) 567 h [(4, 602), (0, x1)] =
  if x1 < 0 then
    some (.inl (some (0, (-1))), h)
  else
    if h 392 602 0 < x1 then
      some (.inl (some (0, (-1))), h)
    else
      lt_ (fi_upd h 392 602 0 x1) fun h1 =>
      some (.inl (some (0, x1)), h1) := by
  rw [fj_run_eq d (by decide) h [(4, 602), (0, x1)] (Nat.le_of_ble_eq_true (by rw [nl_567]; rfl))]
  show gG (fj_run d) 567 0 [(0, (4, 602)), (1, (0, x1))] [] h = _
  exact
    have D : fk_D 567 [(0, none, .iload_n 1, 1, 0, 0, 0), (1, none, .ifCond .lt 11, 3, 12, 0, 0), (4, none, .iload_n 1, 1, 0, 0, 0), (5, none, .aload_n 0, 1, 0, 0, 0), (6, none, .getfield 573, 3, 392, 129, 10), (9, none, .if_icmp .le 5, 3, 14, 0, 0), (12, none, .iconst (-1), 1, 0, (-1), 0), (13, none, .ireturn, 1, 0, 0, 0)] := fq_of2 cd_567 ow_567 cl_567 rfl (pc := 0) (by decide +kernel)
    j_ildn (pc := 0) D rfl rfl rfl fun D =>
    j_iflt (pc := 1) D rfl (fun q =>
      have D : fk_D 567 [(12, none, .iconst (-1), 1, 0, (-1), 0), (13, none, .ireturn, 1, 0, 0, 0)] := fq_of2 cd_567 ow_567 cl_567 rfl (pc := 12) (by decide +kernel)
      j_ic (pc := 12) D rfl fun D =>
      j_iret D rt_567) (fun q D =>
      j_ildn (pc := 4) D rfl rfl rfl fun D =>
      j_aldn (pc := 5) D rfl rfl rfl fun D =>
      j_gf (pc := 6) (a := 602) D rfl rfl (by decide) rfl (s0_602 H) rfl fun D =>
      j_ile (pc := 9) D rfl (fun q D =>
        j_ic (pc := 12) D rfl fun D =>
        j_iret D rt_567) (fun q =>
        have D : fk_D 567 [(14, none, .aload_n 0, 1, 0, 0, 0), (15, none, .iload_n 1, 1, 0, 0, 0), (16, none, .putfield 573, 3, 392, 129, 10), (19, none, .iload_n 1, 1, 0, 0, 0), (20, none, .ireturn, 1, 0, 0, 0)] := fq_of2 cd_567 ow_567 cl_567 rfl (pc := 14) (by decide +kernel)
        j_aldn (pc := 14) D rfl rfl rfl fun D =>
        j_ildn (pc := 15) D rfl rfl rfl fun D =>
        j_pf (pc := 16) (a := 602) D rfl rfl rfl (s0_602 H) rfl rfl (gy (by decide)) (gy rfl) fun h1 eh1 S D =>
        have T := fj_hs_ok H.1 S
        have H := shp_st H T
        j_ildn (pc := 19) D rfl rfl rfl fun D =>
        j_iret D rt_567))
/-! 568 StatuteHouseModel.fault(I)I -/
theorem cd_568 : fi_code 568 = prog_69_method_133_code := rfl
theorem hx_568 : ∀ pc, fi_hat 568 pc = none := fun pc => by unfold fi_hat; rw [show fi_hh 568 = [] from rfl]; rfl
theorem rt_568 : fi_ret 568 = some .int := rfl
theorem nl_568 : fi_nl 568 = 2 := rfl
theorem ow_568 : fi_ow 568 = 29 := rfl
theorem cl_568 : fj_cutT.getD 568 [] = [] := rfl
theorem m_568 (d : Nat) (x1 : Int) {h : fi_H} (H : Shp h) : fj_run (d + 1) 568 h [(4, 602), (0, x1)] =
  if x1 = 0 then
    some (.inl (some (0, h 402 602 0)), h)
  else
    if x1 = 1 then
      some (.inl (some (0, h 403 602 0)), h)
    else
      some (.inl (some (0, (-1))), h) := by
  rw [fj_run_eq d (by decide) h [(4, 602), (0, x1)] (Nat.le_of_ble_eq_true (by rw [nl_568]; rfl))]
  show gG (fj_run d) 568 0 [(0, (4, 602)), (1, (0, x1))] [] h = _
  exact
    have D : fk_D 568 [(0, none, .iload_n 1, 1, 0, 0, 0), (1, none, .ifCond .ne 10, 3, 11, 0, 0), (4, none, .aload_n 0, 1, 0, 0, 0), (5, none, .getfield 476, 3, 402, 129, 10), (8, none, .goto 16, 3, 24, 0, 0)] := fq_of2 cd_568 ow_568 cl_568 rfl (pc := 0) (by decide +kernel)
    j_ildn (pc := 0) D rfl rfl rfl fun D =>
    j_ifne (pc := 1) D rfl (fun q D =>
      j_aldn (pc := 4) D rfl rfl rfl fun D =>
      j_gf (pc := 5) (a := 602) D rfl rfl (by decide) rfl (s0_602 H) rfl fun D =>
      j_goto (pc := 8) D rfl <|
      have D : fk_D 568 [(24, none, .ireturn, 1, 0, 0, 0)] := fq_of2 cd_568 ow_568 cl_568 rfl (pc := 24) (by decide +kernel)
      j_iret D rt_568) (fun q =>
      have D : fk_D 568 [(11, none, .iload_n 1, 1, 0, 0, 0), (12, none, .iconst 1, 1, 0, 1, 0), (13, none, .if_icmp .ne 10, 3, 23, 0, 0), (16, none, .aload_n 0, 1, 0, 0, 0), (17, none, .getfield 29, 3, 403, 129, 10), (20, none, .goto 4, 3, 24, 0, 0)] := fq_of2 cd_568 ow_568 cl_568 rfl (pc := 11) (by decide +kernel)
      j_ildn (pc := 11) D rfl rfl rfl fun D =>
      j_ic (pc := 12) D rfl fun D =>
      j_ine (pc := 13) D rfl (fun q D =>
        j_aldn (pc := 16) D rfl rfl rfl fun D =>
        j_gf (pc := 17) (a := 602) D rfl rfl (by decide) rfl (s0_602 H) rfl fun D =>
        j_goto (pc := 20) D rfl <|
        have D : fk_D 568 [(24, none, .ireturn, 1, 0, 0, 0)] := fq_of2 cd_568 ow_568 cl_568 rfl (pc := 24) (by decide +kernel)
        j_iret D rt_568) (fun q =>
        have D : fk_D 568 [(23, none, .iconst (-1), 1, 0, (-1), 0), (24, none, .ireturn, 1, 0, 0, 0)] := fq_of2 cd_568 ow_568 cl_568 rfl (pc := 23) (by decide +kernel)
        j_ic (pc := 23) D rfl fun D =>
        j_iret D rt_568))
/-! 569 StatuteHouseModel.name(II)I -/
theorem cd_569 : fi_code 569 = prog_69_method_134_code := rfl
theorem hx_569 : ∀ pc, fi_hat 569 pc = none := fun pc => by unfold fi_hat; rw [show fi_hh 569 = [] from rfl]; rfl
theorem rt_569 : fi_ret 569 = some .int := rfl
theorem nl_569 : fi_nl 569 = 6 := rfl
theorem ow_569 : fi_ow 569 = 29 := rfl
theorem cl_569 : fj_cutT.getD 569 [] = [(23, [0, 1, 2, 3, 4]), (57, [0, 1, 2, 4]), (71, [0, 1, 2, 3, 4, 5]), (105, [0, 1, 2, 4, 5])] := rfl
theorem cut_569_23 : fj_cut 569 23 = some [0, 1, 2, 3, 4] := by decide +kernel
noncomputable def c_569_23 (d : Nat) (x1 x2 x3 x4 : Int) (h : fi_H) : fk_R := gG (fj_run d) 569 23 [(0, (4, 602)), (1, (0, x1)), (2, (0, x2)), (3, (0, x3)), (4, (0, x4))] [] h
theorem cut_569_57 : fj_cut 569 57 = some [0, 1, 2, 4] := by decide +kernel
noncomputable def c_569_57 (d : Nat) (x1 x2 x4 s0 s1 : Int) (h : fi_H) : fk_R := gG (fj_run d) 569 57 [(0, (4, 602)), (1, (0, x1)), (2, (0, x2)), (4, (0, x4))] [(0, s1), (0, s0)] h
theorem cut_569_71 : fj_cut 569 71 = some [0, 1, 2, 3, 4, 5] := by decide +kernel
noncomputable def c_569_71 (d : Nat) (x1 x2 x3 x4 x5 : Int) (h : fi_H) : fk_R := gG (fj_run d) 569 71 [(0, (4, 602)), (1, (0, x1)), (2, (0, x2)), (3, (0, x3)), (4, (0, x4)), (5, (0, x5))] [] h
theorem cut_569_105 : fj_cut 569 105 = some [0, 1, 2, 4, 5] := by decide +kernel
noncomputable def c_569_105 (d : Nat) (x1 x2 x4 x5 s0 s1 : Int) (h : fi_H) : fk_R := gG (fj_run d) 569 105 [(0, (4, 602)), (1, (0, x1)), (2, (0, x2)), (4, (0, x4)), (5, (0, x5))] [(0, s1), (0, s0)] h
theorem e_569_23 (d : Nat) (x1 x2 x3 x4 : Int) {h : fi_H} (H : Shp h) : c_569_23 d x1 x2 x3 x4 h =
  if x4 < 6 then
    if 0 ≤ x1 ∧ x1 < 41 then
    if lc_ (la_ (lsr_ (h 11 608 x1.toNat) (wI (8 * x4))) 255) 0 = 0 then
      c_569_57 d x1 x2 x4 x3 0 h
    else
      c_569_57 d x1 x2 x4 x3 1 h
    else none
  else
    c_569_71 d x1 x2 x3 x3 0 h := by
  unfold c_569_23
  exact
    have D : fk_D 569 [(23, some [0, 1, 2, 3, 4], .iload 4, 2, 0, 0, 0), (25, none, .bipush 6, 2, 0, 6, 0), (27, none, .if_icmp .ge 38, 3, 65, 0, 0), (30, none, .iload_n 3, 1, 0, 0, 0), (31, none, .aload_n 0, 1, 0, 0, 0), (32, none, .getfield 33, 3, 404, 129, 12), (35, none, .iload_n 1, 1, 0, 0, 0), (36, none, .laload, 1, 0, 0, 0), (37, none, .bipush 8, 2, 0, 8, 0), (39, none, .iload 4, 2, 0, 0, 0), (41, none, .imul, 1, 0, 0, 0), (42, none, .lshr, 1, 0, 0, 0), (43, none, .ldc2_w 1074, 3, 1, 255, 0), (46, none, .land, 1, 0, 0, 0), (47, none, .lconst 0, 1, 0, 0, 0), (48, none, .lcmp, 1, 0, 0, 0), (49, none, .ifCond .eq 7, 3, 56, 0, 0), (52, none, .iconst 1, 1, 0, 1, 0), (53, none, .goto 4, 3, 57, 0, 0)] := fq_of2 cd_569 ow_569 cl_569 rfl (pc := 23) (by decide +kernel)
    j_ild (pc := 23) D rfl rfl rfl fun D =>
    j_bp (pc := 25) D rfl fun D =>
    j_ige (pc := 27) D rfl (fun q D =>
      j_ildn (pc := 30) D rfl rfl rfl fun D =>
      j_aldn (pc := 31) D rfl rfl rfl fun D =>
      j_gfc (pc := 32) (a := 602) D rfl rfl (by decide) rfl (s0_602 H) rfl (sf_404_602 H) fun D =>
      j_ildn (pc := 35) D rfl rfl rfl fun D =>
      j_al (pc := 36) (a := 608) (e := 11) D rfl rfl rfl (by decide) (s0_608 H) (s1_608 H) ⟨rfl, rfl, rfl⟩ rfl gn fun qb1 D =>
      j_bp (pc := 37) D rfl fun D =>
      j_ild (pc := 39) D rfl rfl rfl fun D =>
      j_imul (pc := 41) D rfl fun D =>
      j_lshr (pc := 42) D rfl fun D =>
      j_ldc2 (pc := 43) D rfl fun D =>
      j_land (pc := 46) D rfl fun D =>
      j_c0 (pc := 47) (v := (1, 0)) D rfl rfl (by decide +kernel) fun D =>
      j_lcmp (pc := 48) D rfl fun D =>
      j_ifeq (pc := 49) D rfl (fun q =>
        have D : fk_D 569 [(56, none, .iconst 0, 1, 0, 0, 0)] := fq_of2 cd_569 ow_569 cl_569 rfl (pc := 56) (by decide +kernel)
        j_ic (pc := 56) D rfl fun D =>
        fk_jump cut_569_57 rfl rfl) (fun q D =>
        j_ic (pc := 52) D rfl fun D =>
        j_goto (pc := 53) D rfl <|
        fk_jump cut_569_57 rfl rfl)) (fun q =>
      have D : fk_D 569 [(65, none, .iload_n 3, 1, 0, 0, 0), (66, none, .istore 4, 2, 0, 0, 0), (68, none, .iconst 0, 1, 0, 0, 0), (69, none, .istore 5, 2, 0, 0, 0)] := fq_of2 cd_569 ow_569 cl_569 rfl (pc := 65) (by decide +kernel)
      j_ildn (pc := 65) D rfl rfl rfl fun D =>
      j_ist (pc := 66) (L' := [(4, (0, x3)), (0, (4, 602)), (1, (0, x1)), (2, (0, x2)), (3, (0, x3))]) D rfl nl_569 rfl rfl fun D =>
      j_ic (pc := 68) D rfl fun D =>
      j_ist (pc := 69) (L' := [(5, (0, 0)), (4, (0, x3)), (0, (4, 602)), (1, (0, x1)), (2, (0, x2)), (3, (0, x3))]) D rfl nl_569 rfl rfl fun D =>
      fk_jump cut_569_71 rfl rfl)
theorem e_569_57 (d : Nat) (x1 x2 x4 s0 s1 : Int) {h : fi_H} (H : Shp h) : c_569_57 d x1 x2 x4 s0 s1 h =
  c_569_23 d x1 x2 (wI (s0 + s1)) (wI (x4 + 1)) h := by
  unfold c_569_57
  exact
    have D : fk_D 569 [(57, some [0, 1, 2, 4], .iadd, 1, 0, 0, 0), (58, none, .istore_n 3, 1, 0, 0, 0), (59, none, .iinc 4 1, 3, 0, 1, 0), (62, none, .goto (-39), 3, 23, 0, 0)] := fq_of2 cd_569 ow_569 cl_569 rfl (pc := 57) (by decide +kernel)
    j_iadd (pc := 57) D rfl fun D =>
    j_istn (pc := 58) (L' := [(3, (0, wI (s0 + s1))), (0, (4, 602)), (1, (0, x1)), (2, (0, x2)), (4, (0, x4))]) D rfl nl_569 rfl rfl fun D =>
    j_inc (pc := 59) (L' := [(4, (0, wI (x4 + 1))), (3, (0, wI (s0 + s1))), (0, (4, 602)), (1, (0, x1)), (2, (0, x2))]) D rfl rfl rfl (by decide +kernel) rfl fun D =>
    j_goto (pc := 62) D rfl <|
    fk_jump cut_569_23 rfl rfl
theorem e_569_71 (d : Nat) (x1 x2 x3 x4 x5 : Int) {h : fi_H} (H : Shp h) : c_569_71 d x1 x2 x3 x4 x5 h =
  if x5 < 6 then
    if 0 ≤ x1 ∧ x1 < 41 then
    if lc_ (la_ (lsr_ (h 11 609 x1.toNat) (wI (8 * x5))) 255) 0 = 0 then
      c_569_105 d x1 x2 x4 x5 x3 0 h
    else
      c_569_105 d x1 x2 x4 x5 x3 1 h
    else none
  else
    if x2 = 0 then
      if 0 ≤ x1 ∧ x1 < 41 then
      some (.inl (some (0, h 10 610 x1.toNat)), h)
      else none
    else if x2 = 1 then
      if 0 ≤ x1 ∧ x1 < 41 then
      some (.inl (some (0, h 10 611 x1.toNat)), h)
      else none
    else if x2 = 2 then
      if 0 ≤ x1 ∧ x1 < 41 then
      some (.inl (some (0, h 10 612 x1.toNat)), h)
      else none
    else if x2 = 3 then
      some (.inl (some (0, x3)), h)
    else 
      ca_ (fj_run d 508 h [(1, wI (wI (x2 - 10))), (1, 0), (1, wI (wI (x3 - 1)))]) 0
        (fun v6 h5 =>
        if v6 = 0 then
          some (.inl (some (0, (-1))), h5)
        else
          if wI (x2 - 10) < x4 then
            if 0 ≤ x1 ∧ x1 < 41 then
            some (.inl (some (0, wI (la_ (lsr_ (h5 11 608 x1.toNat) (wI (8 * (wI ((wI (x4 - 1)) - (wI (x2 - 10))))))) 255))), h5)
            else none
          else
            if 0 ≤ x1 ∧ x1 < 41 then
            some (.inl (some (0, wI (la_ (lsr_ (h5 11 609 x1.toNat) (wI (8 * (wI ((wI (x3 - 1)) - (wI (x2 - 10))))))) 255))), h5)
            else none)
        (fun q7 h5 => tx_ q7 h5) := by
  unfold c_569_71
  exact
    have D : fk_D 569 [(71, some [0, 1, 2, 3, 4, 5], .iload 5, 2, 0, 0, 0), (73, none, .bipush 6, 2, 0, 6, 0), (75, none, .if_icmp .ge 38, 3, 113, 0, 0), (78, none, .iload_n 3, 1, 0, 0, 0), (79, none, .aload_n 0, 1, 0, 0, 0), (80, none, .getfield 37, 3, 405, 129, 12), (83, none, .iload_n 1, 1, 0, 0, 0), (84, none, .laload, 1, 0, 0, 0), (85, none, .bipush 8, 2, 0, 8, 0), (87, none, .iload 5, 2, 0, 0, 0), (89, none, .imul, 1, 0, 0, 0), (90, none, .lshr, 1, 0, 0, 0), (91, none, .ldc2_w 1074, 3, 1, 255, 0), (94, none, .land, 1, 0, 0, 0), (95, none, .lconst 0, 1, 0, 0, 0), (96, none, .lcmp, 1, 0, 0, 0), (97, none, .ifCond .eq 7, 3, 104, 0, 0), (100, none, .iconst 1, 1, 0, 1, 0), (101, none, .goto 4, 3, 105, 0, 0)] := fq_of2 cd_569 ow_569 cl_569 rfl (pc := 71) (by decide +kernel)
    j_ild (pc := 71) D rfl rfl rfl fun D =>
    j_bp (pc := 73) D rfl fun D =>
    j_ige (pc := 75) D rfl (fun q D =>
      j_ildn (pc := 78) D rfl rfl rfl fun D =>
      j_aldn (pc := 79) D rfl rfl rfl fun D =>
      j_gfc (pc := 80) (a := 602) D rfl rfl (by decide) rfl (s0_602 H) rfl (sf_405_602 H) fun D =>
      j_ildn (pc := 83) D rfl rfl rfl fun D =>
      j_al (pc := 84) (a := 609) (e := 11) D rfl rfl rfl (by decide) (s0_609 H) (s1_609 H) ⟨rfl, rfl, rfl⟩ rfl gn fun qb1 D =>
      j_bp (pc := 85) D rfl fun D =>
      j_ild (pc := 87) D rfl rfl rfl fun D =>
      j_imul (pc := 89) D rfl fun D =>
      j_lshr (pc := 90) D rfl fun D =>
      j_ldc2 (pc := 91) D rfl fun D =>
      j_land (pc := 94) D rfl fun D =>
      j_c0 (pc := 95) (v := (1, 0)) D rfl rfl (by decide +kernel) fun D =>
      j_lcmp (pc := 96) D rfl fun D =>
      j_ifeq (pc := 97) D rfl (fun q =>
        have D : fk_D 569 [(104, none, .iconst 0, 1, 0, 0, 0)] := fq_of2 cd_569 ow_569 cl_569 rfl (pc := 104) (by decide +kernel)
        j_ic (pc := 104) D rfl fun D =>
        fk_jump cut_569_105 rfl rfl) (fun q D =>
        j_ic (pc := 100) D rfl fun D =>
        j_goto (pc := 101) D rfl <|
        fk_jump cut_569_105 rfl rfl)) (fun q =>
      have D : fk_D 569 [(113, none, .iload_n 2, 1, 0, 0, 0), (114, none, .tableswitch 53 0 3 #[30, 37, 44, 51], 30, 0, 0, 0)] := fq_of3 cd_569 ow_569 cl_569 rfl (pc := 113) (by decide +kernel)
      j_ildn (pc := 113) D rfl rfl rfl fun D =>
      have N : fk_ni (x2) [] := trivial
      j_tc (pc := 114) 0 (t := 144) D N rfl (by decide +kernel) (fun q =>
        have D : fk_D 569 [(144, none, .aload_n 0, 1, 0, 0, 0), (145, none, .getfield 40, 3, 406, 129, 12), (148, none, .iload_n 1, 1, 0, 0, 0), (149, none, .iaload, 1, 0, 0, 0), (150, none, .ireturn, 1, 0, 0, 0)] := fq_of2 cd_569 ow_569 cl_569 rfl (pc := 144) (by decide +kernel)
        j_aldn (pc := 144) D rfl rfl rfl fun D =>
        j_gfc (pc := 145) (a := 602) D rfl rfl (by decide) rfl (s0_602 H) rfl (sf_406_602 H) fun D =>
        j_ildn (pc := 148) D rfl rfl rfl fun D =>
        j_al (pc := 149) (a := 610) (e := 10) D rfl rfl rfl (by decide) (s0_610 H) (s1_610 H) ⟨rfl, rfl, rfl⟩ rfl gn fun qb2 D =>
        j_iret D rt_569) (fun N =>
        j_tc 1 (t := 151) D N rfl (by decide +kernel) (fun q =>
          have D : fk_D 569 [(151, none, .aload_n 0, 1, 0, 0, 0), (152, none, .getfield 43, 3, 407, 129, 12), (155, none, .iload_n 1, 1, 0, 0, 0), (156, none, .iaload, 1, 0, 0, 0), (157, none, .ireturn, 1, 0, 0, 0)] := fq_of2 cd_569 ow_569 cl_569 rfl (pc := 151) (by decide +kernel)
          j_aldn (pc := 151) D rfl rfl rfl fun D =>
          j_gfc (pc := 152) (a := 602) D rfl rfl (by decide) rfl (s0_602 H) rfl (sf_407_602 H) fun D =>
          j_ildn (pc := 155) D rfl rfl rfl fun D =>
          j_al (pc := 156) (a := 611) (e := 10) D rfl rfl rfl (by decide) (s0_611 H) (s1_611 H) ⟨rfl, rfl, rfl⟩ rfl gn fun qb3 D =>
          j_iret D rt_569) (fun N =>
          j_tc 2 (t := 158) D N rfl (by decide +kernel) (fun q =>
            have D : fk_D 569 [(158, none, .aload_n 0, 1, 0, 0, 0), (159, none, .getfield 46, 3, 408, 129, 12), (162, none, .iload_n 1, 1, 0, 0, 0), (163, none, .iaload, 1, 0, 0, 0), (164, none, .ireturn, 1, 0, 0, 0)] := fq_of2 cd_569 ow_569 cl_569 rfl (pc := 158) (by decide +kernel)
            j_aldn (pc := 158) D rfl rfl rfl fun D =>
            j_gfc (pc := 159) (a := 602) D rfl rfl (by decide) rfl (s0_602 H) rfl (sf_408_602 H) fun D =>
            j_ildn (pc := 162) D rfl rfl rfl fun D =>
            j_al (pc := 163) (a := 612) (e := 10) D rfl rfl rfl (by decide) (s0_612 H) (s1_612 H) ⟨rfl, rfl, rfl⟩ rfl gn fun qb4 D =>
            j_iret D rt_569) (fun N =>
            j_tc 3 (t := 165) D N rfl (by decide +kernel) (fun q =>
              have D : fk_D 569 [(165, none, .iload_n 3, 1, 0, 0, 0), (166, none, .ireturn, 1, 0, 0, 0)] := fq_of2 cd_569 ow_569 cl_569 rfl (pc := 165) (by decide +kernel)
              j_ildn (pc := 165) D rfl rfl rfl fun D =>
              j_iret D rt_569) (fun N =>
              j_td (t := 167) D N rfl (by decide +kernel) (by decide +kernel) <|
              have D : fk_D 569 [(167, none, .iload_n 2, 1, 0, 0, 0), (168, none, .bipush 10, 2, 0, 10, 0), (170, none, .isub, 1, 0, 0, 0), (171, none, .istore 5, 2, 0, 0, 0), (173, none, .iload 5, 2, 0, 0, 0), (175, none, .i2l, 1, 0, 0, 0), (176, none, .lconst 0, 1, 0, 0, 0), (177, none, .iload_n 3, 1, 0, 0, 0), (178, none, .iconst 1, 1, 0, 1, 0), (179, none, .isub, 1, 0, 0, 0), (180, none, .i2l, 1, 0, 0, 0), (181, none, .invokestatic 434, 3, 3, 508, 1), (184, none, .ifCond .ne 5, 3, 189, 0, 0), (187, none, .iconst (-1), 1, 0, (-1), 0), (188, none, .ireturn, 1, 0, 0, 0)] := fq_of2 cd_569 ow_569 cl_569 rfl (pc := 167) (by decide +kernel)
              j_ildn (pc := 167) D rfl rfl rfl fun D =>
              j_bp (pc := 168) D rfl fun D =>
              j_isub (pc := 170) D rfl fun D =>
              j_ist (pc := 171) (L' := [(5, (0, wI (x2 - 10))), (0, (4, 602)), (1, (0, x1)), (2, (0, x2)), (3, (0, x3)), (4, (0, x4))]) D rfl nl_569 rfl rfl fun D =>
              j_ild (pc := 173) D rfl rfl rfl fun D =>
              j_i2l (pc := 175) D rfl fun D =>
              j_c0 (pc := 176) (v := (1, 0)) D rfl rfl (by decide +kernel) fun D =>
              j_ildn (pc := 177) D rfl rfl rfl fun D =>
              j_ic (pc := 178) D rfl fun D =>
              j_isub (pc := 179) D rfl fun D =>
              j_i2l (pc := 180) D rfl fun D =>
              j_is (pc := 181) (m := 508) (a := [(1, wI (wI (x2 - 10))), (1, 0), (1, wI (wI (x3 - 1)))]) (rest := []) D rfl rfl rfl rfl (fun v6 h5 e1 D =>
                have T := fj_run_ok _ _ _ _ _ _ H.1 e1
                have H := shp_st H T
                j_ifne (pc := 184) D rfl (fun q D =>
                  j_ic (pc := 187) D rfl fun D =>
                  j_iret D rt_569) (fun q =>
                  have D : fk_D 569 [(189, none, .iload 5, 2, 0, 0, 0), (191, none, .iload 4, 2, 0, 0, 0), (193, none, .if_icmp .ge 27, 3, 220, 0, 0), (196, none, .aload_n 0, 1, 0, 0, 0), (197, none, .getfield 33, 3, 404, 129, 12), (200, none, .iload_n 1, 1, 0, 0, 0), (201, none, .laload, 1, 0, 0, 0), (202, none, .bipush 8, 2, 0, 8, 0), (204, none, .iload 4, 2, 0, 0, 0), (206, none, .iconst 1, 1, 0, 1, 0), (207, none, .isub, 1, 0, 0, 0), (208, none, .iload 5, 2, 0, 0, 0), (210, none, .isub, 1, 0, 0, 0), (211, none, .imul, 1, 0, 0, 0), (212, none, .lshr, 1, 0, 0, 0), (213, none, .ldc2_w 1074, 3, 1, 255, 0), (216, none, .land, 1, 0, 0, 0), (217, none, .goto 23, 3, 240, 0, 0)] := fq_of2 cd_569 ow_569 cl_569 rfl (pc := 189) (by decide +kernel)
                  j_ild (pc := 189) D rfl rfl rfl fun D =>
                  j_ild (pc := 191) D rfl rfl rfl fun D =>
                  j_ige (pc := 193) D rfl (fun q D =>
                    j_aldn (pc := 196) D rfl rfl rfl fun D =>
                    j_gfc (pc := 197) (a := 602) D rfl rfl (by decide) rfl (s0_602 H) rfl (sf_404_602 H) fun D =>
                    j_ildn (pc := 200) D rfl rfl rfl fun D =>
                    j_al (pc := 201) (a := 608) (e := 11) D rfl rfl rfl (by decide) (s0_608 H) (s1_608 H) ⟨rfl, rfl, rfl⟩ rfl gn fun qb8 D =>
                    j_bp (pc := 202) D rfl fun D =>
                    j_ild (pc := 204) D rfl rfl rfl fun D =>
                    j_ic (pc := 206) D rfl fun D =>
                    j_isub (pc := 207) D rfl fun D =>
                    j_ild (pc := 208) D rfl rfl rfl fun D =>
                    j_isub (pc := 210) D rfl fun D =>
                    j_imul (pc := 211) D rfl fun D =>
                    j_lshr (pc := 212) D rfl fun D =>
                    j_ldc2 (pc := 213) D rfl fun D =>
                    j_land (pc := 216) D rfl fun D =>
                    j_goto (pc := 217) D rfl <|
                    have D : fk_D 569 [(240, none, .l2i, 1, 0, 0, 0), (241, none, .ireturn, 1, 0, 0, 0)] := fq_of2 cd_569 ow_569 cl_569 rfl (pc := 240) (by decide +kernel)
                    j_l2i (pc := 240) D rfl fun D =>
                    j_iret D rt_569) (fun q =>
                    have D : fk_D 569 [(220, none, .aload_n 0, 1, 0, 0, 0), (221, none, .getfield 37, 3, 405, 129, 12), (224, none, .iload_n 1, 1, 0, 0, 0), (225, none, .laload, 1, 0, 0, 0), (226, none, .bipush 8, 2, 0, 8, 0), (228, none, .iload_n 3, 1, 0, 0, 0), (229, none, .iconst 1, 1, 0, 1, 0), (230, none, .isub, 1, 0, 0, 0), (231, none, .iload 5, 2, 0, 0, 0), (233, none, .isub, 1, 0, 0, 0), (234, none, .imul, 1, 0, 0, 0), (235, none, .lshr, 1, 0, 0, 0), (236, none, .ldc2_w 1074, 3, 1, 255, 0), (239, none, .land, 1, 0, 0, 0), (240, none, .l2i, 1, 0, 0, 0), (241, none, .ireturn, 1, 0, 0, 0)] := fq_of2 cd_569 ow_569 cl_569 rfl (pc := 220) (by decide +kernel)
                    j_aldn (pc := 220) D rfl rfl rfl fun D =>
                    j_gfc (pc := 221) (a := 602) D rfl rfl (by decide) rfl (s0_602 H) rfl (sf_405_602 H) fun D =>
                    j_ildn (pc := 224) D rfl rfl rfl fun D =>
                    j_al (pc := 225) (a := 609) (e := 11) D rfl rfl rfl (by decide) (s0_609 H) (s1_609 H) ⟨rfl, rfl, rfl⟩ rfl gn fun qb9 D =>
                    j_bp (pc := 226) D rfl fun D =>
                    j_ildn (pc := 228) D rfl rfl rfl fun D =>
                    j_ic (pc := 229) D rfl fun D =>
                    j_isub (pc := 230) D rfl fun D =>
                    j_ild (pc := 231) D rfl rfl rfl fun D =>
                    j_isub (pc := 233) D rfl fun D =>
                    j_imul (pc := 234) D rfl fun D =>
                    j_lshr (pc := 235) D rfl fun D =>
                    j_ldc2 (pc := 236) D rfl fun D =>
                    j_land (pc := 239) D rfl fun D =>
                    j_l2i (pc := 240) D rfl fun D =>
                    j_iret D rt_569))) (fun q7 h5 e1 =>
                j_tx (hx_569 _)))))))
theorem e_569_105 (d : Nat) (x1 x2 x4 x5 s0 s1 : Int) {h : fi_H} (H : Shp h) : c_569_105 d x1 x2 x4 x5 s0 s1 h =
  c_569_71 d x1 x2 (wI (s0 + s1)) x4 (wI (x5 + 1)) h := by
  unfold c_569_105
  exact
    have D : fk_D 569 [(105, some [0, 1, 2, 4, 5], .iadd, 1, 0, 0, 0), (106, none, .istore_n 3, 1, 0, 0, 0), (107, none, .iinc 5 1, 3, 0, 1, 0), (110, none, .goto (-39), 3, 71, 0, 0)] := fq_of2 cd_569 ow_569 cl_569 rfl (pc := 105) (by decide +kernel)
    j_iadd (pc := 105) D rfl fun D =>
    j_istn (pc := 106) (L' := [(3, (0, wI (s0 + s1))), (0, (4, 602)), (1, (0, x1)), (2, (0, x2)), (4, (0, x4)), (5, (0, x5))]) D rfl nl_569 rfl rfl fun D =>
    j_inc (pc := 107) (L' := [(5, (0, wI (x5 + 1))), (3, (0, wI (s0 + s1))), (0, (4, 602)), (1, (0, x1)), (2, (0, x2)), (4, (0, x4))]) D rfl rfl rfl (by decide +kernel) rfl fun D =>
    j_goto (pc := 110) D rfl <|
    fk_jump cut_569_71 rfl rfl
theorem m_569 (d : Nat) (x1 x2 : Int) {h : fi_H} (H : Shp h) : fj_run (d + 1) 569 h [(4, 602), (0, x1), (0, x2)] =
  ca_ (fj_run d 508 h [(1, wI x1), (1, 0), (1, wI (wI ((h 413 602 0) - 1)))]) 0
    (fun v2 h1 =>
    if v2 = 0 then
      some (.inl (some (0, (-1))), h1)
    else
      c_569_23 d x1 x2 0 0 h1)
    (fun q3 h1 => tx_ q3 h1) := by
  rw [fj_run_eq d (by decide) h [(4, 602), (0, x1), (0, x2)] (Nat.le_of_ble_eq_true (by rw [nl_569]; rfl))]
  show gG (fj_run d) 569 0 [(0, (4, 602)), (1, (0, x1)), (2, (0, x2))] [] h = _
  exact
    have D : fk_D 569 [(0, none, .iload_n 1, 1, 0, 0, 0), (1, none, .i2l, 1, 0, 0, 0), (2, none, .lconst 0, 1, 0, 0, 0), (3, none, .aload_n 0, 1, 0, 0, 0), (4, none, .getfield 579, 3, 413, 129, 10), (7, none, .iconst 1, 1, 0, 1, 0), (8, none, .isub, 1, 0, 0, 0), (9, none, .i2l, 1, 0, 0, 0), (10, none, .invokestatic 434, 3, 3, 508, 1), (13, none, .ifCond .ne 5, 3, 18, 0, 0), (16, none, .iconst (-1), 1, 0, (-1), 0), (17, none, .ireturn, 1, 0, 0, 0)] := fq_of2 cd_569 ow_569 cl_569 rfl (pc := 0) (by decide +kernel)
    j_ildn (pc := 0) D rfl rfl rfl fun D =>
    j_i2l (pc := 1) D rfl fun D =>
    j_c0 (pc := 2) (v := (1, 0)) D rfl rfl (by decide +kernel) fun D =>
    j_aldn (pc := 3) D rfl rfl rfl fun D =>
    j_gf (pc := 4) (a := 602) D rfl rfl (by decide) rfl (s0_602 H) rfl fun D =>
    j_ic (pc := 7) D rfl fun D =>
    j_isub (pc := 8) D rfl fun D =>
    j_i2l (pc := 9) D rfl fun D =>
    j_is (pc := 10) (m := 508) (a := [(1, wI x1), (1, 0), (1, wI (wI ((h 413 602 0) - 1)))]) (rest := []) D rfl rfl rfl rfl (fun v2 h1 e1 D =>
      have T := fj_run_ok _ _ _ _ _ _ H.1 e1
      have H := shp_st H T
      j_ifne (pc := 13) D rfl (fun q D =>
        j_ic (pc := 16) D rfl fun D =>
        j_iret D rt_569) (fun q =>
        have D : fk_D 569 [(18, none, .iconst 0, 1, 0, 0, 0), (19, none, .istore_n 3, 1, 0, 0, 0), (20, none, .iconst 0, 1, 0, 0, 0), (21, none, .istore 4, 2, 0, 0, 0)] := fq_of2 cd_569 ow_569 cl_569 rfl (pc := 18) (by decide +kernel)
        j_ic (pc := 18) D rfl fun D =>
        j_istn (pc := 19) (L' := [(3, (0, 0)), (0, (4, 602)), (1, (0, x1)), (2, (0, x2))]) D rfl nl_569 rfl rfl fun D =>
        j_ic (pc := 20) D rfl fun D =>
        j_ist (pc := 21) (L' := [(4, (0, 0)), (3, (0, 0)), (0, (4, 602)), (1, (0, x1)), (2, (0, x2))]) D rfl nl_569 rfl rfl fun D =>
        fk_jump cut_569_23 rfl rfl)) (fun q3 h1 e1 =>
      j_tx (hx_569 _))
/-! 570 StatuteHouseModel.ask(IIII)I -/
theorem cd_570 : fi_code 570 = prog_69_method_139_code := rfl
theorem rt_570 : fi_ret 570 = some .int := rfl
theorem nl_570 : fi_nl 570 = 8 := rfl
theorem ow_570 : fi_ow 570 = 29 := rfl
theorem cl_570 : fj_cutT.getD 570 [] = [(46, [0, 1, 2, 3, 4, 5, 6]), (57, [0, 5]), (95, [0])] := rfl
theorem cut_570_46 : fj_cut 570 46 = some [0, 1, 2, 3, 4, 5, 6] := by decide +kernel
noncomputable def c_570_46 (d : Nat) (x1 x2 x3 x4 x5 x6 s0 s1 : Int) (h : fi_H) : fk_R := gG (fj_run d) 570 46 [(0, (4, 602)), (1, (0, x1)), (2, (0, x2)), (3, (0, x3)), (4, (0, x4)), (5, (0, x5)), (6, (0, x6))] [(0, s1), (4, s0)] h
theorem cut_570_57 : fj_cut 570 57 = some [0, 5] := by decide +kernel
noncomputable def c_570_57 (d : Nat) (x5 s0 : Int) (h : fi_H) : fk_R := gG (fj_run d) 570 57 [(0, (4, 602)), (5, (0, x5))] [(4, s0)] h
theorem cut_570_95 : fj_cut 570 95 = some [0] := by decide +kernel
noncomputable def c_570_95 (d : Nat) (s0 : Int) (h : fi_H) : fk_R := gG (fj_run d) 570 95 [(0, (4, 602))] [(4, s0)] h
theorem e_570_46 (d : Nat) (x1 x2 x3 x4 x5 x6 s0 s1 : Int) {h : fi_H} (H : Shp h) : c_570_46 d x1 x2 x3 x4 x5 x6 s0 s1 h =
  dv_ (fi_vt 348 (h 0 s0.toNat 0)) fun m4 => cv_ (fj_run d m4 h [(4, s0), (0, s1), (0, 1), (0, h 396 602 0)])
    (fun h1 =>
    lt_ (fi_upd h1 426 602 0 x5) fun h5 =>
    cv_ (fj_run d 573 h5 [(4, 602)])
      (fun h6 =>
      cv_ (fj_run d 574 h6 [(4, 602), (0, x1), (0, x2), (0, x3), (0, x4)])
        (fun h9 =>
        cv_ (fj_run d 575 h9 [(4, 602), (0, x6)])
          (fun h12 =>
          lt_ (fi_upd h12 507 602 0 (h12 492 602 0)) fun h15 =>
          lt_ (fi_upd h15 508 602 0 (h15 493 602 0)) fun h16 =>
          if 0 ≤ x6 ∧ x6 < 9300 then
          some (.inl (some (0, h16 10 618 x6.toNat)), h16)
          else none)
          (fun q14 h12 => tc_ 130 q14 h12 (c_570_95 d (q14 : Int) h12)))
        (fun q11 h9 => tx_ q11 h9))
      (fun q8 h6 => tx_ q8 h6))
    (fun q3 h1 => tc_ 130 q3 h1 (c_570_57 d x5 (q3 : Int) h1)) := by
  unfold c_570_46
  exact
    have D : fk_D 570 [(46, some [0, 1, 2, 3, 4, 5, 6], .iconst 1, 1, 0, 1, 0), (47, none, .aload_n 0, 1, 0, 0, 0), (48, none, .getfield 507, 3, 396, 129, 10), (51, none, .invokevirtual 557, 3, 3, 348, 0), (54, none, .goto 13, 3, 67, 0, 0)] := fq_of2 cd_570 ow_570 cl_570 rfl (pc := 46) (by decide +kernel)
    j_ic (pc := 46) D rfl fun D =>
    j_aldn (pc := 47) D rfl rfl rfl fun D =>
    j_gf (pc := 48) (a := 602) D rfl rfl (by decide) rfl (s0_602 H) rfl fun D =>
    j_ivuv (pc := 51) (dd := 348) (a := [(0, s1), (0, 1), (0, h 396 602 0)]) (rest := []) H.2.1 D rfl rfl rfl rfl rfl (fun m4 h1 e1 D =>
      have T := fj_run_ok _ _ _ _ _ _ H.1 e1
      have H := shp_st H T
      j_goto (pc := 54) D rfl <|
      have D : fk_D 570 [(67, none, .aload_n 0, 1, 0, 0, 0), (68, none, .iload 5, 2, 0, 0, 0), (70, none, .putfield 670, 3, 426, 129, 10), (73, none, .aload_n 0, 1, 0, 0, 0), (74, none, .invokevirtual 1083, 3, 0, 441, 0), (77, none, .aload_n 0, 1, 0, 0, 0), (78, none, .iload_n 1, 1, 0, 0, 0), (79, none, .iload_n 2, 1, 0, 0, 0), (80, none, .iload_n 3, 1, 0, 0, 0), (81, none, .iload 4, 2, 0, 0, 0), (83, none, .invokevirtual 1086, 3, 4, 442, 0), (86, none, .aload_n 0, 1, 0, 0, 0), (87, none, .iload 6, 2, 0, 0, 0), (89, none, .invokevirtual 913, 3, 1, 412, 0), (92, none, .goto 13, 3, 105, 0, 0)] := fq_of2 cd_570 ow_570 cl_570 rfl (pc := 67) (by decide +kernel)
      j_aldn (pc := 67) D rfl rfl rfl fun D =>
      j_ild (pc := 68) D rfl rfl rfl fun D =>
      j_pf (pc := 70) (a := 602) D rfl rfl rfl (s0_602 H) rfl rfl (gy (by decide)) (gy rfl) fun h5 eh5 S D =>
      have T := fj_hs_ok H.1 S
      have H := shp_st H T
      j_aldn (pc := 73) D rfl rfl rfl fun D =>
      j_ivv (pc := 74) (m := 573) (dd := 441) (a := []) (rest := []) D rfl rfl rfl rfl rfl (by decide) (s0_602 H) (by decide +kernel) (fun h6 e1 D =>
        have T := fj_run_ok _ _ _ _ _ _ H.1 e1
        have H := shp_st H T
        j_aldn (pc := 77) D rfl rfl rfl fun D =>
        j_ildn (pc := 78) D rfl rfl rfl fun D =>
        j_ildn (pc := 79) D rfl rfl rfl fun D =>
        j_ildn (pc := 80) D rfl rfl rfl fun D =>
        j_ild (pc := 81) D rfl rfl rfl fun D =>
        j_ivv (pc := 83) (m := 574) (dd := 442) (a := [(0, x1), (0, x2), (0, x3), (0, x4)]) (rest := []) D rfl rfl rfl rfl rfl (by decide) (s0_602 H) (by decide +kernel) (fun h9 e1 D =>
          have T := fj_run_ok _ _ _ _ _ _ H.1 e1
          have H := shp_st H T
          j_aldn (pc := 86) D rfl rfl rfl fun D =>
          j_ild (pc := 87) D rfl rfl rfl fun D =>
          j_ivv (pc := 89) (m := 575) (dd := 412) (a := [(0, x6)]) (rest := []) D rfl rfl rfl rfl rfl (by decide) (s0_602 H) (by decide +kernel) (fun h12 e1 D =>
            have T := fj_run_ok _ _ _ _ _ _ H.1 e1
            have H := shp_st H T
            j_goto (pc := 92) D rfl <|
            have D : fk_D 570 [(105, none, .aload_n 0, 1, 0, 0, 0), (106, none, .aload_n 0, 1, 0, 0, 0), (107, none, .getfield 869, 3, 492, 129, 11), (110, none, .putfield 1089, 3, 507, 129, 11), (113, none, .aload_n 0, 1, 0, 0, 0), (114, none, .aload_n 0, 1, 0, 0, 0), (115, none, .getfield 872, 3, 493, 129, 11), (118, none, .putfield 1092, 3, 508, 129, 11), (121, none, .aload_n 0, 1, 0, 0, 0), (122, none, .getfield 65, 3, 419, 129, 12), (125, none, .iload 6, 2, 0, 0, 0), (127, none, .iaload, 1, 0, 0, 0), (128, none, .ireturn, 1, 0, 0, 0)] := fq_of2 cd_570 ow_570 cl_570 rfl (pc := 105) (by decide +kernel)
            j_aldn (pc := 105) D rfl rfl rfl fun D =>
            j_aldn (pc := 106) D rfl rfl rfl fun D =>
            j_gf (pc := 107) (a := 602) D rfl rfl (by decide) rfl (s0_602 H) rfl fun D =>
            j_pf (pc := 110) (a := 602) D rfl rfl rfl (s0_602 H) rfl rfl (gy (by decide)) (gy rfl) fun h15 eh15 S D =>
            have T := fj_hs_ok H.1 S
            have H := shp_st H T
            j_aldn (pc := 113) D rfl rfl rfl fun D =>
            j_aldn (pc := 114) D rfl rfl rfl fun D =>
            j_gf (pc := 115) (a := 602) D rfl rfl (by decide) rfl (s0_602 H) rfl fun D =>
            j_pf (pc := 118) (a := 602) D rfl rfl rfl (s0_602 H) rfl rfl (gy (by decide)) (gy rfl) fun h16 eh16 S D =>
            have T := fj_hs_ok H.1 S
            have H := shp_st H T
            j_aldn (pc := 121) D rfl rfl rfl fun D =>
            j_gfc (pc := 122) (a := 602) D rfl rfl (by decide) rfl (s0_602 H) rfl (sf_419_602 H) fun D =>
            j_ild (pc := 125) D rfl rfl rfl fun D =>
            j_al (pc := 127) (a := 618) (e := 10) D rfl rfl rfl (by decide) (s0_618 H) (s1_618 H) ⟨rfl, rfl, rfl⟩ rfl gn fun qb17 D =>
            j_iret D rt_570) (fun q14 h12 e1 =>
            j_tc_ (n := 130) (fk_at (cu := none) (by decide +kernel) rfl) (s := 86) (e := 92) (hp := 95) (ct := 9) (by decide +kernel) rfl (by decide +kernel) <|
            fk_jump cut_570_95 rfl rfl)) (fun q11 h9 e1 =>
          j_tx (by decide +kernel))) (fun q8 h6 e1 =>
        j_tx (by decide +kernel))) (fun m4 q3 h1 e1 =>
      j_tc_ (n := 130) (fk_at (cu := none) (by decide +kernel) rfl) (s := 25) (e := 54) (hp := 57) (ct := 9) (by decide +kernel) rfl (by decide +kernel) <|
      fk_jump cut_570_57 rfl rfl)
theorem e_570_57 (d : Nat) (x5 s0 : Int) {h : fi_H} (H : Shp h) : c_570_57 d x5 s0 h =
  lt_ (fi_upd h 426 602 0 x5) fun h1 =>
  some (.inl (some (0, (-1))), h1) := by
  unfold c_570_57
  exact
    have D : fk_D 570 [(57, some [0, 5], .astore 7, 2, 0, 0, 0), (59, none, .aload_n 0, 1, 0, 0, 0), (60, none, .iload 5, 2, 0, 0, 0), (62, none, .putfield 670, 3, 426, 129, 10), (65, none, .iconst (-1), 1, 0, (-1), 0), (66, none, .ireturn, 1, 0, 0, 0)] := fq_of2 cd_570 ow_570 cl_570 rfl (pc := 57) (by decide +kernel)
    j_ast (pc := 57) (L' := [(7, (4, s0)), (0, (4, 602)), (5, (0, x5))]) D rfl nl_570 rfl rfl fun D =>
    j_aldn (pc := 59) D rfl rfl rfl fun D =>
    j_ild (pc := 60) D rfl rfl rfl fun D =>
    j_pf (pc := 62) (a := 602) D rfl rfl rfl (s0_602 H) rfl rfl (gy (by decide)) (gy rfl) fun h1 eh1 S D =>
    have T := fj_hs_ok H.1 S
    have H := shp_st H T
    j_ic (pc := 65) D rfl fun D =>
    j_iret D rt_570
theorem e_570_95 (d : Nat) (s0 : Int) {h : fi_H} (H : Shp h) : c_570_95 d s0 h =
  some (.inl (some (0, wI ((-10) - (h 475 602 0)))), h) := by
  unfold c_570_95
  exact
    have D : fk_D 570 [(95, some [0], .astore 7, 2, 0, 0, 0), (97, none, .bipush (-10), 2, 0, (-10), 0), (99, none, .aload_n 0, 1, 0, 0, 0), (100, none, .getfield 839, 3, 475, 129, 10), (103, none, .isub, 1, 0, 0, 0), (104, none, .ireturn, 1, 0, 0, 0)] := fq_of2 cd_570 ow_570 cl_570 rfl (pc := 95) (by decide +kernel)
    j_ast (pc := 95) (L' := [(7, (4, s0)), (0, (4, 602))]) D rfl nl_570 rfl rfl fun D =>
    j_bp (pc := 97) D rfl fun D =>
    j_aldn (pc := 99) D rfl rfl rfl fun D =>
    j_gf (pc := 100) (a := 602) D rfl rfl (by decide) rfl (s0_602 H) rfl fun D =>
    j_isub (pc := 103) D rfl fun D =>
    j_iret D rt_570
theorem m_570 (d : Nat) (x1 x2 x3 x4 : Int) {h : fi_H} (H : Shp h) : fj_run (d + 1) 570 h [(4, 602), (0, x1), (0, x2), (0, x3), (0, x4)] =
  ca_ (fj_run d 571 h [(4, 602), (0, x1), (0, x2), (0, x3), (0, x4)]) 0
    (fun v2 h1 =>
    if v2 = 0 then
      some (.inl (some (0, (-2))), h1)
    else
      cv_ (fj_run d 486 h1 [(4, 602)])
        (fun h4 =>
        ca_ (fj_run d 535 h4 [(4, 602)]) 0
          (fun v8 h7 =>
          if h7 394 602 0 = 7 then
            c_570_46 d x1 x2 x3 x4 (h4 426 602 0) v8 602 1 h7
          else
            c_570_46 d x1 x2 x3 x4 (h4 426 602 0) v8 602 0 h7)
          (fun q9 h7 => tc_ 130 q9 h7 (c_570_57 d (h4 426 602 0) (q9 : Int) h7)))
        (fun q6 h4 => tx_ q6 h4))
    (fun q3 h1 => tx_ q3 h1) := by
  rw [fj_run_eq d (by decide) h [(4, 602), (0, x1), (0, x2), (0, x3), (0, x4)] (Nat.le_of_ble_eq_true (by rw [nl_570]; rfl))]
  show gG (fj_run d) 570 0 [(0, (4, 602)), (1, (0, x1)), (2, (0, x2)), (3, (0, x3)), (4, (0, x4))] [] h = _
  exact
    have D : fk_D 570 [(0, none, .aload_n 0, 1, 0, 0, 0), (1, none, .iload_n 1, 1, 0, 0, 0), (2, none, .iload_n 2, 1, 0, 0, 0), (3, none, .iload_n 3, 1, 0, 0, 0), (4, none, .iload 4, 2, 0, 0, 0), (6, none, .invokevirtual 1079, 3, 4, 440, 1), (9, none, .ifCond .ne 6, 3, 15, 0, 0), (12, none, .bipush (-2), 2, 0, (-2), 0), (14, none, .ireturn, 1, 0, 0, 0)] := fq_of2 cd_570 ow_570 cl_570 rfl (pc := 0) (by decide +kernel)
    j_aldn (pc := 0) D rfl rfl rfl fun D =>
    j_ildn (pc := 1) D rfl rfl rfl fun D =>
    j_ildn (pc := 2) D rfl rfl rfl fun D =>
    j_ildn (pc := 3) D rfl rfl rfl fun D =>
    j_ild (pc := 4) D rfl rfl rfl fun D =>
    j_iv (pc := 6) (m := 571) (dd := 440) (a := [(0, x1), (0, x2), (0, x3), (0, x4)]) (rest := []) D rfl rfl rfl rfl rfl (by decide) (s0_602 H) (by decide +kernel) (fun v2 h1 e1 D =>
      have T := fj_run_ok _ _ _ _ _ _ H.1 e1
      have H := shp_st H T
      j_ifne (pc := 9) D rfl (fun q D =>
        j_bp (pc := 12) D rfl fun D =>
        j_iret D rt_570) (fun q =>
        have D : fk_D 570 [(15, none, .aload_n 0, 1, 0, 0, 0), (16, none, .invokevirtual 649, 3, 0, 363, 0), (19, none, .aload_n 0, 1, 0, 0, 0), (20, none, .getfield 670, 3, 426, 129, 10), (23, none, .istore 5, 2, 0, 0, 0), (25, none, .aload_n 0, 1, 0, 0, 0), (26, none, .invokevirtual 731, 3, 0, 383, 1), (29, none, .istore 6, 2, 0, 0, 0), (31, none, .aload_n 0, 1, 0, 0, 0), (32, none, .aload_n 0, 1, 0, 0, 0), (33, none, .getfield 513, 3, 394, 129, 10), (36, none, .bipush 7, 2, 0, 7, 0), (38, none, .if_icmp .ne 7, 3, 45, 0, 0), (41, none, .iconst 1, 1, 0, 1, 0), (42, none, .goto 4, 3, 46, 0, 0)] := fq_of2 cd_570 ow_570 cl_570 rfl (pc := 15) (by decide +kernel)
        j_aldn (pc := 15) D rfl rfl rfl fun D =>
        j_ivv (pc := 16) (m := 486) (dd := 363) (a := []) (rest := []) D rfl rfl rfl rfl rfl (by decide) (s0_602 H) (by decide +kernel) (fun h4 e1 D =>
          have T := fj_run_ok _ _ _ _ _ _ H.1 e1
          have H := shp_st H T
          j_aldn (pc := 19) D rfl rfl rfl fun D =>
          j_gf (pc := 20) (a := 602) D rfl rfl (by decide) rfl (s0_602 H) rfl fun D =>
          j_ist (pc := 23) (L' := [(5, (0, h4 426 602 0)), (0, (4, 602)), (1, (0, x1)), (2, (0, x2)), (3, (0, x3)), (4, (0, x4))]) D rfl nl_570 rfl rfl fun D =>
          j_aldn (pc := 25) D rfl rfl rfl fun D =>
          j_iv (pc := 26) (m := 535) (dd := 383) (a := []) (rest := []) D rfl rfl rfl rfl rfl (by decide) (s0_602 H) (by decide +kernel) (fun v8 h7 e1 D =>
            have T := fj_run_ok _ _ _ _ _ _ H.1 e1
            have H := shp_st H T
            j_ist (pc := 29) (L' := [(6, (0, v8)), (5, (0, h4 426 602 0)), (0, (4, 602)), (1, (0, x1)), (2, (0, x2)), (3, (0, x3)), (4, (0, x4))]) D rfl nl_570 rfl rfl fun D =>
            j_aldn (pc := 31) D rfl rfl rfl fun D =>
            j_aldn (pc := 32) D rfl rfl rfl fun D =>
            j_gf (pc := 33) (a := 602) D rfl rfl (by decide) rfl (s0_602 H) rfl fun D =>
            j_bp (pc := 36) D rfl fun D =>
            j_ine (pc := 38) D rfl (fun q D =>
              j_ic (pc := 41) D rfl fun D =>
              j_goto (pc := 42) D rfl <|
              fk_jump cut_570_46 rfl rfl) (fun q =>
              have D : fk_D 570 [(45, none, .iconst 0, 1, 0, 0, 0)] := fq_of2 cd_570 ow_570 cl_570 rfl (pc := 45) (by decide +kernel)
              j_ic (pc := 45) D rfl fun D =>
              fk_jump cut_570_46 rfl rfl)) (fun q9 h7 e1 =>
            j_tc_ (n := 130) (fk_at (cu := none) (by decide +kernel) rfl) (s := 25) (e := 54) (hp := 57) (ct := 9) (by decide +kernel) rfl (by decide +kernel) <|
            fk_jump cut_570_57 rfl rfl)) (fun q6 h4 e1 =>
          j_tx (by decide +kernel)))) (fun q3 h1 e1 =>
      j_tx (by decide +kernel))
/-! 571 StatuteHouseModel.canAsk(IIII)Z -/
theorem cd_571 : fi_code 571 = prog_69_method_136_code := rfl
theorem hx_571 : ∀ pc, fi_hat 571 pc = none := fun pc => by unfold fi_hat; rw [show fi_hh 571 = [] from rfl]; rfl
theorem rt_571 : fi_ret 571 = some .boolean := rfl
theorem nl_571 : fi_nl 571 = 5 := rfl
theorem ow_571 : fi_ow 571 = 29 := rfl
theorem cl_571 : fj_cutT.getD 571 [] = [] := rfl
theorem m_571 (d : Nat) (x1 x2 x3 x4 : Int) {h : fi_H} (H : Shp h) : fj_run (d + 1) 571 h [(4, 602), (0, x1), (0, x2), (0, x3), (0, x4)] =
  ca_ (fj_run d 525 h [(4, 602), (0, x1)]) 0
    (fun v2 h1 =>
    if v2 = 0 then
      some (.inl (some (0, 0)), h1)
    else
      ca_ (fj_run d 572 h1 [(4, 602), (0, x2)]) 0
        (fun v5 h4 =>
        if v5 = 0 then
          some (.inl (some (0, 0)), h4)
        else
          ca_ (fj_run d 520 h4 [(1, wI x3)]) 0
            (fun v8 h7 =>
            if v8 = 0 then
              some (.inl (some (0, 0)), h7)
            else
              ca_ (fj_run d 520 h7 [(1, wI x4)]) 0
                (fun v11 h10 =>
                if v11 = 0 then
                  some (.inl (some (0, 0)), h10)
                else
                  some (.inl (some (0, 1)), h10))
                (fun q12 h10 => tx_ q12 h10))
            (fun q9 h7 => tx_ q9 h7))
        (fun q6 h4 => tx_ q6 h4))
    (fun q3 h1 => tx_ q3 h1) := by
  rw [fj_run_eq d (by decide) h [(4, 602), (0, x1), (0, x2), (0, x3), (0, x4)] (Nat.le_of_ble_eq_true (by rw [nl_571]; rfl))]
  show gG (fj_run d) 571 0 [(0, (4, 602)), (1, (0, x1)), (2, (0, x2)), (3, (0, x3)), (4, (0, x4))] [] h = _
  exact
    have D : fk_D 571 [(0, none, .aload_n 0, 1, 0, 0, 0), (1, none, .iload_n 1, 1, 0, 0, 0), (2, none, .invokevirtual 823, 3, 1, 399, 1), (5, none, .ifCond .eq 32, 3, 37, 0, 0), (8, none, .aload_n 0, 1, 0, 0, 0), (9, none, .iload_n 2, 1, 0, 0, 0), (10, none, .invokevirtual 1076, 3, 1, 439, 1), (13, none, .ifCond .eq 24, 3, 37, 0, 0), (16, none, .iload_n 3, 1, 0, 0, 0), (17, none, .i2l, 1, 0, 0, 0), (18, none, .invokestatic 456, 3, 1, 520, 1), (21, none, .ifCond .eq 16, 3, 37, 0, 0), (24, none, .iload 4, 2, 0, 0, 0), (26, none, .i2l, 1, 0, 0, 0), (27, none, .invokestatic 456, 3, 1, 520, 1), (30, none, .ifCond .eq 7, 3, 37, 0, 0), (33, none, .iconst 1, 1, 0, 1, 0), (34, none, .goto 4, 3, 38, 0, 0)] := fq_of2 cd_571 ow_571 cl_571 rfl (pc := 0) (by decide +kernel)
    j_aldn (pc := 0) D rfl rfl rfl fun D =>
    j_ildn (pc := 1) D rfl rfl rfl fun D =>
    j_iv (pc := 2) (m := 525) (dd := 399) (a := [(0, x1)]) (rest := []) D rfl rfl rfl rfl rfl (by decide) (s0_602 H) (by decide +kernel) (fun v2 h1 e1 D =>
      have T := fj_run_ok _ _ _ _ _ _ H.1 e1
      have H := shp_st H T
      j_ifeq (pc := 5) D rfl (fun q =>
        have D : fk_D 571 [(37, none, .iconst 0, 1, 0, 0, 0), (38, none, .ireturn, 1, 0, 0, 0)] := fq_of2 cd_571 ow_571 cl_571 rfl (pc := 37) (by decide +kernel)
        j_ic (pc := 37) D rfl fun D =>
        j_zret D rt_571 (gy (by decide))) (fun q D =>
        j_aldn (pc := 8) D rfl rfl rfl fun D =>
        j_ildn (pc := 9) D rfl rfl rfl fun D =>
        j_iv (pc := 10) (m := 572) (dd := 439) (a := [(0, x2)]) (rest := []) D rfl rfl rfl rfl rfl (by decide) (s0_602 H) (by decide +kernel) (fun v5 h4 e1 D =>
          have T := fj_run_ok _ _ _ _ _ _ H.1 e1
          have H := shp_st H T
          j_ifeq (pc := 13) D rfl (fun q =>
            have D : fk_D 571 [(37, none, .iconst 0, 1, 0, 0, 0), (38, none, .ireturn, 1, 0, 0, 0)] := fq_of2 cd_571 ow_571 cl_571 rfl (pc := 37) (by decide +kernel)
            j_ic (pc := 37) D rfl fun D =>
            j_zret D rt_571 (gy (by decide))) (fun q D =>
            j_ildn (pc := 16) D rfl rfl rfl fun D =>
            j_i2l (pc := 17) D rfl fun D =>
            j_is (pc := 18) (m := 520) (a := [(1, wI x3)]) (rest := []) D rfl rfl rfl rfl (fun v8 h7 e1 D =>
              have T := fj_run_ok _ _ _ _ _ _ H.1 e1
              have H := shp_st H T
              j_ifeq (pc := 21) D rfl (fun q =>
                have D : fk_D 571 [(37, none, .iconst 0, 1, 0, 0, 0), (38, none, .ireturn, 1, 0, 0, 0)] := fq_of2 cd_571 ow_571 cl_571 rfl (pc := 37) (by decide +kernel)
                j_ic (pc := 37) D rfl fun D =>
                j_zret D rt_571 (gy (by decide))) (fun q D =>
                j_ild (pc := 24) D rfl rfl rfl fun D =>
                j_i2l (pc := 26) D rfl fun D =>
                j_is (pc := 27) (m := 520) (a := [(1, wI x4)]) (rest := []) D rfl rfl rfl rfl (fun v11 h10 e1 D =>
                  have T := fj_run_ok _ _ _ _ _ _ H.1 e1
                  have H := shp_st H T
                  j_ifeq (pc := 30) D rfl (fun q =>
                    have D : fk_D 571 [(37, none, .iconst 0, 1, 0, 0, 0), (38, none, .ireturn, 1, 0, 0, 0)] := fq_of2 cd_571 ow_571 cl_571 rfl (pc := 37) (by decide +kernel)
                    j_ic (pc := 37) D rfl fun D =>
                    j_zret D rt_571 (gy (by decide))) (fun q D =>
                    j_ic (pc := 33) D rfl fun D =>
                    j_goto (pc := 34) D rfl <|
                    have D : fk_D 571 [(38, none, .ireturn, 1, 0, 0, 0)] := fq_of2 cd_571 ow_571 cl_571 rfl (pc := 38) (by decide +kernel)
                    j_zret D rt_571 (gy (by decide)))) (fun q12 h10 e1 =>
                  j_tx (hx_571 _)))) (fun q9 h7 e1 =>
              j_tx (hx_571 _)))) (fun q6 h4 e1 =>
          j_tx (hx_571 _)))) (fun q3 h1 e1 =>
      j_tx (hx_571 _))
/-! 572 StatuteHouseModel.isPerson(I)Z -/
theorem cd_572 : fi_code 572 = prog_69_method_135_code := rfl
theorem hx_572 : ∀ pc, fi_hat 572 pc = none := fun pc => by unfold fi_hat; rw [show fi_hh 572 = [] from rfl]; rfl
theorem rt_572 : fi_ret 572 = some .boolean := rfl
theorem nl_572 : fi_nl 572 = 2 := rfl
theorem ow_572 : fi_ow 572 = 29 := rfl
theorem cl_572 : fj_cutT.getD 572 [] = [] := rfl
theorem m_572 (d : Nat) (x1 : Int) {h : fi_H} (H : Shp h) : fj_run (d + 1) 572 h [(4, 602), (0, x1)] =
  ca_ (fj_run d 508 h [(1, wI x1), (1, 0), (1, wI (wI ((h 459 602 0) - 1)))]) 0
    (fun v2 h1 =>
    if v2 = 0 ∨ v2 = 1 then some (.inl (some (0, v2)), h1) else none)
    (fun q3 h1 => tx_ q3 h1) := by
  rw [fj_run_eq d (by decide) h [(4, 602), (0, x1)] (Nat.le_of_ble_eq_true (by rw [nl_572]; rfl))]
  show gG (fj_run d) 572 0 [(0, (4, 602)), (1, (0, x1))] [] h = _
  exact
    have D : fk_D 572 [(0, none, .iload_n 1, 1, 0, 0, 0), (1, none, .i2l, 1, 0, 0, 0), (2, none, .lconst 0, 1, 0, 0, 0), (3, none, .aload_n 0, 1, 0, 0, 0), (4, none, .getfield 169, 3, 459, 129, 10), (7, none, .iconst 1, 1, 0, 1, 0), (8, none, .isub, 1, 0, 0, 0), (9, none, .i2l, 1, 0, 0, 0), (10, none, .invokestatic 434, 3, 3, 508, 1), (13, none, .ireturn, 1, 0, 0, 0)] := fq_of2 cd_572 ow_572 cl_572 rfl (pc := 0) (by decide +kernel)
    j_ildn (pc := 0) D rfl rfl rfl fun D =>
    j_i2l (pc := 1) D rfl fun D =>
    j_c0 (pc := 2) (v := (1, 0)) D rfl rfl (by decide +kernel) fun D =>
    j_aldn (pc := 3) D rfl rfl rfl fun D =>
    j_gf (pc := 4) (a := 602) D rfl rfl (by decide) rfl (s0_602 H) rfl fun D =>
    j_ic (pc := 7) D rfl fun D =>
    j_isub (pc := 8) D rfl fun D =>
    j_i2l (pc := 9) D rfl fun D =>
    j_is (pc := 10) (m := 508) (a := [(1, wI x1), (1, 0), (1, wI (wI ((h 459 602 0) - 1)))]) (rest := []) D rfl rfl rfl rfl (fun v2 h1 e1 D =>
      have T := fj_run_ok _ _ _ _ _ _ H.1 e1
      have H := shp_st H T
      j_zret D rt_572 gn) (fun q3 h1 e1 =>
      j_tx (hx_572 _))
/-! 573 StatuteHouseModel.told()V -/
theorem cd_573 : fi_code 573 = prog_69_method_138_code := rfl
theorem hx_573 : ∀ pc, fi_hat 573 pc = none := fun pc => by unfold fi_hat; rw [show fi_hh 573 = [] from rfl]; rfl
theorem rt_573 : fi_ret 573 = none := rfl
theorem nl_573 : fi_nl 573 = 1 := rfl
theorem ow_573 : fi_ow 573 = 29 := rfl
theorem cl_573 : fj_cutT.getD 573 [] = [] := rfl
theorem m_573 (d : Nat) {h : fi_H} (H : Shp h) : fj_run (d + 1) 573 h [(4, 602)] =
  lt_ (fi_upd h 494 602 0 1) fun h1 =>
  lt_ (fi_upd h1 495 602 0 0) fun h2 =>
  lt_ (fi_upd h2 481 602 0 0) fun h3 =>
  lt_ (fi_upd h3 474 602 0 1) fun h4 =>
  some (.inl none, h4) := by
  rw [fj_run_eq d (by decide) h [(4, 602)] (Nat.le_of_ble_eq_true (by rw [nl_573]; rfl))]
  show gG (fj_run d) 573 0 [(0, (4, 602))] [] h = _
  exact
    have D : fk_D 573 [(0, none, .aload_n 0, 1, 0, 0, 0), (1, none, .iconst 1, 1, 0, 1, 0), (2, none, .putfield 857, 3, 494, 129, 4), (5, none, .aload_n 0, 1, 0, 0, 0), (6, none, .iconst 0, 1, 0, 0, 0), (7, none, .putfield 860, 3, 495, 129, 10), (10, none, .aload_n 0, 1, 0, 0, 0), (11, none, .iconst 0, 1, 0, 0, 0), (12, none, .putfield 851, 3, 481, 129, 10), (15, none, .aload_n 0, 1, 0, 0, 0), (16, none, .iconst 1, 1, 0, 1, 0), (17, none, .putfield 208, 3, 474, 129, 4), (20, none, .return_, 1, 0, 0, 0)] := fq_of2 cd_573 ow_573 cl_573 rfl (pc := 0) (by decide +kernel)
    j_aldn (pc := 0) D rfl rfl rfl fun D =>
    j_ic (pc := 1) D rfl fun D =>
    j_pf (pc := 2) (a := 602) D rfl rfl rfl (s0_602 H) rfl rfl (gy (by decide)) (gy (by decide)) fun h1 eh1 S D =>
    have T := fj_hs_ok H.1 S
    have H := shp_st H T
    j_aldn (pc := 5) D rfl rfl rfl fun D =>
    j_ic (pc := 6) D rfl fun D =>
    j_pf (pc := 7) (a := 602) D rfl rfl rfl (s0_602 H) rfl rfl (gy (by decide)) (gy rfl) fun h2 eh2 S D =>
    have T := fj_hs_ok H.1 S
    have H := shp_st H T
    j_aldn (pc := 10) D rfl rfl rfl fun D =>
    j_ic (pc := 11) D rfl fun D =>
    j_pf (pc := 12) (a := 602) D rfl rfl rfl (s0_602 H) rfl rfl (gy (by decide)) (gy rfl) fun h3 eh3 S D =>
    have T := fj_hs_ok H.1 S
    have H := shp_st H T
    j_aldn (pc := 15) D rfl rfl rfl fun D =>
    j_ic (pc := 16) D rfl fun D =>
    j_pf (pc := 17) (a := 602) D rfl rfl rfl (s0_602 H) rfl rfl (gy (by decide)) (gy (by decide)) fun h4 eh4 S D =>
    have T := fj_hs_ok H.1 S
    have H := shp_st H T
    j_vret D rt_573
/-! 574 StatuteHouseModel.sets(IIII)V -/
theorem cd_574 : fi_code 574 = prog_69_method_137_code := rfl
theorem hx_574 : ∀ pc, fi_hat 574 pc = none := fun pc => by unfold fi_hat; rw [show fi_hh 574 = [] from rfl]; rfl
theorem rt_574 : fi_ret 574 = none := rfl
theorem nl_574 : fi_nl 574 = 5 := rfl
theorem ow_574 : fi_ow 574 = 29 := rfl
theorem cl_574 : fj_cutT.getD 574 [] = [] := rfl
theorem m_574 (d : Nat) (x1 x2 x3 x4 : Int) {h : fi_H} (H : Shp h) : fj_run (d + 1) 574 h [(4, 602), (0, x1), (0, x2), (0, x3), (0, x4)] =
  lt_ (fi_upd h 482 602 0 x1) fun h1 =>
  lt_ (fi_upd h1 483 602 0 x4) fun h2 =>
  lt_ (fi_upd h2 484 602 0 x2) fun h3 =>
  lt_ (fi_upd h3 485 602 0 x3) fun h4 =>
  lt_ (fi_upd h4 486 602 0 0) fun h5 =>
  lt_ (fi_upd h5 487 602 0 (-1)) fun h6 =>
  lt_ (fi_upd h6 488 602 0 0) fun h7 =>
  some (.inl none, h7) := by
  rw [fj_run_eq d (by decide) h [(4, 602), (0, x1), (0, x2), (0, x3), (0, x4)] (Nat.le_of_ble_eq_true (by rw [nl_574]; rfl))]
  show gG (fj_run d) 574 0 [(0, (4, 602)), (1, (0, x1)), (2, (0, x2)), (3, (0, x3)), (4, (0, x4))] [] h = _
  exact
    have D : fk_D 574 [(0, none, .aload_n 0, 1, 0, 0, 0), (1, none, .iload_n 1, 1, 0, 0, 0), (2, none, .putfield 893, 3, 482, 129, 10), (5, none, .aload_n 0, 1, 0, 0, 0), (6, none, .iload 4, 2, 0, 0, 0), (8, none, .putfield 881, 3, 483, 129, 10), (11, none, .aload_n 0, 1, 0, 0, 0), (12, none, .iload_n 2, 1, 0, 0, 0), (13, none, .putfield 863, 3, 484, 129, 10), (16, none, .aload_n 0, 1, 0, 0, 0), (17, none, .iload_n 3, 1, 0, 0, 0), (18, none, .putfield 866, 3, 485, 129, 10), (21, none, .aload_n 0, 1, 0, 0, 0), (22, none, .iconst 0, 1, 0, 0, 0), (23, none, .putfield 842, 3, 486, 129, 10), (26, none, .aload_n 0, 1, 0, 0, 0), (27, none, .iconst (-1), 1, 0, (-1), 0), (28, none, .putfield 224, 3, 487, 129, 10), (31, none, .aload_n 0, 1, 0, 0, 0), (32, none, .iconst 0, 1, 0, 0, 0)] := fq_of2 cd_574 ow_574 cl_574 rfl (pc := 0) (by decide +kernel)
    j_aldn (pc := 0) D rfl rfl rfl fun D =>
    j_ildn (pc := 1) D rfl rfl rfl fun D =>
    j_pf (pc := 2) (a := 602) D rfl rfl rfl (s0_602 H) rfl rfl (gy (by decide)) (gy rfl) fun h1 eh1 S D =>
    have T := fj_hs_ok H.1 S
    have H := shp_st H T
    j_aldn (pc := 5) D rfl rfl rfl fun D =>
    j_ild (pc := 6) D rfl rfl rfl fun D =>
    j_pf (pc := 8) (a := 602) D rfl rfl rfl (s0_602 H) rfl rfl (gy (by decide)) (gy rfl) fun h2 eh2 S D =>
    have T := fj_hs_ok H.1 S
    have H := shp_st H T
    j_aldn (pc := 11) D rfl rfl rfl fun D =>
    j_ildn (pc := 12) D rfl rfl rfl fun D =>
    j_pf (pc := 13) (a := 602) D rfl rfl rfl (s0_602 H) rfl rfl (gy (by decide)) (gy rfl) fun h3 eh3 S D =>
    have T := fj_hs_ok H.1 S
    have H := shp_st H T
    j_aldn (pc := 16) D rfl rfl rfl fun D =>
    j_ildn (pc := 17) D rfl rfl rfl fun D =>
    j_pf (pc := 18) (a := 602) D rfl rfl rfl (s0_602 H) rfl rfl (gy (by decide)) (gy rfl) fun h4 eh4 S D =>
    have T := fj_hs_ok H.1 S
    have H := shp_st H T
    j_aldn (pc := 21) D rfl rfl rfl fun D =>
    j_ic (pc := 22) D rfl fun D =>
    j_pf (pc := 23) (a := 602) D rfl rfl rfl (s0_602 H) rfl rfl (gy (by decide)) (gy rfl) fun h5 eh5 S D =>
    have T := fj_hs_ok H.1 S
    have H := shp_st H T
    j_aldn (pc := 26) D rfl rfl rfl fun D =>
    j_ic (pc := 27) D rfl fun D =>
    j_pf (pc := 28) (a := 602) D rfl rfl rfl (s0_602 H) rfl rfl (gy (by decide)) (gy rfl) fun h6 eh6 S D =>
    have T := fj_hs_ok H.1 S
    have H := shp_st H T
    j_aldn (pc := 31) D rfl rfl rfl fun D =>
    j_ic (pc := 32) D rfl fun D =>
    have D : fk_D 574 [(33, none, .putfield 845, 3, 488, 129, 10), (36, none, .return_, 1, 0, 0, 0)] := fq_of2 cd_574 ow_574 cl_574 rfl (pc := 33) (by decide +kernel)
    j_pf (pc := 33) (a := 602) D rfl rfl rfl (s0_602 H) rfl rfl (gy (by decide)) (gy rfl) fun h7 eh7 S D =>
    have T := fj_hs_ok H.1 S
    have H := shp_st H T
    j_vret D rt_574
/-! 575 StatuteHouseModel.work(I)V -/
theorem cd_575 : fi_code 575 = prog_69_method_115_code := rfl
theorem hx_575 : ∀ pc, fi_hat 575 pc = none := fun pc => by unfold fi_hat; rw [show fi_hh 575 = [] from rfl]; rfl
theorem rt_575 : fi_ret 575 = none := rfl
theorem nl_575 : fi_nl 575 = 4 := rfl
theorem ow_575 : fi_ow 575 = 29 := rfl
theorem cl_575 : fj_cutT.getD 575 [] = [(160, [0, 1, 2]), (184, [0, 1]), (201, [0, 1]), (226, []), (232, [0, 1]), (255, [0, 1]), (297, [0, 1]), (339, [0, 1]), (362, [0]), (374, [0]), (391, [0]), (404, [0, 1]), (448, [0, 1]), (470, [0, 1]), (478, [0, 1, 2]), (487, [0, 1, 2])] := rfl
theorem cut_575_160 : fj_cut 575 160 = some [0, 1, 2] := by decide +kernel
noncomputable def c_575_160 (d : Nat) (x1 x2 : Int) (h : fi_H) : fk_R := gG (fj_run d) 575 160 [(0, (4, 602)), (1, (0, x1)), (2, (0, x2))] [] h
theorem cut_575_184 : fj_cut 575 184 = some [0, 1] := by decide +kernel
noncomputable def c_575_184 (d : Nat) (x1 s0 s1 : Int) (h : fi_H) : fk_R := gG (fj_run d) 575 184 [(0, (4, 602)), (1, (0, x1))] [(1, s1), (1, s0)] h
theorem cut_575_201 : fj_cut 575 201 = some [0, 1] := by decide +kernel
noncomputable def c_575_201 (d : Nat) (x1 : Int) (h : fi_H) : fk_R := gG (fj_run d) 575 201 [(0, (4, 602)), (1, (0, x1))] [] h
theorem cut_575_226 : fj_cut 575 226 = some [] := by decide +kernel
noncomputable def c_575_226 (d : Nat) (s0 s1 : Int) (h : fi_H) : fk_R := gG (fj_run d) 575 226 [] [(0, s1), (4, s0)] h
theorem cut_575_232 : fj_cut 575 232 = some [0, 1] := by decide +kernel
noncomputable def c_575_232 (d : Nat) (x1 : Int) (h : fi_H) : fk_R := gG (fj_run d) 575 232 [(0, (4, 602)), (1, (0, x1))] [] h
theorem cut_575_255 : fj_cut 575 255 = some [0, 1] := by decide +kernel
noncomputable def c_575_255 (d : Nat) (x1 : Int) (h : fi_H) : fk_R := gG (fj_run d) 575 255 [(0, (4, 602)), (1, (0, x1))] [] h
theorem cut_575_297 : fj_cut 575 297 = some [0, 1] := by decide +kernel
noncomputable def c_575_297 (d : Nat) (x1 : Int) (h : fi_H) : fk_R := gG (fj_run d) 575 297 [(0, (4, 602)), (1, (0, x1))] [] h
theorem cut_575_339 : fj_cut 575 339 = some [0, 1] := by decide +kernel
noncomputable def c_575_339 (d : Nat) (x1 : Int) (h : fi_H) : fk_R := gG (fj_run d) 575 339 [(0, (4, 602)), (1, (0, x1))] [] h
theorem cut_575_362 : fj_cut 575 362 = some [0] := by decide +kernel
noncomputable def c_575_362 (d : Nat) (h : fi_H) : fk_R := gG (fj_run d) 575 362 [(0, (4, 602))] [] h
theorem cut_575_374 : fj_cut 575 374 = some [0] := by decide +kernel
noncomputable def c_575_374 (d : Nat) (h : fi_H) : fk_R := gG (fj_run d) 575 374 [(0, (4, 602))] [] h
theorem cut_575_391 : fj_cut 575 391 = some [0] := by decide +kernel
noncomputable def c_575_391 (d : Nat) (h : fi_H) : fk_R := gG (fj_run d) 575 391 [(0, (4, 602))] [] h
theorem cut_575_404 : fj_cut 575 404 = some [0, 1] := by decide +kernel
noncomputable def c_575_404 (d : Nat) (x1 : Int) (h : fi_H) : fk_R := gG (fj_run d) 575 404 [(0, (4, 602)), (1, (0, x1))] [] h
theorem cut_575_448 : fj_cut 575 448 = some [0, 1] := by decide +kernel
noncomputable def c_575_448 (d : Nat) (x1 : Int) (h : fi_H) : fk_R := gG (fj_run d) 575 448 [(0, (4, 602)), (1, (0, x1))] [] h
theorem cut_575_470 : fj_cut 575 470 = some [0, 1] := by decide +kernel
noncomputable def c_575_470 (d : Nat) (x1 : Int) (h : fi_H) : fk_R := gG (fj_run d) 575 470 [(0, (4, 602)), (1, (0, x1))] [] h
theorem cut_575_478 : fj_cut 575 478 = some [0, 1, 2] := by decide +kernel
noncomputable def c_575_478 (d : Nat) (x1 x2 : Int) (h : fi_H) : fk_R := gG (fj_run d) 575 478 [(0, (4, 602)), (1, (0, x1)), (2, (0, x2))] [] h
theorem cut_575_487 : fj_cut 575 487 = some [0, 1, 2] := by decide +kernel
noncomputable def c_575_487 (d : Nat) (x1 x2 : Int) (h : fi_H) : fk_R := gG (fj_run d) 575 487 [(0, (4, 602)), (1, (0, x1)), (2, (0, x2))] [] h
theorem e_575_160 (d : Nat) (x1 x2 : Int) {h : fi_H} (H : Shp h) : c_575_160 d x1 x2 h =
  if 0 ≤ x1 ∧ x1 < 9300 then
  cv_ (fj_run d 575 h [(4, 602), (0, h 10 619 x1.toNat)])
    (fun h2 =>
    if x2 = 1 then
      c_575_184 d x1 (h2 492 602 0) 0 h2
    else
      c_575_184 d x1 (h2 492 602 0) 1 h2)
    (fun q4 h2 => tx_ q4 h2)
  else none := by
  unfold c_575_160
  exact
    have D : fk_D 575 [(160, some [0, 1, 2], .aload_n 0, 1, 0, 0, 0), (161, none, .aload_n 0, 1, 0, 0, 0), (162, none, .getfield 68, 3, 420, 129, 12), (165, none, .iload_n 1, 1, 0, 0, 0), (166, none, .iaload, 1, 0, 0, 0), (167, none, .invokevirtual 913, 3, 1, 412, 0), (170, none, .aload_n 0, 1, 0, 0, 0), (171, none, .getfield 869, 3, 492, 129, 11), (174, none, .iload_n 2, 1, 0, 0, 0), (175, none, .iconst 1, 1, 0, 1, 0), (176, none, .if_icmp .ne 7, 3, 183, 0, 0), (179, none, .lconst 0, 1, 0, 0, 0), (180, none, .goto 4, 3, 184, 0, 0)] := fq_of2 cd_575 ow_575 cl_575 rfl (pc := 160) (by decide +kernel)
    j_aldn (pc := 160) D rfl rfl rfl fun D =>
    j_aldn (pc := 161) D rfl rfl rfl fun D =>
    j_gfc (pc := 162) (a := 602) D rfl rfl (by decide) rfl (s0_602 H) rfl (sf_420_602 H) fun D =>
    j_ildn (pc := 165) D rfl rfl rfl fun D =>
    j_al (pc := 166) (a := 619) (e := 10) D rfl rfl rfl (by decide) (s0_619 H) (s1_619 H) ⟨rfl, rfl, rfl⟩ rfl gn fun qb1 D =>
    j_ivv (pc := 167) (m := 575) (dd := 412) (a := [(0, h 10 619 x1.toNat)]) (rest := []) D rfl rfl rfl rfl rfl (by decide) (s0_602 H) (by decide +kernel) (fun h2 e1 D =>
      have T := fj_run_ok _ _ _ _ _ _ H.1 e1
      have H := shp_st H T
      j_aldn (pc := 170) D rfl rfl rfl fun D =>
      j_gf (pc := 171) (a := 602) D rfl rfl (by decide) rfl (s0_602 H) rfl fun D =>
      j_ildn (pc := 174) D rfl rfl rfl fun D =>
      j_ic (pc := 175) D rfl fun D =>
      j_ine (pc := 176) D rfl (fun q D =>
        j_c0 (pc := 179) (v := (1, 0)) D rfl rfl (by decide +kernel) fun D =>
        j_goto (pc := 180) D rfl <|
        fk_jump cut_575_184 rfl rfl) (fun q =>
        have D : fk_D 575 [(183, none, .lconst 1, 1, 0, 0, 0)] := fq_of2 cd_575 ow_575 cl_575 rfl (pc := 183) (by decide +kernel)
        j_c0 (pc := 183) (v := (1, 1)) D rfl rfl (by decide +kernel) fun D =>
        fk_jump cut_575_184 rfl rfl)) (fun q4 h2 e1 =>
      j_tx (hx_575 _))
theorem e_575_184 (d : Nat) (x1 s0 s1 : Int) {h : fi_H} (H : Shp h) : c_575_184 d x1 s0 s1 h =
  if lc_ s0 s1 = 0 then
    if 0 ≤ x1 ∧ x1 < 9300 then
    cv_ (fj_run d 575 h [(4, 602), (0, h 10 620 x1.toNat)])
      (fun h2 =>
      some (.inl none, h2))
      (fun q4 h2 => tx_ q4 h2)
    else none
  else
    some (.inl none, h) := by
  unfold c_575_184
  exact
    have D : fk_D 575 [(184, some [0, 1], .lcmp, 1, 0, 0, 0), (185, none, .ifCond .ne 308, 3, 493, 0, 0), (188, none, .aload_n 0, 1, 0, 0, 0), (189, none, .aload_n 0, 1, 0, 0, 0), (190, none, .getfield 71, 3, 421, 129, 12), (193, none, .iload_n 1, 1, 0, 0, 0), (194, none, .iaload, 1, 0, 0, 0), (195, none, .invokevirtual 913, 3, 1, 412, 0), (198, none, .goto 295, 3, 493, 0, 0)] := fq_of2 cd_575 ow_575 cl_575 rfl (pc := 184) (by decide +kernel)
    j_lcmp (pc := 184) D rfl fun D =>
    j_ifne (pc := 185) D rfl (fun q D =>
      j_aldn (pc := 188) D rfl rfl rfl fun D =>
      j_aldn (pc := 189) D rfl rfl rfl fun D =>
      j_gfc (pc := 190) (a := 602) D rfl rfl (by decide) rfl (s0_602 H) rfl (sf_421_602 H) fun D =>
      j_ildn (pc := 193) D rfl rfl rfl fun D =>
      j_al (pc := 194) (a := 620) (e := 10) D rfl rfl rfl (by decide) (s0_620 H) (s1_620 H) ⟨rfl, rfl, rfl⟩ rfl gn fun qb1 D =>
      j_ivv (pc := 195) (m := 575) (dd := 412) (a := [(0, h 10 620 x1.toNat)]) (rest := []) D rfl rfl rfl rfl rfl (by decide) (s0_602 H) (by decide +kernel) (fun h2 e1 D =>
        have T := fj_run_ok _ _ _ _ _ _ H.1 e1
        have H := shp_st H T
        j_goto (pc := 198) D rfl <|
        have D : fk_D 575 [(493, none, .return_, 1, 0, 0, 0)] := fq_of2 cd_575 ow_575 cl_575 rfl (pc := 493) (by decide +kernel)
        j_vret D rt_575) (fun q4 h2 e1 =>
        j_tx (hx_575 _))) (fun q =>
      have D : fk_D 575 [(493, none, .return_, 1, 0, 0, 0)] := fq_of2 cd_575 ow_575 cl_575 rfl (pc := 493) (by decide +kernel)
      j_vret D rt_575)
theorem e_575_201 (d : Nat) (x1 : Int) {h : fi_H} (H : Shp h) : c_575_201 d x1 h =
  if 0 ≤ x1 ∧ x1 < 9300 then
  cv_ (fj_run d 575 h [(4, 602), (0, h 10 619 x1.toNat)])
    (fun h2 =>
    if lc_ (h2 492 602 0) 0 = 0 then
      c_575_226 d 602 1 h2
    else
      c_575_226 d 602 0 h2)
    (fun q4 h2 => tx_ q4 h2)
  else none := by
  unfold c_575_201
  exact
    have D : fk_D 575 [(201, some [0, 1], .aload_n 0, 1, 0, 0, 0), (202, none, .aload_n 0, 1, 0, 0, 0), (203, none, .getfield 68, 3, 420, 129, 12), (206, none, .iload_n 1, 1, 0, 0, 0), (207, none, .iaload, 1, 0, 0, 0), (208, none, .invokevirtual 913, 3, 1, 412, 0), (211, none, .aload_n 0, 1, 0, 0, 0), (212, none, .aload_n 0, 1, 0, 0, 0), (213, none, .getfield 869, 3, 492, 129, 11), (216, none, .lconst 0, 1, 0, 0, 0), (217, none, .lcmp, 1, 0, 0, 0), (218, none, .ifCond .ne 7, 3, 225, 0, 0), (221, none, .iconst 1, 1, 0, 1, 0), (222, none, .goto 4, 3, 226, 0, 0)] := fq_of2 cd_575 ow_575 cl_575 rfl (pc := 201) (by decide +kernel)
    j_aldn (pc := 201) D rfl rfl rfl fun D =>
    j_aldn (pc := 202) D rfl rfl rfl fun D =>
    j_gfc (pc := 203) (a := 602) D rfl rfl (by decide) rfl (s0_602 H) rfl (sf_420_602 H) fun D =>
    j_ildn (pc := 206) D rfl rfl rfl fun D =>
    j_al (pc := 207) (a := 619) (e := 10) D rfl rfl rfl (by decide) (s0_619 H) (s1_619 H) ⟨rfl, rfl, rfl⟩ rfl gn fun qb1 D =>
    j_ivv (pc := 208) (m := 575) (dd := 412) (a := [(0, h 10 619 x1.toNat)]) (rest := []) D rfl rfl rfl rfl rfl (by decide) (s0_602 H) (by decide +kernel) (fun h2 e1 D =>
      have T := fj_run_ok _ _ _ _ _ _ H.1 e1
      have H := shp_st H T
      j_aldn (pc := 211) D rfl rfl rfl fun D =>
      j_aldn (pc := 212) D rfl rfl rfl fun D =>
      j_gf (pc := 213) (a := 602) D rfl rfl (by decide) rfl (s0_602 H) rfl fun D =>
      j_c0 (pc := 216) (v := (1, 0)) D rfl rfl (by decide +kernel) fun D =>
      j_lcmp (pc := 217) D rfl fun D =>
      j_ifne (pc := 218) D rfl (fun q D =>
        j_ic (pc := 221) D rfl fun D =>
        j_goto (pc := 222) D rfl <|
        fk_jump cut_575_226 rfl rfl) (fun q =>
        have D : fk_D 575 [(225, none, .iconst 0, 1, 0, 0, 0)] := fq_of2 cd_575 ow_575 cl_575 rfl (pc := 225) (by decide +kernel)
        j_ic (pc := 225) D rfl fun D =>
        fk_jump cut_575_226 rfl rfl)) (fun q4 h2 e1 =>
      j_tx (hx_575 _))
theorem e_575_226 (d : Nat) (s0 s1 : Int) {h : fi_H} (H : Shp h) : c_575_226 d s0 s1 h =
  dv_ (fi_vt 417 (h 0 s0.toNat 0)) fun m4 => cv_ (fj_run d m4 h [(4, s0), (0, s1)])
    (fun h1 =>
    some (.inl none, h1))
    (fun q3 h1 => tx_ q3 h1) := by
  unfold c_575_226
  exact
    have D : fk_D 575 [(226, some [], .invokevirtual 969, 3, 1, 417, 0), (229, none, .goto 264, 3, 493, 0, 0)] := fq_of2 cd_575 ow_575 cl_575 rfl (pc := 226) (by decide +kernel)
    j_ivuv (pc := 226) (dd := 417) (a := [(0, s1)]) (rest := []) H.2.1 D rfl rfl rfl rfl rfl (fun m4 h1 e1 D =>
      have T := fj_run_ok _ _ _ _ _ _ H.1 e1
      have H := shp_st H T
      j_goto (pc := 229) D rfl <|
      have D : fk_D 575 [(493, none, .return_, 1, 0, 0, 0)] := fq_of2 cd_575 ow_575 cl_575 rfl (pc := 493) (by decide +kernel)
      j_vret D rt_575) (fun m4 q3 h1 e1 =>
      j_tx (hx_575 _))
theorem e_575_232 (d : Nat) (x1 : Int) {h : fi_H} (H : Shp h) : c_575_232 d x1 h =
  if 0 ≤ x1 ∧ x1 < 9300 then
  cv_ (fj_run d 575 h [(4, 602), (0, h 10 619 x1.toNat)])
    (fun h2 =>
    cv_ (fj_run d 604 h2 [(4, 602), (0, h2 10 618 x1.toNat)])
      (fun h5 =>
      some (.inl none, h5))
      (fun q7 h5 => tx_ q7 h5))
    (fun q4 h2 => tx_ q4 h2)
  else none := by
  unfold c_575_232
  exact
    have D : fk_D 575 [(232, some [0, 1], .aload_n 0, 1, 0, 0, 0), (233, none, .aload_n 0, 1, 0, 0, 0), (234, none, .getfield 68, 3, 420, 129, 12), (237, none, .iload_n 1, 1, 0, 0, 0), (238, none, .iaload, 1, 0, 0, 0), (239, none, .invokevirtual 913, 3, 1, 412, 0), (242, none, .aload_n 0, 1, 0, 0, 0), (243, none, .aload_n 0, 1, 0, 0, 0), (244, none, .getfield 65, 3, 419, 129, 12), (247, none, .iload_n 1, 1, 0, 0, 0), (248, none, .iaload, 1, 0, 0, 0), (249, none, .invokevirtual 973, 3, 1, 418, 0), (252, none, .goto 241, 3, 493, 0, 0)] := fq_of2 cd_575 ow_575 cl_575 rfl (pc := 232) (by decide +kernel)
    j_aldn (pc := 232) D rfl rfl rfl fun D =>
    j_aldn (pc := 233) D rfl rfl rfl fun D =>
    j_gfc (pc := 234) (a := 602) D rfl rfl (by decide) rfl (s0_602 H) rfl (sf_420_602 H) fun D =>
    j_ildn (pc := 237) D rfl rfl rfl fun D =>
    j_al (pc := 238) (a := 619) (e := 10) D rfl rfl rfl (by decide) (s0_619 H) (s1_619 H) ⟨rfl, rfl, rfl⟩ rfl gn fun qb1 D =>
    j_ivv (pc := 239) (m := 575) (dd := 412) (a := [(0, h 10 619 x1.toNat)]) (rest := []) D rfl rfl rfl rfl rfl (by decide) (s0_602 H) (by decide +kernel) (fun h2 e1 D =>
      have T := fj_run_ok _ _ _ _ _ _ H.1 e1
      have H := shp_st H T
      j_aldn (pc := 242) D rfl rfl rfl fun D =>
      j_aldn (pc := 243) D rfl rfl rfl fun D =>
      j_gfc (pc := 244) (a := 602) D rfl rfl (by decide) rfl (s0_602 H) rfl (sf_419_602 H) fun D =>
      j_ildn (pc := 247) D rfl rfl rfl fun D =>
      j_al (pc := 248) (a := 618) (e := 10) D rfl rfl rfl (by decide) (s0_618 H) (s1_618 H) ⟨rfl, rfl, rfl⟩ rfl (gy qb1) fun q D =>
      j_ivv (pc := 249) (m := 604) (dd := 418) (a := [(0, h2 10 618 x1.toNat)]) (rest := []) D rfl rfl rfl rfl rfl (by decide) (s0_602 H) (by decide +kernel) (fun h5 e1 D =>
        have T := fj_run_ok _ _ _ _ _ _ H.1 e1
        have H := shp_st H T
        j_goto (pc := 252) D rfl <|
        have D : fk_D 575 [(493, none, .return_, 1, 0, 0, 0)] := fq_of2 cd_575 ow_575 cl_575 rfl (pc := 493) (by decide +kernel)
        j_vret D rt_575) (fun q7 h5 e1 =>
        j_tx (hx_575 _))) (fun q4 h2 e1 =>
      j_tx (hx_575 _))
theorem e_575_255 (d : Nat) (x1 : Int) {h : fi_H} (H : Shp h) : c_575_255 d x1 h =
  if 0 ≤ x1 ∧ x1 < 9300 then
  cv_ (fj_run d 575 h [(4, 602), (0, h 10 620 x1.toNat)])
    (fun h2 =>
    lt_ (fi_upd h2 484 602 0 (wI (h2 492 602 0))) fun h5 =>
    cv_ (fj_run d 575 h5 [(4, 602), (0, h5 10 619 x1.toNat)])
      (fun h6 =>
      lt_ (fi_upd h6 484 602 0 (h2 484 602 0)) fun h9 =>
      some (.inl none, h9))
      (fun q8 h6 => tx_ q8 h6))
    (fun q4 h2 => tx_ q4 h2)
  else none := by
  unfold c_575_255
  exact
    have D : fk_D 575 [(255, some [0, 1], .aload_n 0, 1, 0, 0, 0), (256, none, .aload_n 0, 1, 0, 0, 0), (257, none, .getfield 71, 3, 421, 129, 12), (260, none, .iload_n 1, 1, 0, 0, 0), (261, none, .iaload, 1, 0, 0, 0), (262, none, .invokevirtual 913, 3, 1, 412, 0), (265, none, .aload_n 0, 1, 0, 0, 0), (266, none, .getfield 863, 3, 484, 129, 10), (269, none, .istore_n 3, 1, 0, 0, 0), (270, none, .aload_n 0, 1, 0, 0, 0), (271, none, .aload_n 0, 1, 0, 0, 0), (272, none, .getfield 869, 3, 492, 129, 11), (275, none, .l2i, 1, 0, 0, 0), (276, none, .putfield 863, 3, 484, 129, 10), (279, none, .aload_n 0, 1, 0, 0, 0), (280, none, .aload_n 0, 1, 0, 0, 0), (281, none, .getfield 68, 3, 420, 129, 12), (284, none, .iload_n 1, 1, 0, 0, 0), (285, none, .iaload, 1, 0, 0, 0), (286, none, .invokevirtual 913, 3, 1, 412, 0)] := fq_of2 cd_575 ow_575 cl_575 rfl (pc := 255) (by decide +kernel)
    j_aldn (pc := 255) D rfl rfl rfl fun D =>
    j_aldn (pc := 256) D rfl rfl rfl fun D =>
    j_gfc (pc := 257) (a := 602) D rfl rfl (by decide) rfl (s0_602 H) rfl (sf_421_602 H) fun D =>
    j_ildn (pc := 260) D rfl rfl rfl fun D =>
    j_al (pc := 261) (a := 620) (e := 10) D rfl rfl rfl (by decide) (s0_620 H) (s1_620 H) ⟨rfl, rfl, rfl⟩ rfl gn fun qb1 D =>
    j_ivv (pc := 262) (m := 575) (dd := 412) (a := [(0, h 10 620 x1.toNat)]) (rest := []) D rfl rfl rfl rfl rfl (by decide) (s0_602 H) (by decide +kernel) (fun h2 e1 D =>
      have T := fj_run_ok _ _ _ _ _ _ H.1 e1
      have H := shp_st H T
      j_aldn (pc := 265) D rfl rfl rfl fun D =>
      j_gf (pc := 266) (a := 602) D rfl rfl (by decide) rfl (s0_602 H) rfl fun D =>
      j_istn (pc := 269) (L' := [(3, (0, h2 484 602 0)), (0, (4, 602)), (1, (0, x1))]) D rfl nl_575 rfl rfl fun D =>
      j_aldn (pc := 270) D rfl rfl rfl fun D =>
      j_aldn (pc := 271) D rfl rfl rfl fun D =>
      j_gf (pc := 272) (a := 602) D rfl rfl (by decide) rfl (s0_602 H) rfl fun D =>
      j_l2i (pc := 275) D rfl fun D =>
      j_pf (pc := 276) (a := 602) D rfl rfl rfl (s0_602 H) rfl rfl (gy (by decide)) (gy rfl) fun h5 eh5 S D =>
      have T := fj_hs_ok H.1 S
      have H := shp_st H T
      j_aldn (pc := 279) D rfl rfl rfl fun D =>
      j_aldn (pc := 280) D rfl rfl rfl fun D =>
      j_gfc (pc := 281) (a := 602) D rfl rfl (by decide) rfl (s0_602 H) rfl (sf_420_602 H) fun D =>
      j_ildn (pc := 284) D rfl rfl rfl fun D =>
      j_al (pc := 285) (a := 619) (e := 10) D rfl rfl rfl (by decide) (s0_619 H) (s1_619 H) ⟨rfl, rfl, rfl⟩ rfl (gy qb1) fun q D =>
      j_ivv (pc := 286) (m := 575) (dd := 412) (a := [(0, h5 10 619 x1.toNat)]) (rest := []) D rfl rfl rfl rfl rfl (by decide) (s0_602 H) (by decide +kernel) (fun h6 e1 D =>
        have T := fj_run_ok _ _ _ _ _ _ H.1 e1
        have H := shp_st H T
        have D : fk_D 575 [(289, none, .aload_n 0, 1, 0, 0, 0), (290, none, .iload_n 3, 1, 0, 0, 0), (291, none, .putfield 863, 3, 484, 129, 10), (294, none, .goto 199, 3, 493, 0, 0)] := fq_of2 cd_575 ow_575 cl_575 rfl (pc := 289) (by decide +kernel)
        j_aldn (pc := 289) D rfl rfl rfl fun D =>
        j_ildn (pc := 290) D rfl rfl rfl fun D =>
        j_pf (pc := 291) (a := 602) D rfl rfl rfl (s0_602 H) rfl rfl (gy (by decide)) (gy rfl) fun h9 eh9 S D =>
        have T := fj_hs_ok H.1 S
        have H := shp_st H T
        j_goto (pc := 294) D rfl <|
        have D : fk_D 575 [(493, none, .return_, 1, 0, 0, 0)] := fq_of2 cd_575 ow_575 cl_575 rfl (pc := 493) (by decide +kernel)
        j_vret D rt_575) (fun q8 h6 e1 =>
        j_tx (hx_575 _))) (fun q4 h2 e1 =>
      j_tx (hx_575 _))
theorem e_575_297 (d : Nat) (x1 : Int) {h : fi_H} (H : Shp h) : c_575_297 d x1 h =
  if 0 ≤ x1 ∧ x1 < 9300 then
  cv_ (fj_run d 575 h [(4, 602), (0, h 10 620 x1.toNat)])
    (fun h2 =>
    lt_ (fi_upd h2 485 602 0 (wI (h2 492 602 0))) fun h5 =>
    cv_ (fj_run d 575 h5 [(4, 602), (0, h5 10 619 x1.toNat)])
      (fun h6 =>
      lt_ (fi_upd h6 485 602 0 (h2 485 602 0)) fun h9 =>
      some (.inl none, h9))
      (fun q8 h6 => tx_ q8 h6))
    (fun q4 h2 => tx_ q4 h2)
  else none := by
  unfold c_575_297
  exact
    have D : fk_D 575 [(297, some [0, 1], .aload_n 0, 1, 0, 0, 0), (298, none, .aload_n 0, 1, 0, 0, 0), (299, none, .getfield 71, 3, 421, 129, 12), (302, none, .iload_n 1, 1, 0, 0, 0), (303, none, .iaload, 1, 0, 0, 0), (304, none, .invokevirtual 913, 3, 1, 412, 0), (307, none, .aload_n 0, 1, 0, 0, 0), (308, none, .getfield 866, 3, 485, 129, 10), (311, none, .istore_n 3, 1, 0, 0, 0), (312, none, .aload_n 0, 1, 0, 0, 0), (313, none, .aload_n 0, 1, 0, 0, 0), (314, none, .getfield 869, 3, 492, 129, 11), (317, none, .l2i, 1, 0, 0, 0), (318, none, .putfield 866, 3, 485, 129, 10), (321, none, .aload_n 0, 1, 0, 0, 0), (322, none, .aload_n 0, 1, 0, 0, 0), (323, none, .getfield 68, 3, 420, 129, 12), (326, none, .iload_n 1, 1, 0, 0, 0), (327, none, .iaload, 1, 0, 0, 0), (328, none, .invokevirtual 913, 3, 1, 412, 0)] := fq_of2 cd_575 ow_575 cl_575 rfl (pc := 297) (by decide +kernel)
    j_aldn (pc := 297) D rfl rfl rfl fun D =>
    j_aldn (pc := 298) D rfl rfl rfl fun D =>
    j_gfc (pc := 299) (a := 602) D rfl rfl (by decide) rfl (s0_602 H) rfl (sf_421_602 H) fun D =>
    j_ildn (pc := 302) D rfl rfl rfl fun D =>
    j_al (pc := 303) (a := 620) (e := 10) D rfl rfl rfl (by decide) (s0_620 H) (s1_620 H) ⟨rfl, rfl, rfl⟩ rfl gn fun qb1 D =>
    j_ivv (pc := 304) (m := 575) (dd := 412) (a := [(0, h 10 620 x1.toNat)]) (rest := []) D rfl rfl rfl rfl rfl (by decide) (s0_602 H) (by decide +kernel) (fun h2 e1 D =>
      have T := fj_run_ok _ _ _ _ _ _ H.1 e1
      have H := shp_st H T
      j_aldn (pc := 307) D rfl rfl rfl fun D =>
      j_gf (pc := 308) (a := 602) D rfl rfl (by decide) rfl (s0_602 H) rfl fun D =>
      j_istn (pc := 311) (L' := [(3, (0, h2 485 602 0)), (0, (4, 602)), (1, (0, x1))]) D rfl nl_575 rfl rfl fun D =>
      j_aldn (pc := 312) D rfl rfl rfl fun D =>
      j_aldn (pc := 313) D rfl rfl rfl fun D =>
      j_gf (pc := 314) (a := 602) D rfl rfl (by decide) rfl (s0_602 H) rfl fun D =>
      j_l2i (pc := 317) D rfl fun D =>
      j_pf (pc := 318) (a := 602) D rfl rfl rfl (s0_602 H) rfl rfl (gy (by decide)) (gy rfl) fun h5 eh5 S D =>
      have T := fj_hs_ok H.1 S
      have H := shp_st H T
      j_aldn (pc := 321) D rfl rfl rfl fun D =>
      j_aldn (pc := 322) D rfl rfl rfl fun D =>
      j_gfc (pc := 323) (a := 602) D rfl rfl (by decide) rfl (s0_602 H) rfl (sf_420_602 H) fun D =>
      j_ildn (pc := 326) D rfl rfl rfl fun D =>
      j_al (pc := 327) (a := 619) (e := 10) D rfl rfl rfl (by decide) (s0_619 H) (s1_619 H) ⟨rfl, rfl, rfl⟩ rfl (gy qb1) fun q D =>
      j_ivv (pc := 328) (m := 575) (dd := 412) (a := [(0, h5 10 619 x1.toNat)]) (rest := []) D rfl rfl rfl rfl rfl (by decide) (s0_602 H) (by decide +kernel) (fun h6 e1 D =>
        have T := fj_run_ok _ _ _ _ _ _ H.1 e1
        have H := shp_st H T
        have D : fk_D 575 [(331, none, .aload_n 0, 1, 0, 0, 0), (332, none, .iload_n 3, 1, 0, 0, 0), (333, none, .putfield 866, 3, 485, 129, 10), (336, none, .goto 157, 3, 493, 0, 0)] := fq_of2 cd_575 ow_575 cl_575 rfl (pc := 331) (by decide +kernel)
        j_aldn (pc := 331) D rfl rfl rfl fun D =>
        j_ildn (pc := 332) D rfl rfl rfl fun D =>
        j_pf (pc := 333) (a := 602) D rfl rfl rfl (s0_602 H) rfl rfl (gy (by decide)) (gy rfl) fun h9 eh9 S D =>
        have T := fj_hs_ok H.1 S
        have H := shp_st H T
        j_goto (pc := 336) D rfl <|
        have D : fk_D 575 [(493, none, .return_, 1, 0, 0, 0)] := fq_of2 cd_575 ow_575 cl_575 rfl (pc := 493) (by decide +kernel)
        j_vret D rt_575) (fun q8 h6 e1 =>
        j_tx (hx_575 _))) (fun q4 h2 e1 =>
      j_tx (hx_575 _))
theorem e_575_339 (d : Nat) (x1 : Int) {h : fi_H} (H : Shp h) : c_575_339 d x1 h =
  if 0 ≤ x1 ∧ x1 < 9300 then
  lt_ (fi_upd h 492 602 0 (h 11 623 x1.toNat)) fun h2 =>
  lt_ (fi_upd h2 493 602 0 (h2 11 624 x1.toNat)) fun h3 =>
  some (.inl none, h3)
  else none := by
  unfold c_575_339
  exact
    have D : fk_D 575 [(339, some [0, 1], .aload_n 0, 1, 0, 0, 0), (340, none, .aload_n 0, 1, 0, 0, 0), (341, none, .getfield 80, 3, 424, 129, 12), (344, none, .iload_n 1, 1, 0, 0, 0), (345, none, .laload, 1, 0, 0, 0), (346, none, .putfield 869, 3, 492, 129, 11), (349, none, .aload_n 0, 1, 0, 0, 0), (350, none, .aload_n 0, 1, 0, 0, 0), (351, none, .getfield 83, 3, 425, 129, 12), (354, none, .iload_n 1, 1, 0, 0, 0), (355, none, .laload, 1, 0, 0, 0), (356, none, .putfield 872, 3, 493, 129, 11), (359, none, .goto 134, 3, 493, 0, 0)] := fq_of2 cd_575 ow_575 cl_575 rfl (pc := 339) (by decide +kernel)
    j_aldn (pc := 339) D rfl rfl rfl fun D =>
    j_aldn (pc := 340) D rfl rfl rfl fun D =>
    j_gfc (pc := 341) (a := 602) D rfl rfl (by decide) rfl (s0_602 H) rfl (sf_424_602 H) fun D =>
    j_ildn (pc := 344) D rfl rfl rfl fun D =>
    j_al (pc := 345) (a := 623) (e := 11) D rfl rfl rfl (by decide) (s0_623 H) (s1_623 H) ⟨rfl, rfl, rfl⟩ rfl gn fun qb1 D =>
    j_pf (pc := 346) (a := 602) D rfl rfl rfl (s0_602 H) rfl rfl (gy (by decide)) (gy rfl) fun h2 eh2 S D =>
    have T := fj_hs_ok H.1 S
    have H := shp_st H T
    j_aldn (pc := 349) D rfl rfl rfl fun D =>
    j_aldn (pc := 350) D rfl rfl rfl fun D =>
    j_gfc (pc := 351) (a := 602) D rfl rfl (by decide) rfl (s0_602 H) rfl (sf_425_602 H) fun D =>
    j_ildn (pc := 354) D rfl rfl rfl fun D =>
    j_al (pc := 355) (a := 624) (e := 11) D rfl rfl rfl (by decide) (s0_624 H) (s1_624 H) ⟨rfl, rfl, rfl⟩ rfl (gy qb1) fun q D =>
    j_pf (pc := 356) (a := 602) D rfl rfl rfl (s0_602 H) rfl rfl (gy (by decide)) (gy rfl) fun h3 eh3 S D =>
    have T := fj_hs_ok H.1 S
    have H := shp_st H T
    j_goto (pc := 359) D rfl <|
    have D : fk_D 575 [(493, none, .return_, 1, 0, 0, 0)] := fq_of2 cd_575 ow_575 cl_575 rfl (pc := 493) (by decide +kernel)
    j_vret D rt_575
theorem e_575_362 (d : Nat) {h : fi_H} (H : Shp h) : c_575_362 d h =
  cv_ (fj_run d 594 h [(4, 602), (1, wI (h 485 602 0))])
    (fun h1 =>
    some (.inl none, h1))
    (fun q3 h1 => tx_ q3 h1) := by
  unfold c_575_362
  exact
    have D : fk_D 575 [(362, some [0], .aload_n 0, 1, 0, 0, 0), (363, none, .aload_n 0, 1, 0, 0, 0), (364, none, .getfield 866, 3, 485, 129, 10), (367, none, .i2l, 1, 0, 0, 0), (368, none, .invokevirtual 976, 3, 1, 419, 0), (371, none, .goto 122, 3, 493, 0, 0)] := fq_of2 cd_575 ow_575 cl_575 rfl (pc := 362) (by decide +kernel)
    j_aldn (pc := 362) D rfl rfl rfl fun D =>
    j_aldn (pc := 363) D rfl rfl rfl fun D =>
    j_gf (pc := 364) (a := 602) D rfl rfl (by decide) rfl (s0_602 H) rfl fun D =>
    j_i2l (pc := 367) D rfl fun D =>
    j_ivv (pc := 368) (m := 594) (dd := 419) (a := [(1, wI (h 485 602 0))]) (rest := []) D rfl rfl rfl rfl rfl (by decide) (s0_602 H) (by decide +kernel) (fun h1 e1 D =>
      have T := fj_run_ok _ _ _ _ _ _ H.1 e1
      have H := shp_st H T
      j_goto (pc := 371) D rfl <|
      have D : fk_D 575 [(493, none, .return_, 1, 0, 0, 0)] := fq_of2 cd_575 ow_575 cl_575 rfl (pc := 493) (by decide +kernel)
      j_vret D rt_575) (fun q3 h1 e1 =>
      j_tx (hx_575 _))
theorem e_575_374 (d : Nat) {h : fi_H} (H : Shp h) : c_575_374 d h =
  lt_ (fi_upd h 492 602 0 (wI (h 484 602 0))) fun h1 =>
  lt_ (fi_upd h1 493 602 0 0) fun h2 =>
  some (.inl none, h2) := by
  unfold c_575_374
  exact
    have D : fk_D 575 [(374, some [0], .aload_n 0, 1, 0, 0, 0), (375, none, .aload_n 0, 1, 0, 0, 0), (376, none, .getfield 863, 3, 484, 129, 10), (379, none, .i2l, 1, 0, 0, 0), (380, none, .putfield 869, 3, 492, 129, 11), (383, none, .aload_n 0, 1, 0, 0, 0), (384, none, .lconst 0, 1, 0, 0, 0), (385, none, .putfield 872, 3, 493, 129, 11), (388, none, .goto 105, 3, 493, 0, 0)] := fq_of2 cd_575 ow_575 cl_575 rfl (pc := 374) (by decide +kernel)
    j_aldn (pc := 374) D rfl rfl rfl fun D =>
    j_aldn (pc := 375) D rfl rfl rfl fun D =>
    j_gf (pc := 376) (a := 602) D rfl rfl (by decide) rfl (s0_602 H) rfl fun D =>
    j_i2l (pc := 379) D rfl fun D =>
    j_pf (pc := 380) (a := 602) D rfl rfl rfl (s0_602 H) rfl rfl (gy (by decide)) (gy rfl) fun h1 eh1 S D =>
    have T := fj_hs_ok H.1 S
    have H := shp_st H T
    j_aldn (pc := 383) D rfl rfl rfl fun D =>
    j_c0 (pc := 384) (v := (1, 0)) D rfl rfl (by decide +kernel) fun D =>
    j_pf (pc := 385) (a := 602) D rfl rfl rfl (s0_602 H) rfl rfl (gy (by decide)) (gy rfl) fun h2 eh2 S D =>
    have T := fj_hs_ok H.1 S
    have H := shp_st H T
    j_goto (pc := 388) D rfl <|
    have D : fk_D 575 [(493, none, .return_, 1, 0, 0, 0)] := fq_of2 cd_575 ow_575 cl_575 rfl (pc := 493) (by decide +kernel)
    j_vret D rt_575
theorem e_575_391 (d : Nat) {h : fi_H} (H : Shp h) : c_575_391 d h =
  lt_ (fi_upd h 492 602 0 0) fun h1 =>
  lt_ (fi_upd h1 493 602 0 0) fun h2 =>
  some (.inl none, h2) := by
  unfold c_575_391
  exact
    have D : fk_D 575 [(391, some [0], .aload_n 0, 1, 0, 0, 0), (392, none, .lconst 0, 1, 0, 0, 0), (393, none, .putfield 869, 3, 492, 129, 11), (396, none, .aload_n 0, 1, 0, 0, 0), (397, none, .lconst 0, 1, 0, 0, 0), (398, none, .putfield 872, 3, 493, 129, 11), (401, none, .goto 92, 3, 493, 0, 0)] := fq_of2 cd_575 ow_575 cl_575 rfl (pc := 391) (by decide +kernel)
    j_aldn (pc := 391) D rfl rfl rfl fun D =>
    j_c0 (pc := 392) (v := (1, 0)) D rfl rfl (by decide +kernel) fun D =>
    j_pf (pc := 393) (a := 602) D rfl rfl rfl (s0_602 H) rfl rfl (gy (by decide)) (gy rfl) fun h1 eh1 S D =>
    have T := fj_hs_ok H.1 S
    have H := shp_st H T
    j_aldn (pc := 396) D rfl rfl rfl fun D =>
    j_c0 (pc := 397) (v := (1, 0)) D rfl rfl (by decide +kernel) fun D =>
    j_pf (pc := 398) (a := 602) D rfl rfl rfl (s0_602 H) rfl rfl (gy (by decide)) (gy rfl) fun h2 eh2 S D =>
    have T := fj_hs_ok H.1 S
    have H := shp_st H T
    j_goto (pc := 401) D rfl <|
    have D : fk_D 575 [(493, none, .return_, 1, 0, 0, 0)] := fq_of2 cd_575 ow_575 cl_575 rfl (pc := 493) (by decide +kernel)
    j_vret D rt_575
theorem e_575_404 (d : Nat) (x1 : Int) {h : fi_H} (H : Shp h) : c_575_404 d x1 h =
  if 0 ≤ x1 ∧ x1 < 9300 then
  if 0 ≤ wI (h 11 623 x1.toNat) ∧ wI (h 11 623 x1.toNat) < 41 then
  if h 10 610 (wI (h 11 623 x1.toNat)).toNat = 1 then
    cv_ (fj_run d 605 h [(4, 602), (0, wI (h 11 623 x1.toNat))])
      (fun h3 =>
      some (.inl none, h3))
      (fun q5 h3 => tx_ q5 h3)
  else
    cv_ (fj_run d 613 h [(4, 602), (0, wI (h 11 623 x1.toNat))])
      (fun h6 =>
      some (.inl none, h6))
      (fun q8 h6 => tx_ q8 h6)
  else none
  else none := by
  unfold c_575_404
  exact
    have D : fk_D 575 [(404, some [0, 1], .aload_n 0, 1, 0, 0, 0), (405, none, .getfield 40, 3, 406, 129, 12), (408, none, .aload_n 0, 1, 0, 0, 0), (409, none, .getfield 80, 3, 424, 129, 12), (412, none, .iload_n 1, 1, 0, 0, 0), (413, none, .laload, 1, 0, 0, 0), (414, none, .l2i, 1, 0, 0, 0), (415, none, .iaload, 1, 0, 0, 0), (416, none, .iconst 1, 1, 0, 1, 0), (417, none, .if_icmp .ne 17, 3, 434, 0, 0), (420, none, .aload_n 0, 1, 0, 0, 0), (421, none, .aload_n 0, 1, 0, 0, 0), (422, none, .getfield 80, 3, 424, 129, 12), (425, none, .iload_n 1, 1, 0, 0, 0), (426, none, .laload, 1, 0, 0, 0), (427, none, .l2i, 1, 0, 0, 0), (428, none, .invokevirtual 979, 3, 1, 420, 0), (431, none, .goto 62, 3, 493, 0, 0)] := fq_of2 cd_575 ow_575 cl_575 rfl (pc := 404) (by decide +kernel)
    j_aldn (pc := 404) D rfl rfl rfl fun D =>
    j_gfc (pc := 405) (a := 602) D rfl rfl (by decide) rfl (s0_602 H) rfl (sf_406_602 H) fun D =>
    j_aldn (pc := 408) D rfl rfl rfl fun D =>
    j_gfc (pc := 409) (a := 602) D rfl rfl (by decide) rfl (s0_602 H) rfl (sf_424_602 H) fun D =>
    j_ildn (pc := 412) D rfl rfl rfl fun D =>
    j_al (pc := 413) (a := 623) (e := 11) D rfl rfl rfl (by decide) (s0_623 H) (s1_623 H) ⟨rfl, rfl, rfl⟩ rfl gn fun qb1 D =>
    j_l2i (pc := 414) D rfl fun D =>
    j_al (pc := 415) (a := 610) (e := 10) D rfl rfl rfl (by decide) (s0_610 H) (s1_610 H) ⟨rfl, rfl, rfl⟩ rfl gn fun qb2 D =>
    j_ic (pc := 416) D rfl fun D =>
    j_ine (pc := 417) D rfl (fun q D =>
      j_aldn (pc := 420) D rfl rfl rfl fun D =>
      j_aldn (pc := 421) D rfl rfl rfl fun D =>
      j_gfc (pc := 422) (a := 602) D rfl rfl (by decide) rfl (s0_602 H) rfl (sf_424_602 H) fun D =>
      j_ildn (pc := 425) D rfl rfl rfl fun D =>
      j_al (pc := 426) (a := 623) (e := 11) D rfl rfl rfl (by decide) (s0_623 H) (s1_623 H) ⟨rfl, rfl, rfl⟩ rfl (gy qb1) fun q D =>
      j_l2i (pc := 427) D rfl fun D =>
      j_ivv (pc := 428) (m := 605) (dd := 420) (a := [(0, wI (h 11 623 x1.toNat))]) (rest := []) D rfl rfl rfl rfl rfl (by decide) (s0_602 H) (by decide +kernel) (fun h3 e1 D =>
        have T := fj_run_ok _ _ _ _ _ _ H.1 e1
        have H := shp_st H T
        j_goto (pc := 431) D rfl <|
        have D : fk_D 575 [(493, none, .return_, 1, 0, 0, 0)] := fq_of2 cd_575 ow_575 cl_575 rfl (pc := 493) (by decide +kernel)
        j_vret D rt_575) (fun q5 h3 e1 =>
        j_tx (hx_575 _))) (fun q =>
      have D : fk_D 575 [(434, none, .aload_n 0, 1, 0, 0, 0), (435, none, .aload_n 0, 1, 0, 0, 0), (436, none, .getfield 80, 3, 424, 129, 12), (439, none, .iload_n 1, 1, 0, 0, 0), (440, none, .laload, 1, 0, 0, 0), (441, none, .l2i, 1, 0, 0, 0), (442, none, .invokevirtual 982, 3, 1, 421, 0), (445, none, .goto 48, 3, 493, 0, 0)] := fq_of2 cd_575 ow_575 cl_575 rfl (pc := 434) (by decide +kernel)
      j_aldn (pc := 434) D rfl rfl rfl fun D =>
      j_aldn (pc := 435) D rfl rfl rfl fun D =>
      j_gfc (pc := 436) (a := 602) D rfl rfl (by decide) rfl (s0_602 H) rfl (sf_424_602 H) fun D =>
      j_ildn (pc := 439) D rfl rfl rfl fun D =>
      j_al (pc := 440) (a := 623) (e := 11) D rfl rfl rfl (by decide) (s0_623 H) (s1_623 H) ⟨rfl, rfl, rfl⟩ rfl (gy qb1) fun q D =>
      j_l2i (pc := 441) D rfl fun D =>
      j_ivv (pc := 442) (m := 613) (dd := 421) (a := [(0, wI (h 11 623 x1.toNat))]) (rest := []) D rfl rfl rfl rfl rfl (by decide) (s0_602 H) (by decide +kernel) (fun h6 e1 D =>
        have T := fj_run_ok _ _ _ _ _ _ H.1 e1
        have H := shp_st H T
        j_goto (pc := 445) D rfl <|
        have D : fk_D 575 [(493, none, .return_, 1, 0, 0, 0)] := fq_of2 cd_575 ow_575 cl_575 rfl (pc := 493) (by decide +kernel)
        j_vret D rt_575) (fun q8 h6 e1 =>
        j_tx (hx_575 _)))
theorem e_575_448 (d : Nat) (x1 : Int) {h : fi_H} (H : Shp h) : c_575_448 d x1 h =
  if 0 ≤ x1 ∧ x1 < 9300 then
  ca_ (fj_run d 580 h [(4, 602), (0, h 484 602 0), (0, wI (h 11 623 x1.toNat))]) 0
    (fun v3 h2 =>
    cv_ (fj_run d 590 h2 [(4, 602), (0, v3)])
      (fun h5 =>
      some (.inl none, h5))
      (fun q7 h5 => tx_ q7 h5))
    (fun q4 h2 => tx_ q4 h2)
  else none := by
  unfold c_575_448
  exact
    have D : fk_D 575 [(448, some [0, 1], .aload_n 0, 1, 0, 0, 0), (449, none, .aload_n 0, 1, 0, 0, 0), (450, none, .aload_n 0, 1, 0, 0, 0), (451, none, .getfield 863, 3, 484, 129, 10), (454, none, .aload_n 0, 1, 0, 0, 0), (455, none, .getfield 80, 3, 424, 129, 12), (458, none, .iload_n 1, 1, 0, 0, 0), (459, none, .laload, 1, 0, 0, 0), (460, none, .l2i, 1, 0, 0, 0), (461, none, .invokevirtual 887, 3, 2, 405, 1), (464, none, .invokevirtual 969, 3, 1, 417, 0), (467, none, .goto 26, 3, 493, 0, 0)] := fq_of2 cd_575 ow_575 cl_575 rfl (pc := 448) (by decide +kernel)
    j_aldn (pc := 448) D rfl rfl rfl fun D =>
    j_aldn (pc := 449) D rfl rfl rfl fun D =>
    j_aldn (pc := 450) D rfl rfl rfl fun D =>
    j_gf (pc := 451) (a := 602) D rfl rfl (by decide) rfl (s0_602 H) rfl fun D =>
    j_aldn (pc := 454) D rfl rfl rfl fun D =>
    j_gfc (pc := 455) (a := 602) D rfl rfl (by decide) rfl (s0_602 H) rfl (sf_424_602 H) fun D =>
    j_ildn (pc := 458) D rfl rfl rfl fun D =>
    j_al (pc := 459) (a := 623) (e := 11) D rfl rfl rfl (by decide) (s0_623 H) (s1_623 H) ⟨rfl, rfl, rfl⟩ rfl gn fun qb1 D =>
    j_l2i (pc := 460) D rfl fun D =>
    j_iv (pc := 461) (m := 580) (dd := 405) (a := [(0, h 484 602 0), (0, wI (h 11 623 x1.toNat))]) (rest := [(4, 602)]) D rfl rfl rfl rfl rfl (by decide) (s0_602 H) (by decide +kernel) (fun v3 h2 e1 D =>
      have T := fj_run_ok _ _ _ _ _ _ H.1 e1
      have H := shp_st H T
      j_ivv (pc := 464) (m := 590) (dd := 417) (a := [(0, v3)]) (rest := []) D rfl rfl rfl rfl rfl (by decide) (s0_602 H) (by decide +kernel) (fun h5 e1 D =>
        have T := fj_run_ok _ _ _ _ _ _ H.1 e1
        have H := shp_st H T
        j_goto (pc := 467) D rfl <|
        have D : fk_D 575 [(493, none, .return_, 1, 0, 0, 0)] := fq_of2 cd_575 ow_575 cl_575 rfl (pc := 493) (by decide +kernel)
        j_vret D rt_575) (fun q7 h5 e1 =>
        j_tx (hx_575 _))) (fun q4 h2 e1 =>
      j_tx (hx_575 _))
theorem e_575_470 (d : Nat) (x1 : Int) {h : fi_H} (H : Shp h) : c_575_470 d x1 h =
  cv_ (fj_run d 614 h [(4, 602), (0, x1)])
    (fun h1 =>
    some (.inl none, h1))
    (fun q3 h1 => tx_ q3 h1) := by
  unfold c_575_470
  exact
    have D : fk_D 575 [(470, some [0, 1], .aload_n 0, 1, 0, 0, 0), (471, none, .iload_n 1, 1, 0, 0, 0), (472, none, .invokevirtual 985, 3, 1, 422, 0), (475, none, .goto 18, 3, 493, 0, 0)] := fq_of2 cd_575 ow_575 cl_575 rfl (pc := 470) (by decide +kernel)
    j_aldn (pc := 470) D rfl rfl rfl fun D =>
    j_ildn (pc := 471) D rfl rfl rfl fun D =>
    j_ivv (pc := 472) (m := 614) (dd := 422) (a := [(0, x1)]) (rest := []) D rfl rfl rfl rfl rfl (by decide) (s0_602 H) (by decide +kernel) (fun h1 e1 D =>
      have T := fj_run_ok _ _ _ _ _ _ H.1 e1
      have H := shp_st H T
      j_goto (pc := 475) D rfl <|
      have D : fk_D 575 [(493, none, .return_, 1, 0, 0, 0)] := fq_of2 cd_575 ow_575 cl_575 rfl (pc := 493) (by decide +kernel)
      j_vret D rt_575) (fun q3 h1 e1 =>
      j_tx (hx_575 _))
theorem e_575_478 (d : Nat) (x1 x2 : Int) {h : fi_H} (H : Shp h) : c_575_478 d x1 x2 h =
  cv_ (fj_run d 615 h [(4, 602), (0, x1), (0, x2)])
    (fun h1 =>
    some (.inl none, h1))
    (fun q3 h1 => tx_ q3 h1) := by
  unfold c_575_478
  exact
    have D : fk_D 575 [(478, some [0, 1, 2], .aload_n 0, 1, 0, 0, 0), (479, none, .iload_n 1, 1, 0, 0, 0), (480, none, .iload_n 2, 1, 0, 0, 0), (481, none, .invokevirtual 988, 3, 2, 423, 0), (484, none, .goto 9, 3, 493, 0, 0)] := fq_of2 cd_575 ow_575 cl_575 rfl (pc := 478) (by decide +kernel)
    j_aldn (pc := 478) D rfl rfl rfl fun D =>
    j_ildn (pc := 479) D rfl rfl rfl fun D =>
    j_ildn (pc := 480) D rfl rfl rfl fun D =>
    j_ivv (pc := 481) (m := 615) (dd := 423) (a := [(0, x1), (0, x2)]) (rest := []) D rfl rfl rfl rfl rfl (by decide) (s0_602 H) (by decide +kernel) (fun h1 e1 D =>
      have T := fj_run_ok _ _ _ _ _ _ H.1 e1
      have H := shp_st H T
      j_goto (pc := 484) D rfl <|
      have D : fk_D 575 [(493, none, .return_, 1, 0, 0, 0)] := fq_of2 cd_575 ow_575 cl_575 rfl (pc := 493) (by decide +kernel)
      j_vret D rt_575) (fun q3 h1 e1 =>
      j_tx (hx_575 _))
theorem e_575_487 (d : Nat) (x1 x2 : Int) {h : fi_H} (H : Shp h) : c_575_487 d x1 x2 h =
  cv_ (fj_run d 616 h [(4, 602), (0, x1), (0, x2)])
    (fun h1 =>
    some (.inl none, h1))
    (fun q3 h1 => tx_ q3 h1) := by
  unfold c_575_487
  exact
    have D : fk_D 575 [(487, some [0, 1, 2], .aload_n 0, 1, 0, 0, 0), (488, none, .iload_n 1, 1, 0, 0, 0), (489, none, .iload_n 2, 1, 0, 0, 0), (490, none, .invokevirtual 991, 3, 2, 424, 0), (493, none, .return_, 1, 0, 0, 0)] := fq_of2 cd_575 ow_575 cl_575 rfl (pc := 487) (by decide +kernel)
    j_aldn (pc := 487) D rfl rfl rfl fun D =>
    j_ildn (pc := 488) D rfl rfl rfl fun D =>
    j_ildn (pc := 489) D rfl rfl rfl fun D =>
    j_ivv (pc := 490) (m := 616) (dd := 424) (a := [(0, x1), (0, x2)]) (rest := []) D rfl rfl rfl rfl rfl (by decide) (s0_602 H) (by decide +kernel) (fun h1 e1 D =>
      have T := fj_run_ok _ _ _ _ _ _ H.1 e1
      have H := shp_st H T
      j_vret D rt_575) (fun q3 h1 e1 =>
      j_tx (hx_575 _))
theorem m_575 (d : Nat) (x1 : Int) {h : fi_H} (H : Shp h) : fj_run (d + 1) 575 h [(4, 602), (0, x1)] =
  cv_ (fj_run d 576 h [(4, 602)])
    (fun h1 =>
    if 0 ≤ x1 ∧ x1 < 9300 then
    if h1 10 617 x1.toNat < 60 then
      if h1 10 617 x1.toNat < 30 then
        if h1 10 617 x1.toNat = 1 then
          c_575_160 d x1 (h1 10 617 x1.toNat) h1
        else if h1 10 617 x1.toNat = 2 then
          c_575_160 d x1 (h1 10 617 x1.toNat) h1
        else if h1 10 617 x1.toNat = 3 then
          c_575_201 d x1 h1
        else if h1 10 617 x1.toNat = 15 then
          c_575_232 d x1 h1
        else if h1 10 617 x1.toNat = 16 then
          c_575_255 d x1 h1
        else if h1 10 617 x1.toNat = 17 then
          c_575_297 d x1 h1
        else if h1 10 617 x1.toNat = 18 then
          c_575_339 d x1 h1
        else if h1 10 617 x1.toNat = 19 then
          c_575_362 d h1
        else if h1 10 617 x1.toNat = 20 then
          c_575_374 d h1
        else if h1 10 617 x1.toNat = 21 then
          c_575_391 d h1
        else if h1 10 617 x1.toNat = 22 then
          c_575_404 d x1 h1
        else if h1 10 617 x1.toNat = 23 then
          c_575_448 d x1 h1
        else if h1 10 617 x1.toNat = 24 then
          c_575_470 d x1 h1
        else if h1 10 617 x1.toNat = 25 then
          c_575_478 d x1 (h1 10 617 x1.toNat) h1
        else if h1 10 617 x1.toNat = 26 then
          c_575_478 d x1 (h1 10 617 x1.toNat) h1
        else if h1 10 617 x1.toNat = 27 then
          c_575_478 d x1 (h1 10 617 x1.toNat) h1
        else 
          c_575_487 d x1 (h1 10 617 x1.toNat) h1
      else
        cv_ (fj_run d 591 h1 [(4, 602), (0, x1)])
          (fun h5 =>
          some (.inl none, h5))
          (fun q7 h5 => tx_ q7 h5)
    else
      cv_ (fj_run d 578 h1 [(4, 602), (0, x1)])
        (fun h8 =>
        some (.inl none, h8))
        (fun q10 h8 => tx_ q10 h8)
    else none)
    (fun q3 h1 => tx_ q3 h1) := by
  rw [fj_run_eq d (by decide) h [(4, 602), (0, x1)] (Nat.le_of_ble_eq_true (by rw [nl_575]; rfl))]
  show gG (fj_run d) 575 0 [(0, (4, 602)), (1, (0, x1))] [] h = _
  exact
    have D : fk_D 575 [(0, none, .aload_n 0, 1, 0, 0, 0), (1, none, .invokevirtual 910, 3, 0, 411, 0), (4, none, .aload_n 0, 1, 0, 0, 0), (5, none, .getfield 62, 3, 418, 129, 12), (8, none, .iload_n 1, 1, 0, 0, 0), (9, none, .iaload, 1, 0, 0, 0), (10, none, .istore_n 2, 1, 0, 0, 0), (11, none, .iload_n 2, 1, 0, 0, 0), (12, none, .bipush 60, 2, 0, 60, 0), (14, none, .if_icmp .lt 9, 3, 23, 0, 0), (17, none, .aload_n 0, 1, 0, 0, 0), (18, none, .iload_n 1, 1, 0, 0, 0), (19, none, .invokevirtual 963, 3, 1, 415, 0), (22, none, .return_, 1, 0, 0, 0)] := fq_of2 cd_575 ow_575 cl_575 rfl (pc := 0) (by decide +kernel)
    j_aldn (pc := 0) D rfl rfl rfl fun D =>
    j_ivv (pc := 1) (m := 576) (dd := 411) (a := []) (rest := []) D rfl rfl rfl rfl rfl (by decide) (s0_602 H) (by decide +kernel) (fun h1 e1 D =>
      have T := fj_run_ok _ _ _ _ _ _ H.1 e1
      have H := shp_st H T
      j_aldn (pc := 4) D rfl rfl rfl fun D =>
      j_gfc (pc := 5) (a := 602) D rfl rfl (by decide) rfl (s0_602 H) rfl (sf_418_602 H) fun D =>
      j_ildn (pc := 8) D rfl rfl rfl fun D =>
      j_al (pc := 9) (a := 617) (e := 10) D rfl rfl rfl (by decide) (s0_617 H) (s1_617 H) ⟨rfl, rfl, rfl⟩ rfl gn fun qb4 D =>
      j_istn (pc := 10) (L' := [(2, (0, h1 10 617 x1.toNat)), (0, (4, 602)), (1, (0, x1))]) D rfl nl_575 rfl rfl fun D =>
      j_ildn (pc := 11) D rfl rfl rfl fun D =>
      j_bp (pc := 12) D rfl fun D =>
      j_ilt (pc := 14) D rfl (fun q =>
        have D : fk_D 575 [(23, none, .iload_n 2, 1, 0, 0, 0), (24, none, .bipush 30, 2, 0, 30, 0), (26, none, .if_icmp .lt 9, 3, 35, 0, 0), (29, none, .aload_n 0, 1, 0, 0, 0), (30, none, .iload_n 1, 1, 0, 0, 0), (31, none, .invokevirtual 966, 3, 1, 416, 0), (34, none, .return_, 1, 0, 0, 0)] := fq_of2 cd_575 ow_575 cl_575 rfl (pc := 23) (by decide +kernel)
        j_ildn (pc := 23) D rfl rfl rfl fun D =>
        j_bp (pc := 24) D rfl fun D =>
        j_ilt (pc := 26) D rfl (fun q =>
          have D : fk_D 575 [(35, none, .iload_n 2, 1, 0, 0, 0), (36, none, .tableswitch 451 1 27 #[124, 124, 165, 451, 451, 451, 451, 451, 451, 451, 451, 451, 451, 451, 196, 219, 261, 303, 326, 338, 355, 368, 412, 434, 442, 442, 442], 124, 0, 0, 0)] := fq_of3 cd_575 ow_575 cl_575 rfl (pc := 35) (by decide +kernel)
          j_ildn (pc := 35) D rfl rfl rfl fun D =>
          have N : fk_ni (h1 10 617 x1.toNat) [] := trivial
          j_tc (pc := 36) 1 (t := 160) D N rfl (by decide +kernel) (fun q =>
            fk_jump cut_575_160 rfl rfl) (fun N =>
            j_tc 2 (t := 160) D N rfl (by decide +kernel) (fun q =>
              fk_jump cut_575_160 rfl rfl) (fun N =>
              j_tc 3 (t := 201) D N rfl (by decide +kernel) (fun q =>
                fk_jump cut_575_201 rfl rfl) (fun N =>
                j_tc 15 (t := 232) D N rfl (by decide +kernel) (fun q =>
                  fk_jump cut_575_232 rfl rfl) (fun N =>
                  j_tc 16 (t := 255) D N rfl (by decide +kernel) (fun q =>
                    fk_jump cut_575_255 rfl rfl) (fun N =>
                    j_tc 17 (t := 297) D N rfl (by decide +kernel) (fun q =>
                      fk_jump cut_575_297 rfl rfl) (fun N =>
                      j_tc 18 (t := 339) D N rfl (by decide +kernel) (fun q =>
                        fk_jump cut_575_339 rfl rfl) (fun N =>
                        j_tc 19 (t := 362) D N rfl (by decide +kernel) (fun q =>
                          fk_jump cut_575_362 rfl rfl) (fun N =>
                          j_tc 20 (t := 374) D N rfl (by decide +kernel) (fun q =>
                            fk_jump cut_575_374 rfl rfl) (fun N =>
                            j_tc 21 (t := 391) D N rfl (by decide +kernel) (fun q =>
                              fk_jump cut_575_391 rfl rfl) (fun N =>
                              j_tc 22 (t := 404) D N rfl (by decide +kernel) (fun q =>
                                fk_jump cut_575_404 rfl rfl) (fun N =>
                                j_tc 23 (t := 448) D N rfl (by decide +kernel) (fun q =>
                                  fk_jump cut_575_448 rfl rfl) (fun N =>
                                  j_tc 24 (t := 470) D N rfl (by decide +kernel) (fun q =>
                                    fk_jump cut_575_470 rfl rfl) (fun N =>
                                    j_tc 25 (t := 478) D N rfl (by decide +kernel) (fun q =>
                                      fk_jump cut_575_478 rfl rfl) (fun N =>
                                      j_tc 26 (t := 478) D N rfl (by decide +kernel) (fun q =>
                                        fk_jump cut_575_478 rfl rfl) (fun N =>
                                        j_tc 27 (t := 478) D N rfl (by decide +kernel) (fun q =>
                                          fk_jump cut_575_478 rfl rfl) (fun N =>
                                          j_td (t := 487) D N rfl (by decide +kernel) (by decide +kernel) <|
                                          fk_jump cut_575_487 rfl rfl))))))))))))))))) (fun q D =>
          j_aldn (pc := 29) D rfl rfl rfl fun D =>
          j_ildn (pc := 30) D rfl rfl rfl fun D =>
          j_ivv (pc := 31) (m := 591) (dd := 416) (a := [(0, x1)]) (rest := []) D rfl rfl rfl rfl rfl (by decide) (s0_602 H) (by decide +kernel) (fun h5 e1 D =>
            have T := fj_run_ok _ _ _ _ _ _ H.1 e1
            have H := shp_st H T
            j_vret D rt_575) (fun q7 h5 e1 =>
            j_tx (hx_575 _)))) (fun q D =>
        j_aldn (pc := 17) D rfl rfl rfl fun D =>
        j_ildn (pc := 18) D rfl rfl rfl fun D =>
        j_ivv (pc := 19) (m := 578) (dd := 415) (a := [(0, x1)]) (rest := []) D rfl rfl rfl rfl rfl (by decide) (s0_602 H) (by decide +kernel) (fun h8 e1 D =>
          have T := fj_run_ok _ _ _ _ _ _ H.1 e1
          have H := shp_st H T
          j_vret D rt_575) (fun q10 h8 e1 =>
          j_tx (hx_575 _)))) (fun q3 h1 e1 =>
      j_tx (hx_575 _))
/-! 576 StatuteHouseModel.step()V -/
theorem cd_576 : fi_code 576 = prog_69_method_95_code := rfl
theorem hx_576 : ∀ pc, fi_hat 576 pc = none := fun pc => by unfold fi_hat; rw [show fi_hh 576 = [] from rfl]; rfl
theorem rt_576 : fi_ret 576 = none := rfl
theorem nl_576 : fi_nl 576 = 1 := rfl
theorem ow_576 : fi_ow 576 = 29 := rfl
theorem cl_576 : fj_cutT.getD 576 [] = [(15, [0])] := rfl
theorem cut_576_15 : fj_cut 576 15 = some [0] := by decide +kernel
noncomputable def c_576_15 (d : Nat) (h : fi_H) : fk_R := gG (fj_run d) 576 15 [(0, (4, 602))] [] h
theorem e_576_15 (d : Nat) {h : fi_H} (H : Shp h) : c_576_15 d h =
  lt_ (fi_upd h 481 602 0 (wI ((h 481 602 0) + 1))) fun h1 =>
  some (.inl none, h1) := by
  unfold c_576_15
  exact
    have D : fk_D 576 [(15, some [0], .aload_n 0, 1, 0, 0, 0), (16, none, .dup, 1, 0, 0, 0), (17, none, .getfield 851, 3, 481, 129, 10), (20, none, .iconst 1, 1, 0, 1, 0), (21, none, .iadd, 1, 0, 0, 0), (22, none, .putfield 851, 3, 481, 129, 10), (25, none, .return_, 1, 0, 0, 0)] := fq_of2 cd_576 ow_576 cl_576 rfl (pc := 15) (by decide +kernel)
    j_aldn (pc := 15) D rfl rfl rfl fun D =>
    j_sh (pc := 16) D rfl rfl rfl fun D =>
    j_gf (pc := 17) (a := 602) D rfl rfl (by decide) rfl (s0_602 H) rfl fun D =>
    j_ic (pc := 20) D rfl fun D =>
    j_iadd (pc := 21) D rfl fun D =>
    j_pf (pc := 22) (a := 602) D rfl rfl rfl (s0_602 H) rfl rfl (gy (by decide)) (gy rfl) fun h1 eh1 S D =>
    have T := fj_hs_ok H.1 S
    have H := shp_st H T
    j_vret D rt_576
theorem m_576 (d : Nat) {h : fi_H} (H : Shp h) : fj_run (d + 1) 576 h [(4, 602)] =
  if h 481 602 0 = 10000 then
    cv_ (fj_run d 577 h [(4, 602), (0, 5)])
      (fun h1 =>
      c_576_15 d h1)
      (fun q3 h1 => tx_ q3 h1)
  else
    c_576_15 d h := by
  rw [fj_run_eq d (by decide) h [(4, 602)] (Nat.le_of_ble_eq_true (by rw [nl_576]; rfl))]
  show gG (fj_run d) 576 0 [(0, (4, 602))] [] h = _
  exact
    have D : fk_D 576 [(0, none, .aload_n 0, 1, 0, 0, 0), (1, none, .getfield 851, 3, 481, 129, 10), (4, none, .sipush 10000, 3, 0, 10000, 0), (7, none, .if_icmp .ne 8, 3, 15, 0, 0), (10, none, .aload_n 0, 1, 0, 0, 0), (11, none, .iconst 5, 1, 0, 5, 0), (12, none, .invokevirtual 854, 3, 1, 403, 0)] := fq_of2 cd_576 ow_576 cl_576 rfl (pc := 0) (by decide +kernel)
    j_aldn (pc := 0) D rfl rfl rfl fun D =>
    j_gf (pc := 1) (a := 602) D rfl rfl (by decide) rfl (s0_602 H) rfl fun D =>
    j_sp (pc := 4) D rfl fun D =>
    j_ine (pc := 7) D rfl (fun q D =>
      j_aldn (pc := 10) D rfl rfl rfl fun D =>
      j_ic (pc := 11) D rfl fun D =>
      j_ivv (pc := 12) (m := 577) (dd := 403) (a := [(0, 5)]) (rest := []) D rfl rfl rfl rfl rfl (by decide) (s0_602 H) (by decide +kernel) (fun h1 e1 D =>
        have T := fj_run_ok _ _ _ _ _ _ H.1 e1
        have H := shp_st H T
        fk_jump cut_576_15 rfl rfl) (fun q3 h1 e1 =>
        j_tx (hx_576 _))) (fun q =>
      fk_jump cut_576_15 rfl rfl)
/-! 577 StatuteHouseModel.fail(I)V -/
theorem cd_577 : fi_code 577 = prog_69_method_94_code := rfl
theorem hx_577 : ∀ pc, fi_hat 577 pc = none := fun pc => by unfold fi_hat; rw [show fi_hh 577 = [] from rfl]; rfl
theorem rt_577 : fi_ret 577 = none := rfl
theorem nl_577 : fi_nl 577 = 2 := rfl
theorem ow_577 : fi_ow 577 = 29 := rfl
theorem cl_577 : fj_cutT.getD 577 [] = [(28, [0]), (54, [0]), (80, [0]), (99, [0]), (118, [0])] := rfl
theorem cut_577_28 : fj_cut 577 28 = some [0] := by decide +kernel
noncomputable def c_577_28 (d : Nat) (s0 s1 : Int) (h : fi_H) : fk_R := gG (fj_run d) 577 28 [(0, (4, 602))] [(0, s1), (4, s0)] h
theorem cut_577_54 : fj_cut 577 54 = some [0] := by decide +kernel
noncomputable def c_577_54 (d : Nat) (s0 s1 : Int) (h : fi_H) : fk_R := gG (fj_run d) 577 54 [(0, (4, 602))] [(0, s1), (4, s0)] h
theorem cut_577_80 : fj_cut 577 80 = some [0] := by decide +kernel
noncomputable def c_577_80 (d : Nat) (s0 s1 : Int) (h : fi_H) : fk_R := gG (fj_run d) 577 80 [(0, (4, 602))] [(0, s1), (4, s0)] h
theorem cut_577_99 : fj_cut 577 99 = some [0] := by decide +kernel
noncomputable def c_577_99 (d : Nat) (s0 s1 : Int) (h : fi_H) : fk_R := gG (fj_run d) 577 99 [(0, (4, 602))] [(0, s1), (4, s0)] h
theorem cut_577_118 : fj_cut 577 118 = some [0] := by decide +kernel
noncomputable def c_577_118 (d : Nat) (s0 s1 : Int) (h : fi_H) : fk_R := gG (fj_run d) 577 118 [(0, (4, 602))] [(0, s1), (4, s0)] h
theorem e_577_28 (d : Nat) (s0 s1 : Int) {h : fi_H} (H : Shp h) : c_577_28 d s0 s1 h =
  if h 0 s0.toNat 0 = 129 then
  if 302 < s0 then
  lt_ (fi_upd h 476 s0.toNat 0 s1) fun h1 =>
  if 0 < h1 486 602 0 then
    if 0 ≤ wI ((h1 486 602 0) - 1) ∧ wI ((h1 486 602 0) - 1) < 12 then
    c_577_54 d 602 (h1 10 664 (wI ((h1 486 602 0) - 1)).toNat) h1
    else none
  else
    c_577_54 d 602 (-1) h1
  else none
  else none := by
  unfold c_577_28
  exact
    have D : fk_D 577 [(28, some [0], .putfield 212, 3, 476, (-129), 10), (31, none, .aload_n 0, 1, 0, 0, 0), (32, none, .aload_n 0, 1, 0, 0, 0), (33, none, .getfield 842, 3, 486, 129, 10), (36, none, .ifCond .le 17, 3, 53, 0, 0), (39, none, .aload_n 0, 1, 0, 0, 0), (40, none, .getfield 230, 3, 490, 129, 12), (43, none, .aload_n 0, 1, 0, 0, 0), (44, none, .getfield 842, 3, 486, 129, 10), (47, none, .iconst 1, 1, 0, 1, 0), (48, none, .isub, 1, 0, 0, 0), (49, none, .iaload, 1, 0, 0, 0), (50, none, .goto 4, 3, 54, 0, 0)] := fq_of2 cd_577 ow_577 cl_577 rfl (pc := 28) (by decide +kernel)
    j_pfo (pc := 28) D rfl rfl rfl rfl rfl gn gn (gy rfl) fun h1 eh1 S kc2 D =>
    have T := fj_hs_ok H.1 S
    have H := shp_st H T
    j_aldn (pc := 31) D rfl rfl rfl fun D =>
    j_aldn (pc := 32) D rfl rfl rfl fun D =>
    j_gf (pc := 33) (a := 602) D rfl rfl (by decide) rfl (s0_602 H) rfl fun D =>
    j_ifle (pc := 36) D rfl (fun q D =>
      j_aldn (pc := 39) D rfl rfl rfl fun D =>
      j_gfc (pc := 40) (a := 602) D rfl rfl (by decide) rfl (s0_602 H) rfl (sf_490_602 H) fun D =>
      j_aldn (pc := 43) D rfl rfl rfl fun D =>
      j_gf (pc := 44) (a := 602) D rfl rfl (by decide) rfl (s0_602 H) rfl fun D =>
      j_ic (pc := 47) D rfl fun D =>
      j_isub (pc := 48) D rfl fun D =>
      j_al (pc := 49) (a := 664) (e := 10) D rfl rfl rfl (by decide) (s0_664 H) (s1_664 H) ⟨rfl, rfl, rfl⟩ rfl gn fun qb3 D =>
      j_goto (pc := 50) D rfl <|
      fk_jump cut_577_54 rfl rfl) (fun q =>
      have D : fk_D 577 [(53, none, .iconst (-1), 1, 0, (-1), 0)] := fq_of2 cd_577 ow_577 cl_577 rfl (pc := 53) (by decide +kernel)
      j_ic (pc := 53) D rfl fun D =>
      fk_jump cut_577_54 rfl rfl)
theorem e_577_54 (d : Nat) (s0 s1 : Int) {h : fi_H} (H : Shp h) : c_577_54 d s0 s1 h =
  if h 0 s0.toNat 0 = 129 then
  if 302 < s0 then
  lt_ (fi_upd h 477 s0.toNat 0 s1) fun h1 =>
  if 0 < h1 486 602 0 then
    if 0 ≤ wI ((h1 486 602 0) - 1) ∧ wI ((h1 486 602 0) - 1) < 12 then
    c_577_80 d 602 (h1 10 665 (wI ((h1 486 602 0) - 1)).toNat) h1
    else none
  else
    c_577_80 d 602 (-1) h1
  else none
  else none := by
  unfold c_577_54
  exact
    have D : fk_D 577 [(54, some [0], .putfield 215, 3, 477, (-129), 10), (57, none, .aload_n 0, 1, 0, 0, 0), (58, none, .aload_n 0, 1, 0, 0, 0), (59, none, .getfield 842, 3, 486, 129, 10), (62, none, .ifCond .le 17, 3, 79, 0, 0), (65, none, .aload_n 0, 1, 0, 0, 0), (66, none, .getfield 233, 3, 491, 129, 12), (69, none, .aload_n 0, 1, 0, 0, 0), (70, none, .getfield 842, 3, 486, 129, 10), (73, none, .iconst 1, 1, 0, 1, 0), (74, none, .isub, 1, 0, 0, 0), (75, none, .iaload, 1, 0, 0, 0), (76, none, .goto 4, 3, 80, 0, 0)] := fq_of2 cd_577 ow_577 cl_577 rfl (pc := 54) (by decide +kernel)
    j_pfo (pc := 54) D rfl rfl rfl rfl rfl gn gn (gy rfl) fun h1 eh1 S kc2 D =>
    have T := fj_hs_ok H.1 S
    have H := shp_st H T
    j_aldn (pc := 57) D rfl rfl rfl fun D =>
    j_aldn (pc := 58) D rfl rfl rfl fun D =>
    j_gf (pc := 59) (a := 602) D rfl rfl (by decide) rfl (s0_602 H) rfl fun D =>
    j_ifle (pc := 62) D rfl (fun q D =>
      j_aldn (pc := 65) D rfl rfl rfl fun D =>
      j_gfc (pc := 66) (a := 602) D rfl rfl (by decide) rfl (s0_602 H) rfl (sf_491_602 H) fun D =>
      j_aldn (pc := 69) D rfl rfl rfl fun D =>
      j_gf (pc := 70) (a := 602) D rfl rfl (by decide) rfl (s0_602 H) rfl fun D =>
      j_ic (pc := 73) D rfl fun D =>
      j_isub (pc := 74) D rfl fun D =>
      j_al (pc := 75) (a := 665) (e := 10) D rfl rfl rfl (by decide) (s0_665 H) (s1_665 H) ⟨rfl, rfl, rfl⟩ rfl gn fun qb3 D =>
      j_goto (pc := 76) D rfl <|
      fk_jump cut_577_80 rfl rfl) (fun q =>
      have D : fk_D 577 [(79, none, .iconst (-1), 1, 0, (-1), 0)] := fq_of2 cd_577 ow_577 cl_577 rfl (pc := 79) (by decide +kernel)
      j_ic (pc := 79) D rfl fun D =>
      fk_jump cut_577_80 rfl rfl)
theorem e_577_80 (d : Nat) (s0 s1 : Int) {h : fi_H} (H : Shp h) : c_577_80 d s0 s1 h =
  if h 0 s0.toNat 0 = 129 then
  if 302 < s0 then
  lt_ (fi_upd h 478 s0.toNat 0 s1) fun h1 =>
  if 0 < h1 486 602 0 then
    c_577_99 d 602 (h1 487 602 0) h1
  else
    c_577_99 d 602 (-1) h1
  else none
  else none := by
  unfold c_577_80
  exact
    have D : fk_D 577 [(80, some [0], .putfield 218, 3, 478, (-129), 10), (83, none, .aload_n 0, 1, 0, 0, 0), (84, none, .aload_n 0, 1, 0, 0, 0), (85, none, .getfield 842, 3, 486, 129, 10), (88, none, .ifCond .le 10, 3, 98, 0, 0), (91, none, .aload_n 0, 1, 0, 0, 0), (92, none, .getfield 224, 3, 487, 129, 10), (95, none, .goto 4, 3, 99, 0, 0)] := fq_of2 cd_577 ow_577 cl_577 rfl (pc := 80) (by decide +kernel)
    j_pfo (pc := 80) D rfl rfl rfl rfl rfl gn gn (gy rfl) fun h1 eh1 S kc2 D =>
    have T := fj_hs_ok H.1 S
    have H := shp_st H T
    j_aldn (pc := 83) D rfl rfl rfl fun D =>
    j_aldn (pc := 84) D rfl rfl rfl fun D =>
    j_gf (pc := 85) (a := 602) D rfl rfl (by decide) rfl (s0_602 H) rfl fun D =>
    j_ifle (pc := 88) D rfl (fun q D =>
      j_aldn (pc := 91) D rfl rfl rfl fun D =>
      j_gf (pc := 92) (a := 602) D rfl rfl (by decide) rfl (s0_602 H) rfl fun D =>
      j_goto (pc := 95) D rfl <|
      fk_jump cut_577_99 rfl rfl) (fun q =>
      have D : fk_D 577 [(98, none, .iconst (-1), 1, 0, (-1), 0)] := fq_of2 cd_577 ow_577 cl_577 rfl (pc := 98) (by decide +kernel)
      j_ic (pc := 98) D rfl fun D =>
      fk_jump cut_577_99 rfl rfl)
theorem e_577_99 (d : Nat) (s0 s1 : Int) {h : fi_H} (H : Shp h) : c_577_99 d s0 s1 h =
  if h 0 s0.toNat 0 = 129 then
  if 302 < s0 then
  lt_ (fi_upd h 479 s0.toNat 0 s1) fun h1 =>
  if 0 < h1 486 602 0 then
    c_577_118 d 602 (h1 488 602 0) h1
  else
    c_577_118 d 602 0 h1
  else none
  else none := by
  unfold c_577_99
  exact
    have D : fk_D 577 [(99, some [0], .putfield 221, 3, 479, (-129), 10), (102, none, .aload_n 0, 1, 0, 0, 0), (103, none, .aload_n 0, 1, 0, 0, 0), (104, none, .getfield 842, 3, 486, 129, 10), (107, none, .ifCond .le 10, 3, 117, 0, 0), (110, none, .aload_n 0, 1, 0, 0, 0), (111, none, .getfield 845, 3, 488, 129, 10), (114, none, .goto 4, 3, 118, 0, 0)] := fq_of2 cd_577 ow_577 cl_577 rfl (pc := 99) (by decide +kernel)
    j_pfo (pc := 99) D rfl rfl rfl rfl rfl gn gn (gy rfl) fun h1 eh1 S kc2 D =>
    have T := fj_hs_ok H.1 S
    have H := shp_st H T
    j_aldn (pc := 102) D rfl rfl rfl fun D =>
    j_aldn (pc := 103) D rfl rfl rfl fun D =>
    j_gf (pc := 104) (a := 602) D rfl rfl (by decide) rfl (s0_602 H) rfl fun D =>
    j_ifle (pc := 107) D rfl (fun q D =>
      j_aldn (pc := 110) D rfl rfl rfl fun D =>
      j_gf (pc := 111) (a := 602) D rfl rfl (by decide) rfl (s0_602 H) rfl fun D =>
      j_goto (pc := 114) D rfl <|
      fk_jump cut_577_118 rfl rfl) (fun q =>
      have D : fk_D 577 [(117, none, .iconst 0, 1, 0, 0, 0)] := fq_of2 cd_577 ow_577 cl_577 rfl (pc := 117) (by decide +kernel)
      j_ic (pc := 117) D rfl fun D =>
      fk_jump cut_577_118 rfl rfl)
theorem e_577_118 (d : Nat) (s0 s1 : Int) {h : fi_H} (H : Shp h) : c_577_118 d s0 s1 h =
  if h 0 s0.toNat 0 = 129 then
  if 302 < s0 then
  lt_ (fi_upd h 480 s0.toNat 0 s1) fun h1 =>
  tx_ 603 h1
  else none
  else none := by
  unfold c_577_118
  exact
    have D : fk_D 577 [(118, some [0], .putfield 848, 3, 480, (-129), 10), (121, none, .aload_n 0, 1, 0, 0, 0), (122, none, .getfield 12, 3, 383, 129, 12), (125, none, .athrow, 1, 0, 0, 0)] := fq_of2 cd_577 ow_577 cl_577 rfl (pc := 118) (by decide +kernel)
    j_pfo (pc := 118) D rfl rfl rfl rfl rfl gn gn (gy rfl) fun h1 eh1 S kc2 D =>
    have T := fj_hs_ok H.1 S
    have H := shp_st H T
    j_aldn (pc := 121) D rfl rfl rfl fun D =>
    j_gfc (pc := 122) (a := 602) D rfl rfl (by decide) rfl (s0_602 H) rfl (sf_383_602 H) fun D =>
    j_at (pc := 125) D (gy (by decide)) <|
    j_tx (hx_577 _)
theorem m_577 (d : Nat) (x1 : Int) {h : fi_H} (H : Shp h) : fj_run (d + 1) 577 h [(4, 602), (0, x1)] =
  lt_ (fi_upd h 475 602 0 x1) fun h1 =>
  if 0 < h1 486 602 0 then
    if 0 ≤ wI ((h1 486 602 0) - 1) ∧ wI ((h1 486 602 0) - 1) < 12 then
    c_577_28 d 602 (h1 10 663 (wI ((h1 486 602 0) - 1)).toNat) h1
    else none
  else
    c_577_28 d 602 (-1) h1 := by
  rw [fj_run_eq d (by decide) h [(4, 602), (0, x1)] (Nat.le_of_ble_eq_true (by rw [nl_577]; rfl))]
  show gG (fj_run d) 577 0 [(0, (4, 602)), (1, (0, x1))] [] h = _
  exact
    have D : fk_D 577 [(0, none, .aload_n 0, 1, 0, 0, 0), (1, none, .iload_n 1, 1, 0, 0, 0), (2, none, .putfield 839, 3, 475, 129, 10), (5, none, .aload_n 0, 1, 0, 0, 0), (6, none, .aload_n 0, 1, 0, 0, 0), (7, none, .getfield 842, 3, 486, 129, 10), (10, none, .ifCond .le 17, 3, 27, 0, 0), (13, none, .aload_n 0, 1, 0, 0, 0), (14, none, .getfield 227, 3, 489, 129, 12), (17, none, .aload_n 0, 1, 0, 0, 0), (18, none, .getfield 842, 3, 486, 129, 10), (21, none, .iconst 1, 1, 0, 1, 0), (22, none, .isub, 1, 0, 0, 0), (23, none, .iaload, 1, 0, 0, 0), (24, none, .goto 4, 3, 28, 0, 0)] := fq_of2 cd_577 ow_577 cl_577 rfl (pc := 0) (by decide +kernel)
    j_aldn (pc := 0) D rfl rfl rfl fun D =>
    j_ildn (pc := 1) D rfl rfl rfl fun D =>
    j_pf (pc := 2) (a := 602) D rfl rfl rfl (s0_602 H) rfl rfl (gy (by decide)) (gy rfl) fun h1 eh1 S D =>
    have T := fj_hs_ok H.1 S
    have H := shp_st H T
    j_aldn (pc := 5) D rfl rfl rfl fun D =>
    j_aldn (pc := 6) D rfl rfl rfl fun D =>
    j_gf (pc := 7) (a := 602) D rfl rfl (by decide) rfl (s0_602 H) rfl fun D =>
    j_ifle (pc := 10) D rfl (fun q D =>
      j_aldn (pc := 13) D rfl rfl rfl fun D =>
      j_gfc (pc := 14) (a := 602) D rfl rfl (by decide) rfl (s0_602 H) rfl (sf_489_602 H) fun D =>
      j_aldn (pc := 17) D rfl rfl rfl fun D =>
      j_gf (pc := 18) (a := 602) D rfl rfl (by decide) rfl (s0_602 H) rfl fun D =>
      j_ic (pc := 21) D rfl fun D =>
      j_isub (pc := 22) D rfl fun D =>
      j_al (pc := 23) (a := 663) (e := 10) D rfl rfl rfl (by decide) (s0_663 H) (s1_663 H) ⟨rfl, rfl, rfl⟩ rfl gn fun qb2 D =>
      j_goto (pc := 24) D rfl <|
      fk_jump cut_577_28 rfl rfl) (fun q =>
      have D : fk_D 577 [(27, none, .iconst (-1), 1, 0, (-1), 0)] := fq_of2 cd_577 ow_577 cl_577 rfl (pc := 27) (by decide +kernel)
      j_ic (pc := 27) D rfl fun D =>
      fk_jump cut_577_28 rfl rfl)
/-! 578 StatuteHouseModel.workSet(I)V -/
theorem cd_578 : fi_code 578 = prog_69_method_126_code := rfl
theorem hx_578 : ∀ pc, fi_hat 578 pc = none := fun pc => by unfold fi_hat; rw [show fi_hh 578 = [] from rfl]; rfl
theorem rt_578 : fi_ret 578 = none := rfl
theorem nl_578 : fi_nl 578 = 14 := rfl
theorem ow_578 : fi_ow 578 = 29 := rfl
theorem cl_578 : fj_cutT.getD 578 [] = [(39, [0, 1, 2, 3, 4, 5]), (68, [0, 1, 2, 3, 4, 5, 7, 9, 10]), (73, [0, 1, 2, 3, 4, 5, 7, 9, 10, 11, 12]), (146, [0, 1, 2, 3, 4, 5, 7, 9, 10, 11, 12]), (228, [0, 1, 2, 3, 4, 5, 7, 11, 12]), (243, [0, 1, 2, 3, 4, 5, 7, 11, 12]), (247, [0, 1, 2, 3, 4, 5, 7, 11, 12]), (248, [0, 1, 2, 3, 4, 5, 7, 11, 12]), (281, [0, 1, 2, 3, 4, 5, 7, 9, 10, 11, 12]), (307, [0, 1, 2, 3, 4, 10, 11, 12]), (319, [0, 1, 2, 3, 4, 5, 7, 10, 11, 12]), (322, [0, 1, 2, 3, 4, 5, 7, 9, 10, 11, 12]), (328, [0, 2, 5, 7, 9, 10]), (360, []), (386, [0, 5, 7])] := rfl
theorem cut_578_39 : fj_cut 578 39 = some [0, 1, 2, 3, 4, 5] := by decide +kernel
noncomputable def c_578_39 (d : Nat) (x1 x2 x3 x4 x5 s0 : Int) (h : fi_H) : fk_R := gG (fj_run d) 578 39 [(0, (4, 602)), (1, (0, x1)), (2, (0, x2)), (3, (0, x3)), (4, (0, x4)), (5, (1, x5))] [(1, s0)] h
theorem cut_578_68 : fj_cut 578 68 = some [0, 1, 2, 3, 4, 5, 7, 9, 10] := by decide +kernel
noncomputable def c_578_68 (d : Nat) (x1 x2 x3 x4 x5 x7 x9 x10 s0 : Int) (h : fi_H) : fk_R := gG (fj_run d) 578 68 [(0, (4, 602)), (1, (0, x1)), (2, (0, x2)), (3, (0, x3)), (4, (0, x4)), (5, (1, x5)), (7, (1, x7)), (9, (0, x9)), (10, (0, x10))] [(0, s0)] h
theorem cut_578_73 : fj_cut 578 73 = some [0, 1, 2, 3, 4, 5, 7, 9, 10, 11, 12] := by decide +kernel
noncomputable def c_578_73 (d : Nat) (x1 x2 x3 x4 x5 x7 x9 x10 x11 x12 : Int) (h : fi_H) : fk_R := gG (fj_run d) 578 73 [(0, (4, 602)), (1, (0, x1)), (2, (0, x2)), (3, (0, x3)), (4, (0, x4)), (5, (1, x5)), (7, (1, x7)), (9, (0, x9)), (10, (0, x10)), (11, (0, x11)), (12, (0, x12))] [] h
theorem cut_578_146 : fj_cut 578 146 = some [0, 1, 2, 3, 4, 5, 7, 9, 10, 11, 12] := by decide +kernel
noncomputable def c_578_146 (d : Nat) (x1 x2 x3 x4 x5 x7 x9 x10 x11 x12 : Int) (h : fi_H) : fk_R := gG (fj_run d) 578 146 [(0, (4, 602)), (1, (0, x1)), (2, (0, x2)), (3, (0, x3)), (4, (0, x4)), (5, (1, x5)), (7, (1, x7)), (9, (0, x9)), (10, (0, x10)), (11, (0, x11)), (12, (0, x12))] [] h
theorem cut_578_228 : fj_cut 578 228 = some [0, 1, 2, 3, 4, 5, 7, 11, 12] := by decide +kernel
noncomputable def c_578_228 (d : Nat) (x1 x2 x3 x4 x5 x7 x11 x12 : Int) (h : fi_H) : fk_R := gG (fj_run d) 578 228 [(0, (4, 602)), (1, (0, x1)), (2, (0, x2)), (3, (0, x3)), (4, (0, x4)), (5, (1, x5)), (7, (1, x7)), (11, (0, x11)), (12, (0, x12))] [] h
theorem cut_578_243 : fj_cut 578 243 = some [0, 1, 2, 3, 4, 5, 7, 11, 12] := by decide +kernel
noncomputable def c_578_243 (d : Nat) (x1 x2 x3 x4 x5 x7 x11 x12 : Int) (h : fi_H) : fk_R := gG (fj_run d) 578 243 [(0, (4, 602)), (1, (0, x1)), (2, (0, x2)), (3, (0, x3)), (4, (0, x4)), (5, (1, x5)), (7, (1, x7)), (11, (0, x11)), (12, (0, x12))] [] h
theorem cut_578_247 : fj_cut 578 247 = some [0, 1, 2, 3, 4, 5, 7, 11, 12] := by decide +kernel
noncomputable def c_578_247 (d : Nat) (x1 x2 x3 x4 x5 x7 x11 x12 : Int) (h : fi_H) : fk_R := gG (fj_run d) 578 247 [(0, (4, 602)), (1, (0, x1)), (2, (0, x2)), (3, (0, x3)), (4, (0, x4)), (5, (1, x5)), (7, (1, x7)), (11, (0, x11)), (12, (0, x12))] [] h
theorem cut_578_248 : fj_cut 578 248 = some [0, 1, 2, 3, 4, 5, 7, 11, 12] := by decide +kernel
noncomputable def c_578_248 (d : Nat) (x1 x2 x3 x4 x5 x7 x11 x12 s0 : Int) (h : fi_H) : fk_R := gG (fj_run d) 578 248 [(0, (4, 602)), (1, (0, x1)), (2, (0, x2)), (3, (0, x3)), (4, (0, x4)), (5, (1, x5)), (7, (1, x7)), (11, (0, x11)), (12, (0, x12))] [(0, s0)] h
theorem cut_578_281 : fj_cut 578 281 = some [0, 1, 2, 3, 4, 5, 7, 9, 10, 11, 12] := by decide +kernel
noncomputable def c_578_281 (d : Nat) (x1 x2 x3 x4 x5 x7 x9 x10 x11 x12 s0 : Int) (h : fi_H) : fk_R := gG (fj_run d) 578 281 [(0, (4, 602)), (1, (0, x1)), (2, (0, x2)), (3, (0, x3)), (4, (0, x4)), (5, (1, x5)), (7, (1, x7)), (9, (0, x9)), (10, (0, x10)), (11, (0, x11)), (12, (0, x12))] [(0, s0)] h
theorem cut_578_307 : fj_cut 578 307 = some [0, 1, 2, 3, 4, 10, 11, 12] := by decide +kernel
noncomputable def c_578_307 (d : Nat) (x1 x2 x3 x4 x10 x11 x12 : Int) (h : fi_H) : fk_R := gG (fj_run d) 578 307 [(0, (4, 602)), (1, (0, x1)), (2, (0, x2)), (3, (0, x3)), (4, (0, x4)), (10, (0, x10)), (11, (0, x11)), (12, (0, x12))] [] h
theorem cut_578_319 : fj_cut 578 319 = some [0, 1, 2, 3, 4, 5, 7, 10, 11, 12] := by decide +kernel
noncomputable def c_578_319 (d : Nat) (x1 x2 x3 x4 x5 x7 x10 x11 x12 : Int) (h : fi_H) : fk_R := gG (fj_run d) 578 319 [(0, (4, 602)), (1, (0, x1)), (2, (0, x2)), (3, (0, x3)), (4, (0, x4)), (5, (1, x5)), (7, (1, x7)), (10, (0, x10)), (11, (0, x11)), (12, (0, x12))] [] h
theorem cut_578_322 : fj_cut 578 322 = some [0, 1, 2, 3, 4, 5, 7, 9, 10, 11, 12] := by decide +kernel
noncomputable def c_578_322 (d : Nat) (x1 x2 x3 x4 x5 x7 x9 x10 x11 x12 : Int) (h : fi_H) : fk_R := gG (fj_run d) 578 322 [(0, (4, 602)), (1, (0, x1)), (2, (0, x2)), (3, (0, x3)), (4, (0, x4)), (5, (1, x5)), (7, (1, x7)), (9, (0, x9)), (10, (0, x10)), (11, (0, x11)), (12, (0, x12))] [] h
theorem cut_578_328 : fj_cut 578 328 = some [0, 2, 5, 7, 9, 10] := by decide +kernel
noncomputable def c_578_328 (d : Nat) (x2 x5 x7 x9 x10 : Int) (h : fi_H) : fk_R := gG (fj_run d) 578 328 [(0, (4, 602)), (2, (0, x2)), (5, (1, x5)), (7, (1, x7)), (9, (0, x9)), (10, (0, x10))] [] h
theorem cut_578_360 : fj_cut 578 360 = some [] := by decide +kernel
noncomputable def c_578_360 (d : Nat) (s0 s1 : Int) (h : fi_H) : fk_R := gG (fj_run d) 578 360 [] [(0, s1), (4, s0)] h
theorem cut_578_386 : fj_cut 578 386 = some [0, 5, 7] := by decide +kernel
noncomputable def c_578_386 (d : Nat) (x5 x7 : Int) (h : fi_H) : fk_R := gG (fj_run d) 578 386 [(0, (4, 602)), (5, (1, x5)), (7, (1, x7))] [] h
theorem e_578_39 (d : Nat) (x1 x2 x3 x4 x5 s0 : Int) {h : fi_H} (H : Shp h) : c_578_39 d x1 x2 x3 x4 x5 s0 h =
  if 0 ≤ x1 ∧ x1 < 9300 then
  if lc_ (h 11 623 x1.toNat) (-1) = 0 then
    ca_ (fj_run d 579 h [(4, 602)]) 0
      (fun v3 h2 =>
      c_578_68 d x1 x2 x3 x4 x5 s0 0 0 v3 h2)
      (fun q4 h2 => tx_ q4 h2)
  else
    c_578_68 d x1 x2 x3 x4 x5 s0 0 0 0 h
  else none := by
  unfold c_578_39
  exact
    have D : fk_D 578 [(39, some [0, 1, 2, 3, 4, 5], .lstore 7, 2, 0, 0, 0), (41, none, .iconst 0, 1, 0, 0, 0), (42, none, .istore 9, 2, 0, 0, 0), (44, none, .iconst 0, 1, 0, 0, 0), (45, none, .istore 10, 2, 0, 0, 0), (47, none, .aload_n 0, 1, 0, 0, 0), (48, none, .getfield 80, 3, 424, 129, 12), (51, none, .iload_n 1, 1, 0, 0, 0), (52, none, .laload, 1, 0, 0, 0), (53, none, .ldc2_w 1024, 3, 1, (-1), 0), (56, none, .lcmp, 1, 0, 0, 0), (57, none, .ifCond .ne 10, 3, 67, 0, 0), (60, none, .aload_n 0, 1, 0, 0, 0), (61, none, .invokevirtual 1067, 3, 0, 437, 1), (64, none, .goto 4, 3, 68, 0, 0)] := fq_of2 cd_578 ow_578 cl_578 rfl (pc := 39) (by decide +kernel)
    j_lst (pc := 39) (L' := [(7, (1, s0)), (0, (4, 602)), (1, (0, x1)), (2, (0, x2)), (3, (0, x3)), (4, (0, x4)), (5, (1, x5))]) D rfl nl_578 rfl rfl fun D =>
    j_ic (pc := 41) D rfl fun D =>
    j_ist (pc := 42) (L' := [(9, (0, 0)), (7, (1, s0)), (0, (4, 602)), (1, (0, x1)), (2, (0, x2)), (3, (0, x3)), (4, (0, x4)), (5, (1, x5))]) D rfl nl_578 rfl rfl fun D =>
    j_ic (pc := 44) D rfl fun D =>
    j_ist (pc := 45) (L' := [(10, (0, 0)), (9, (0, 0)), (7, (1, s0)), (0, (4, 602)), (1, (0, x1)), (2, (0, x2)), (3, (0, x3)), (4, (0, x4)), (5, (1, x5))]) D rfl nl_578 rfl rfl fun D =>
    j_aldn (pc := 47) D rfl rfl rfl fun D =>
    j_gfc (pc := 48) (a := 602) D rfl rfl (by decide) rfl (s0_602 H) rfl (sf_424_602 H) fun D =>
    j_ildn (pc := 51) D rfl rfl rfl fun D =>
    j_al (pc := 52) (a := 623) (e := 11) D rfl rfl rfl (by decide) (s0_623 H) (s1_623 H) ⟨rfl, rfl, rfl⟩ rfl gn fun qb1 D =>
    j_ldc2 (pc := 53) D rfl fun D =>
    j_lcmp (pc := 56) D rfl fun D =>
    j_ifne (pc := 57) D rfl (fun q D =>
      j_aldn (pc := 60) D rfl rfl rfl fun D =>
      j_iv (pc := 61) (m := 579) (dd := 437) (a := []) (rest := []) D rfl rfl rfl rfl rfl (by decide) (s0_602 H) (by decide +kernel) (fun v3 h2 e1 D =>
        have T := fj_run_ok _ _ _ _ _ _ H.1 e1
        have H := shp_st H T
        j_goto (pc := 64) D rfl <|
        fk_jump cut_578_68 rfl rfl) (fun q4 h2 e1 =>
        j_tx (hx_578 _))) (fun q =>
      have D : fk_D 578 [(67, none, .iconst 0, 1, 0, 0, 0)] := fq_of2 cd_578 ow_578 cl_578 rfl (pc := 67) (by decide +kernel)
      j_ic (pc := 67) D rfl fun D =>
      fk_jump cut_578_68 rfl rfl)
theorem e_578_68 (d : Nat) (x1 x2 x3 x4 x5 x7 x9 x10 s0 : Int) {h : fi_H} (H : Shp h) : c_578_68 d x1 x2 x3 x4 x5 x7 x9 x10 s0 h =
  c_578_73 d x1 x2 x3 x4 x5 x7 x9 x10 s0 0 h := by
  unfold c_578_68
  exact
    have D : fk_D 578 [(68, some [0, 1, 2, 3, 4, 5, 7, 9, 10], .istore 11, 2, 0, 0, 0), (70, none, .iconst 0, 1, 0, 0, 0), (71, none, .istore 12, 2, 0, 0, 0)] := fq_of2 cd_578 ow_578 cl_578 rfl (pc := 68) (by decide +kernel)
    j_ist (pc := 68) (L' := [(11, (0, s0)), (0, (4, 602)), (1, (0, x1)), (2, (0, x2)), (3, (0, x3)), (4, (0, x4)), (5, (1, x5)), (7, (1, x7)), (9, (0, x9)), (10, (0, x10))]) D rfl nl_578 rfl rfl fun D =>
    j_ic (pc := 70) D rfl fun D =>
    j_ist (pc := 71) (L' := [(12, (0, 0)), (11, (0, s0)), (0, (4, 602)), (1, (0, x1)), (2, (0, x2)), (3, (0, x3)), (4, (0, x4)), (5, (1, x5)), (7, (1, x7)), (9, (0, x9)), (10, (0, x10))]) D rfl nl_578 rfl rfl fun D =>
    fk_jump cut_578_73 rfl rfl
theorem e_578_73 (d : Nat) (x1 x2 x3 x4 x5 x7 x9 x10 x11 x12 : Int) {h : fi_H} (H : Shp h) : c_578_73 d x1 x2 x3 x4 x5 x7 x9 x10 x11 x12 h =
  if x12 < h 459 602 0 then
    if x10 = 0 then
      cv_ (fj_run d 576 h [(4, 602)])
        (fun h1 =>
        if 0 ≤ x1 ∧ x1 < 9300 then
        if lc_ (h1 11 623 x1.toNat) (-1) = 0 then
          if ia_ (sr_ x11 x12) 1 = 0 then
            c_578_322 d x1 x2 x3 x4 x5 x7 x9 x10 x11 x12 h1
          else
            c_578_146 d x1 x2 x3 x4 x5 x7 x9 x10 x11 x12 h1
        else
          ca_ (fj_run d 580 h1 [(4, 602), (0, x12), (0, wI (h1 11 623 x1.toNat))]) 0
            (fun v6 h5 =>
            if v6 = 0 then
              c_578_322 d x1 x2 x3 x4 x5 x7 x9 x10 x11 x12 h5
            else
              if lc_ (h5 492 602 0) (wI x3) = 0 then
                c_578_146 d x1 x2 x3 x4 x5 x7 x9 x10 x11 x12 h5
              else
                c_578_322 d x1 x2 x3 x4 x5 x7 x9 x10 x11 x12 h5)
            (fun q7 h5 => tx_ q7 h5)
        else none)
        (fun q3 h1 => tx_ q3 h1)
    else
      c_578_328 d x2 x5 x7 x9 x10 h
  else
    c_578_328 d x2 x5 x7 x9 x10 h := by
  unfold c_578_73
  exact
    have D : fk_D 578 [(73, some [0, 1, 2, 3, 4, 5, 7, 9, 10, 11, 12], .iload 12, 2, 0, 0, 0), (75, none, .aload_n 0, 1, 0, 0, 0), (76, none, .getfield 169, 3, 459, 129, 10), (79, none, .if_icmp .ge 249, 3, 328, 0, 0), (82, none, .iload 10, 2, 0, 0, 0), (84, none, .ifCond .ne 244, 3, 328, 0, 0), (87, none, .aload_n 0, 1, 0, 0, 0), (88, none, .invokevirtual 910, 3, 0, 411, 0), (91, none, .aload_n 0, 1, 0, 0, 0), (92, none, .getfield 80, 3, 424, 129, 12), (95, none, .iload_n 1, 1, 0, 0, 0), (96, none, .laload, 1, 0, 0, 0), (97, none, .ldc2_w 1024, 3, 1, (-1), 0), (100, none, .lcmp, 1, 0, 0, 0), (101, none, .ifCond .ne 16, 3, 117, 0, 0), (104, none, .iload 11, 2, 0, 0, 0), (106, none, .iload 12, 2, 0, 0, 0), (108, none, .ishr, 1, 0, 0, 0), (109, none, .iconst 1, 1, 0, 1, 0), (110, none, .iand, 1, 0, 0, 0)] := fq_of2 cd_578 ow_578 cl_578 rfl (pc := 73) (by decide +kernel)
    j_ild (pc := 73) D rfl rfl rfl fun D =>
    j_aldn (pc := 75) D rfl rfl rfl fun D =>
    j_gf (pc := 76) (a := 602) D rfl rfl (by decide) rfl (s0_602 H) rfl fun D =>
    j_ige (pc := 79) D rfl (fun q D =>
      j_ild (pc := 82) D rfl rfl rfl fun D =>
      j_ifne (pc := 84) D rfl (fun q D =>
        j_aldn (pc := 87) D rfl rfl rfl fun D =>
        j_ivv (pc := 88) (m := 576) (dd := 411) (a := []) (rest := []) D rfl rfl rfl rfl rfl (by decide) (s0_602 H) (by decide +kernel) (fun h1 e1 D =>
          have T := fj_run_ok _ _ _ _ _ _ H.1 e1
          have H := shp_st H T
          j_aldn (pc := 91) D rfl rfl rfl fun D =>
          j_gfc (pc := 92) (a := 602) D rfl rfl (by decide) rfl (s0_602 H) rfl (sf_424_602 H) fun D =>
          j_ildn (pc := 95) D rfl rfl rfl fun D =>
          j_al (pc := 96) (a := 623) (e := 11) D rfl rfl rfl (by decide) (s0_623 H) (s1_623 H) ⟨rfl, rfl, rfl⟩ rfl gn fun qb4 D =>
          j_ldc2 (pc := 97) D rfl fun D =>
          j_lcmp (pc := 100) D rfl fun D =>
          j_ifne (pc := 101) D rfl (fun q D =>
            j_ild (pc := 104) D rfl rfl rfl fun D =>
            j_ild (pc := 106) D rfl rfl rfl fun D =>
            j_ishr (pc := 108) D rfl fun D =>
            j_ic (pc := 109) D rfl fun D =>
            j_iand (pc := 110) D rfl fun D =>
            have D : fk_D 578 [(111, none, .ifCond .ne 35, 3, 146, 0, 0), (114, none, .goto 208, 3, 322, 0, 0)] := fq_of2 cd_578 ow_578 cl_578 rfl (pc := 111) (by decide +kernel)
            j_ifne (pc := 111) D rfl (fun q D =>
              j_goto (pc := 114) D rfl <|
              fk_jump cut_578_322 rfl rfl) (fun q =>
              fk_jump cut_578_146 rfl rfl)) (fun q =>
            have D : fk_D 578 [(117, none, .aload_n 0, 1, 0, 0, 0), (118, none, .iload 12, 2, 0, 0, 0), (120, none, .aload_n 0, 1, 0, 0, 0), (121, none, .getfield 80, 3, 424, 129, 12), (124, none, .iload_n 1, 1, 0, 0, 0), (125, none, .laload, 1, 0, 0, 0), (126, none, .l2i, 1, 0, 0, 0), (127, none, .invokevirtual 887, 3, 2, 405, 1), (130, none, .ifCond .eq 192, 3, 322, 0, 0), (133, none, .aload_n 0, 1, 0, 0, 0), (134, none, .getfield 869, 3, 492, 129, 11), (137, none, .iload_n 3, 1, 0, 0, 0), (138, none, .i2l, 1, 0, 0, 0), (139, none, .lcmp, 1, 0, 0, 0), (140, none, .ifCond .eq 6, 3, 146, 0, 0), (143, none, .goto 179, 3, 322, 0, 0)] := fq_of2 cd_578 ow_578 cl_578 rfl (pc := 117) (by decide +kernel)
            j_aldn (pc := 117) D rfl rfl rfl fun D =>
            j_ild (pc := 118) D rfl rfl rfl fun D =>
            j_aldn (pc := 120) D rfl rfl rfl fun D =>
            j_gfc (pc := 121) (a := 602) D rfl rfl (by decide) rfl (s0_602 H) rfl (sf_424_602 H) fun D =>
            j_ildn (pc := 124) D rfl rfl rfl fun D =>
            j_al (pc := 125) (a := 623) (e := 11) D rfl rfl rfl (by decide) (s0_623 H) (s1_623 H) ⟨rfl, rfl, rfl⟩ rfl (gy qb4) fun q D =>
            j_l2i (pc := 126) D rfl fun D =>
            j_iv (pc := 127) (m := 580) (dd := 405) (a := [(0, x12), (0, wI (h1 11 623 x1.toNat))]) (rest := []) D rfl rfl rfl rfl rfl (by decide) (s0_602 H) (by decide +kernel) (fun v6 h5 e1 D =>
              have T := fj_run_ok _ _ _ _ _ _ H.1 e1
              have H := shp_st H T
              j_ifeq (pc := 130) D rfl (fun q =>
                fk_jump cut_578_322 rfl rfl) (fun q D =>
                j_aldn (pc := 133) D rfl rfl rfl fun D =>
                j_gf (pc := 134) (a := 602) D rfl rfl (by decide) rfl (s0_602 H) rfl fun D =>
                j_ildn (pc := 137) D rfl rfl rfl fun D =>
                j_i2l (pc := 138) D rfl fun D =>
                j_lcmp (pc := 139) D rfl fun D =>
                j_ifeq (pc := 140) D rfl (fun q =>
                  fk_jump cut_578_146 rfl rfl) (fun q D =>
                  j_goto (pc := 143) D rfl <|
                  fk_jump cut_578_322 rfl rfl))) (fun q7 h5 e1 =>
              j_tx (hx_578 _)))) (fun q3 h1 e1 =>
          j_tx (hx_578 _))) (fun q =>
        fk_jump cut_578_328 rfl rfl)) (fun q =>
      fk_jump cut_578_328 rfl rfl)
theorem e_578_146 (d : Nat) (x1 x2 x3 x4 x5 x7 x9 x10 x11 x12 : Int) {h : fi_H} (H : Shp h) : c_578_146 d x1 x2 x3 x4 x5 x7 x9 x10 x11 x12 h =
  lt_ (fi_upd h 484 602 0 x12) fun h1 =>
  if 0 ≤ x1 ∧ x1 < 9300 then
  cv_ (fj_run d 575 h1 [(4, 602), (0, h1 10 619 x1.toNat)])
    (fun h3 =>
    lt_ (fi_upd h3 484 602 0 x3) fun h6 =>
    if x2 = 60 then
      cv_ (fj_run d 581 h6 [(4, 602), (0, x4), (1, x5), (1, x7)])
        (fun h7 =>
        c_578_319 d x1 x2 x3 x4 (h7 492 602 0) (h7 493 602 0) x10 x11 x12 h7)
        (fun q9 h7 => tx_ q9 h7)
    else
      if 63 < x2 then
        if x9 = 0 then
          c_578_281 d x1 x2 x3 x4 x5 x7 x9 x10 x11 x12 0 h6
        else
          ca_ (fj_run d 589 h6 [(0, x4), (1, h6 492 602 0), (1, h6 493 602 0), (0, x4), (1, x5), (1, x7)]) 0
            (fun v11 h10 =>
            c_578_281 d x1 x2 x3 x4 x5 x7 x9 x10 x11 x12 v11 h10)
            (fun q12 h10 => tx_ q12 h10)
      else
        if x2 = 62 then
          if lc_ (h6 492 602 0) 1 = 0 then
            c_578_243 d x1 x2 x3 x4 (wJ (x5 + (h6 492 602 0))) x7 x11 x12 h6
          else
            c_578_228 d x1 x2 x3 x4 (wJ (x5 + (h6 492 602 0))) x7 x11 x12 h6
        else
          c_578_228 d x1 x2 x3 x4 (wJ (x5 + (h6 492 602 0))) x7 x11 x12 h6)
    (fun q5 h3 => tx_ q5 h3)
  else none := by
  unfold c_578_146
  exact
    have D : fk_D 578 [(146, some [0, 1, 2, 3, 4, 5, 7, 9, 10, 11, 12], .aload_n 0, 1, 0, 0, 0), (147, none, .iload 12, 2, 0, 0, 0), (149, none, .putfield 863, 3, 484, 129, 10), (152, none, .aload_n 0, 1, 0, 0, 0), (153, none, .aload_n 0, 1, 0, 0, 0), (154, none, .getfield 68, 3, 420, 129, 12), (157, none, .iload_n 1, 1, 0, 0, 0), (158, none, .iaload, 1, 0, 0, 0), (159, none, .invokevirtual 913, 3, 1, 412, 0), (162, none, .aload_n 0, 1, 0, 0, 0), (163, none, .iload_n 3, 1, 0, 0, 0), (164, none, .putfield 863, 3, 484, 129, 10), (167, none, .iload_n 2, 1, 0, 0, 0), (168, none, .bipush 60, 2, 0, 60, 0), (170, none, .if_icmp .ne 28, 3, 198, 0, 0), (173, none, .aload_n 0, 1, 0, 0, 0), (174, none, .iload 4, 2, 0, 0, 0), (176, none, .lload 5, 2, 0, 0, 0), (178, none, .lload 7, 2, 0, 0, 0), (180, none, .invokevirtual 1070, 3, 3, 438, 0)] := fq_of2 cd_578 ow_578 cl_578 rfl (pc := 146) (by decide +kernel)
    j_aldn (pc := 146) D rfl rfl rfl fun D =>
    j_ild (pc := 147) D rfl rfl rfl fun D =>
    j_pf (pc := 149) (a := 602) D rfl rfl rfl (s0_602 H) rfl rfl (gy (by decide)) (gy rfl) fun h1 eh1 S D =>
    have T := fj_hs_ok H.1 S
    have H := shp_st H T
    j_aldn (pc := 152) D rfl rfl rfl fun D =>
    j_aldn (pc := 153) D rfl rfl rfl fun D =>
    j_gfc (pc := 154) (a := 602) D rfl rfl (by decide) rfl (s0_602 H) rfl (sf_420_602 H) fun D =>
    j_ildn (pc := 157) D rfl rfl rfl fun D =>
    j_al (pc := 158) (a := 619) (e := 10) D rfl rfl rfl (by decide) (s0_619 H) (s1_619 H) ⟨rfl, rfl, rfl⟩ rfl gn fun qb2 D =>
    j_ivv (pc := 159) (m := 575) (dd := 412) (a := [(0, h1 10 619 x1.toNat)]) (rest := []) D rfl rfl rfl rfl rfl (by decide) (s0_602 H) (by decide +kernel) (fun h3 e1 D =>
      have T := fj_run_ok _ _ _ _ _ _ H.1 e1
      have H := shp_st H T
      j_aldn (pc := 162) D rfl rfl rfl fun D =>
      j_ildn (pc := 163) D rfl rfl rfl fun D =>
      j_pf (pc := 164) (a := 602) D rfl rfl rfl (s0_602 H) rfl rfl (gy (by decide)) (gy rfl) fun h6 eh6 S D =>
      have T := fj_hs_ok H.1 S
      have H := shp_st H T
      j_ildn (pc := 167) D rfl rfl rfl fun D =>
      j_bp (pc := 168) D rfl fun D =>
      j_ine (pc := 170) D rfl (fun q D =>
        j_aldn (pc := 173) D rfl rfl rfl fun D =>
        j_ild (pc := 174) D rfl rfl rfl fun D =>
        j_lld (pc := 176) D rfl rfl rfl fun D =>
        j_lld (pc := 178) D rfl rfl rfl fun D =>
        j_ivv (pc := 180) (m := 581) (dd := 438) (a := [(0, x4), (1, x5), (1, x7)]) (rest := []) D rfl rfl rfl rfl rfl (by decide) (s0_602 H) (by decide +kernel) (fun h7 e1 D =>
          have T := fj_run_ok _ _ _ _ _ _ H.1 e1
          have H := shp_st H T
          have D : fk_D 578 [(183, none, .aload_n 0, 1, 0, 0, 0), (184, none, .getfield 869, 3, 492, 129, 11), (187, none, .lstore 5, 2, 0, 0, 0), (189, none, .aload_n 0, 1, 0, 0, 0), (190, none, .getfield 872, 3, 493, 129, 11), (193, none, .lstore 7, 2, 0, 0, 0), (195, none, .goto 124, 3, 319, 0, 0)] := fq_of2 cd_578 ow_578 cl_578 rfl (pc := 183) (by decide +kernel)
          j_aldn (pc := 183) D rfl rfl rfl fun D =>
          j_gf (pc := 184) (a := 602) D rfl rfl (by decide) rfl (s0_602 H) rfl fun D =>
          j_lst (pc := 187) (L' := [(5, (1, h7 492 602 0)), (0, (4, 602)), (1, (0, x1)), (2, (0, x2)), (3, (0, x3)), (4, (0, x4)), (7, (1, x7)), (9, (0, x9)), (10, (0, x10)), (11, (0, x11)), (12, (0, x12))]) D rfl nl_578 rfl rfl fun D =>
          j_aldn (pc := 189) D rfl rfl rfl fun D =>
          j_gf (pc := 190) (a := 602) D rfl rfl (by decide) rfl (s0_602 H) rfl fun D =>
          j_lst (pc := 193) (L' := [(7, (1, h7 493 602 0)), (5, (1, h7 492 602 0)), (0, (4, 602)), (1, (0, x1)), (2, (0, x2)), (3, (0, x3)), (4, (0, x4)), (9, (0, x9)), (10, (0, x10)), (11, (0, x11)), (12, (0, x12))]) D rfl nl_578 rfl rfl fun D =>
          j_goto (pc := 195) D rfl <|
          fk_jump cut_578_319 rfl rfl) (fun q9 h7 e1 =>
          j_tx (hx_578 _))) (fun q =>
        have D : fk_D 578 [(198, none, .iload_n 2, 1, 0, 0, 0), (199, none, .bipush 63, 2, 0, 63, 0), (201, none, .if_icmp .gt 52, 3, 253, 0, 0), (204, none, .lload 5, 2, 0, 0, 0), (206, none, .aload_n 0, 1, 0, 0, 0), (207, none, .getfield 869, 3, 492, 129, 11), (210, none, .ladd, 1, 0, 0, 0), (211, none, .lstore 5, 2, 0, 0, 0), (213, none, .iload_n 2, 1, 0, 0, 0), (214, none, .bipush 62, 2, 0, 62, 0), (216, none, .if_icmp .ne 12, 3, 228, 0, 0), (219, none, .aload_n 0, 1, 0, 0, 0), (220, none, .getfield 869, 3, 492, 129, 11), (223, none, .lconst 1, 1, 0, 0, 0), (224, none, .lcmp, 1, 0, 0, 0), (225, none, .ifCond .eq 18, 3, 243, 0, 0)] := fq_of2 cd_578 ow_578 cl_578 rfl (pc := 198) (by decide +kernel)
        j_ildn (pc := 198) D rfl rfl rfl fun D =>
        j_bp (pc := 199) D rfl fun D =>
        j_igt (pc := 201) D rfl (fun q =>
          have D : fk_D 578 [(253, none, .iload 9, 2, 0, 0, 0), (255, none, .ifCond .eq 25, 3, 280, 0, 0), (258, none, .iload 4, 2, 0, 0, 0), (260, none, .aload_n 0, 1, 0, 0, 0), (261, none, .getfield 869, 3, 492, 129, 11), (264, none, .aload_n 0, 1, 0, 0, 0), (265, none, .getfield 872, 3, 493, 129, 11), (268, none, .iload 4, 2, 0, 0, 0), (270, none, .lload 5, 2, 0, 0, 0), (272, none, .lload 7, 2, 0, 0, 0), (274, none, .invokestatic 1001, 3, 6, 589, 1), (277, none, .goto 4, 3, 281, 0, 0)] := fq_of2 cd_578 ow_578 cl_578 rfl (pc := 253) (by decide +kernel)
          j_ild (pc := 253) D rfl rfl rfl fun D =>
          j_ifeq (pc := 255) D rfl (fun q =>
            have D : fk_D 578 [(280, none, .iconst 0, 1, 0, 0, 0)] := fq_of2 cd_578 ow_578 cl_578 rfl (pc := 280) (by decide +kernel)
            j_ic (pc := 280) D rfl fun D =>
            fk_jump cut_578_281 rfl rfl) (fun q D =>
            j_ild (pc := 258) D rfl rfl rfl fun D =>
            j_aldn (pc := 260) D rfl rfl rfl fun D =>
            j_gf (pc := 261) (a := 602) D rfl rfl (by decide) rfl (s0_602 H) rfl fun D =>
            j_aldn (pc := 264) D rfl rfl rfl fun D =>
            j_gf (pc := 265) (a := 602) D rfl rfl (by decide) rfl (s0_602 H) rfl fun D =>
            j_ild (pc := 268) D rfl rfl rfl fun D =>
            j_lld (pc := 270) D rfl rfl rfl fun D =>
            j_lld (pc := 272) D rfl rfl rfl fun D =>
            j_is (pc := 274) (m := 589) (a := [(0, x4), (1, h6 492 602 0), (1, h6 493 602 0), (0, x4), (1, x5), (1, x7)]) (rest := []) D rfl rfl rfl rfl (fun v11 h10 e1 D =>
              have T := fj_run_ok _ _ _ _ _ _ H.1 e1
              have H := shp_st H T
              j_goto (pc := 277) D rfl <|
              fk_jump cut_578_281 rfl rfl) (fun q12 h10 e1 =>
              j_tx (hx_578 _)))) (fun q D =>
          j_lld (pc := 204) D rfl rfl rfl fun D =>
          j_aldn (pc := 206) D rfl rfl rfl fun D =>
          j_gf (pc := 207) (a := 602) D rfl rfl (by decide) rfl (s0_602 H) rfl fun D =>
          j_ladd (pc := 210) D rfl fun D =>
          j_lst (pc := 211) (L' := [(5, (1, wJ (x5 + (h6 492 602 0)))), (0, (4, 602)), (1, (0, x1)), (2, (0, x2)), (3, (0, x3)), (4, (0, x4)), (7, (1, x7)), (9, (0, x9)), (10, (0, x10)), (11, (0, x11)), (12, (0, x12))]) D rfl nl_578 rfl rfl fun D =>
          j_ildn (pc := 213) D rfl rfl rfl fun D =>
          j_bp (pc := 214) D rfl fun D =>
          j_ine (pc := 216) D rfl (fun q D =>
            j_aldn (pc := 219) D rfl rfl rfl fun D =>
            j_gf (pc := 220) (a := 602) D rfl rfl (by decide) rfl (s0_602 H) rfl fun D =>
            j_c0 (pc := 223) (v := (1, 1)) D rfl rfl (by decide +kernel) fun D =>
            j_lcmp (pc := 224) D rfl fun D =>
            j_ifeq (pc := 225) D rfl (fun q =>
              fk_jump cut_578_243 rfl rfl) (fun q D =>
              fk_jump cut_578_228 rfl rfl)) (fun q =>
            fk_jump cut_578_228 rfl rfl)))) (fun q5 h3 e1 =>
      j_tx (hx_578 _))
theorem e_578_228 (d : Nat) (x1 x2 x3 x4 x5 x7 x11 x12 : Int) {h : fi_H} (H : Shp h) : c_578_228 d x1 x2 x3 x4 x5 x7 x11 x12 h =
  if x2 = 63 then
    if lc_ (h 492 602 0) 0 = 0 then
      c_578_243 d x1 x2 x3 x4 x5 x7 x11 x12 h
    else
      c_578_247 d x1 x2 x3 x4 x5 x7 x11 x12 h
  else
    c_578_247 d x1 x2 x3 x4 x5 x7 x11 x12 h := by
  unfold c_578_228
  exact
    have D : fk_D 578 [(228, some [0, 1, 2, 3, 4, 5, 7, 11, 12], .iload_n 2, 1, 0, 0, 0), (229, none, .bipush 63, 2, 0, 63, 0), (231, none, .if_icmp .ne 16, 3, 247, 0, 0), (234, none, .aload_n 0, 1, 0, 0, 0), (235, none, .getfield 869, 3, 492, 129, 11), (238, none, .lconst 0, 1, 0, 0, 0), (239, none, .lcmp, 1, 0, 0, 0), (240, none, .ifCond .ne 7, 3, 247, 0, 0)] := fq_of2 cd_578 ow_578 cl_578 rfl (pc := 228) (by decide +kernel)
    j_ildn (pc := 228) D rfl rfl rfl fun D =>
    j_bp (pc := 229) D rfl fun D =>
    j_ine (pc := 231) D rfl (fun q D =>
      j_aldn (pc := 234) D rfl rfl rfl fun D =>
      j_gf (pc := 235) (a := 602) D rfl rfl (by decide) rfl (s0_602 H) rfl fun D =>
      j_c0 (pc := 238) (v := (1, 0)) D rfl rfl (by decide +kernel) fun D =>
      j_lcmp (pc := 239) D rfl fun D =>
      j_ifne (pc := 240) D rfl (fun q D =>
        fk_jump cut_578_243 rfl rfl) (fun q =>
        fk_jump cut_578_247 rfl rfl)) (fun q =>
      fk_jump cut_578_247 rfl rfl)
theorem e_578_243 (d : Nat) (x1 x2 x3 x4 x5 x7 x11 x12 : Int) {h : fi_H} (H : Shp h) : c_578_243 d x1 x2 x3 x4 x5 x7 x11 x12 h =
  c_578_248 d x1 x2 x3 x4 x5 x7 x11 x12 1 h := by
  unfold c_578_243
  exact
    have D : fk_D 578 [(243, some [0, 1, 2, 3, 4, 5, 7, 11, 12], .iconst 1, 1, 0, 1, 0), (244, none, .goto 4, 3, 248, 0, 0)] := fq_of2 cd_578 ow_578 cl_578 rfl (pc := 243) (by decide +kernel)
    j_ic (pc := 243) D rfl fun D =>
    j_goto (pc := 244) D rfl <|
    fk_jump cut_578_248 rfl rfl
theorem e_578_247 (d : Nat) (x1 x2 x3 x4 x5 x7 x11 x12 : Int) {h : fi_H} (H : Shp h) : c_578_247 d x1 x2 x3 x4 x5 x7 x11 x12 h =
  c_578_248 d x1 x2 x3 x4 x5 x7 x11 x12 0 h := by
  unfold c_578_247
  exact
    have D : fk_D 578 [(247, some [0, 1, 2, 3, 4, 5, 7, 11, 12], .iconst 0, 1, 0, 0, 0)] := fq_of2 cd_578 ow_578 cl_578 rfl (pc := 247) (by decide +kernel)
    j_ic (pc := 247) D rfl fun D =>
    fk_jump cut_578_248 rfl rfl
theorem e_578_248 (d : Nat) (x1 x2 x3 x4 x5 x7 x11 x12 s0 : Int) {h : fi_H} (H : Shp h) : c_578_248 d x1 x2 x3 x4 x5 x7 x11 x12 s0 h =
  c_578_319 d x1 x2 x3 x4 x5 x7 s0 x11 x12 h := by
  unfold c_578_248
  exact
    have D : fk_D 578 [(248, some [0, 1, 2, 3, 4, 5, 7, 11, 12], .istore 10, 2, 0, 0, 0), (250, none, .goto 69, 3, 319, 0, 0)] := fq_of2 cd_578 ow_578 cl_578 rfl (pc := 248) (by decide +kernel)
    j_ist (pc := 248) (L' := [(10, (0, s0)), (0, (4, 602)), (1, (0, x1)), (2, (0, x2)), (3, (0, x3)), (4, (0, x4)), (5, (1, x5)), (7, (1, x7)), (11, (0, x11)), (12, (0, x12))]) D rfl nl_578 rfl rfl fun D =>
    j_goto (pc := 250) D rfl <|
    fk_jump cut_578_319 rfl rfl
theorem e_578_281 (d : Nat) (x1 x2 x3 x4 x5 x7 x9 x10 x11 x12 s0 : Int) {h : fi_H} (H : Shp h) : c_578_281 d x1 x2 x3 x4 x5 x7 x9 x10 x11 x12 s0 h =
  if x9 = 0 then
    c_578_307 d x1 x2 x3 x4 x10 x11 x12 h
  else
    if x2 = 64 then
      if 0 < s0 then
        c_578_307 d x1 x2 x3 x4 x10 x11 x12 h
      else
        c_578_319 d x1 x2 x3 x4 x5 x7 x10 x11 x12 h
    else
      if s0 < 0 then
        c_578_307 d x1 x2 x3 x4 x10 x11 x12 h
      else
        c_578_319 d x1 x2 x3 x4 x5 x7 x10 x11 x12 h := by
  unfold c_578_281
  exact
    have D : fk_D 578 [(281, some [0, 1, 2, 3, 4, 5, 7, 9, 10, 11, 12], .istore 13, 2, 0, 0, 0), (283, none, .iload 9, 2, 0, 0, 0), (285, none, .ifCond .eq 22, 3, 307, 0, 0), (288, none, .iload_n 2, 1, 0, 0, 0), (289, none, .bipush 64, 2, 0, 64, 0), (291, none, .if_icmp .ne 11, 3, 302, 0, 0), (294, none, .iload 13, 2, 0, 0, 0), (296, none, .ifCond .le 23, 3, 319, 0, 0), (299, none, .goto 8, 3, 307, 0, 0)] := fq_of2 cd_578 ow_578 cl_578 rfl (pc := 281) (by decide +kernel)
    j_ist (pc := 281) (L' := [(13, (0, s0)), (0, (4, 602)), (1, (0, x1)), (2, (0, x2)), (3, (0, x3)), (4, (0, x4)), (5, (1, x5)), (7, (1, x7)), (9, (0, x9)), (10, (0, x10)), (11, (0, x11)), (12, (0, x12))]) D rfl nl_578 rfl rfl fun D =>
    j_ild (pc := 283) D rfl rfl rfl fun D =>
    j_ifeq (pc := 285) D rfl (fun q =>
      fk_jump cut_578_307 rfl rfl) (fun q D =>
      j_ildn (pc := 288) D rfl rfl rfl fun D =>
      j_bp (pc := 289) D rfl fun D =>
      j_ine (pc := 291) D rfl (fun q D =>
        j_ild (pc := 294) D rfl rfl rfl fun D =>
        j_ifle (pc := 296) D rfl (fun q D =>
          j_goto (pc := 299) D rfl <|
          fk_jump cut_578_307 rfl rfl) (fun q =>
          fk_jump cut_578_319 rfl rfl)) (fun q =>
        have D : fk_D 578 [(302, none, .iload 13, 2, 0, 0, 0), (304, none, .ifCond .ge 15, 3, 319, 0, 0)] := fq_of2 cd_578 ow_578 cl_578 rfl (pc := 302) (by decide +kernel)
        j_ild (pc := 302) D rfl rfl rfl fun D =>
        j_ifge (pc := 304) D rfl (fun q D =>
          fk_jump cut_578_307 rfl rfl) (fun q =>
          fk_jump cut_578_319 rfl rfl)))
theorem e_578_307 (d : Nat) (x1 x2 x3 x4 x10 x11 x12 : Int) {h : fi_H} (H : Shp h) : c_578_307 d x1 x2 x3 x4 x10 x11 x12 h =
  c_578_319 d x1 x2 x3 x4 (h 492 602 0) (h 493 602 0) x10 x11 x12 h := by
  unfold c_578_307
  exact
    have D : fk_D 578 [(307, some [0, 1, 2, 3, 4, 10, 11, 12], .aload_n 0, 1, 0, 0, 0), (308, none, .getfield 869, 3, 492, 129, 11), (311, none, .lstore 5, 2, 0, 0, 0), (313, none, .aload_n 0, 1, 0, 0, 0), (314, none, .getfield 872, 3, 493, 129, 11), (317, none, .lstore 7, 2, 0, 0, 0)] := fq_of2 cd_578 ow_578 cl_578 rfl (pc := 307) (by decide +kernel)
    j_aldn (pc := 307) D rfl rfl rfl fun D =>
    j_gf (pc := 308) (a := 602) D rfl rfl (by decide) rfl (s0_602 H) rfl fun D =>
    j_lst (pc := 311) (L' := [(5, (1, h 492 602 0)), (0, (4, 602)), (1, (0, x1)), (2, (0, x2)), (3, (0, x3)), (4, (0, x4)), (10, (0, x10)), (11, (0, x11)), (12, (0, x12))]) D rfl nl_578 rfl rfl fun D =>
    j_aldn (pc := 313) D rfl rfl rfl fun D =>
    j_gf (pc := 314) (a := 602) D rfl rfl (by decide) rfl (s0_602 H) rfl fun D =>
    j_lst (pc := 317) (L' := [(7, (1, h 493 602 0)), (5, (1, h 492 602 0)), (0, (4, 602)), (1, (0, x1)), (2, (0, x2)), (3, (0, x3)), (4, (0, x4)), (10, (0, x10)), (11, (0, x11)), (12, (0, x12))]) D rfl nl_578 rfl rfl fun D =>
    fk_jump cut_578_319 rfl rfl
theorem e_578_319 (d : Nat) (x1 x2 x3 x4 x5 x7 x10 x11 x12 : Int) {h : fi_H} (H : Shp h) : c_578_319 d x1 x2 x3 x4 x5 x7 x10 x11 x12 h =
  c_578_322 d x1 x2 x3 x4 x5 x7 1 x10 x11 x12 h := by
  unfold c_578_319
  exact
    have D : fk_D 578 [(319, some [0, 1, 2, 3, 4, 5, 7, 10, 11, 12], .iconst 1, 1, 0, 1, 0), (320, none, .istore 9, 2, 0, 0, 0)] := fq_of2 cd_578 ow_578 cl_578 rfl (pc := 319) (by decide +kernel)
    j_ic (pc := 319) D rfl fun D =>
    j_ist (pc := 320) (L' := [(9, (0, 1)), (0, (4, 602)), (1, (0, x1)), (2, (0, x2)), (3, (0, x3)), (4, (0, x4)), (5, (1, x5)), (7, (1, x7)), (10, (0, x10)), (11, (0, x11)), (12, (0, x12))]) D rfl nl_578 rfl rfl fun D =>
    fk_jump cut_578_322 rfl rfl
theorem e_578_322 (d : Nat) (x1 x2 x3 x4 x5 x7 x9 x10 x11 x12 : Int) {h : fi_H} (H : Shp h) : c_578_322 d x1 x2 x3 x4 x5 x7 x9 x10 x11 x12 h =
  c_578_73 d x1 x2 x3 x4 x5 x7 x9 x10 x11 (wI (x12 + 1)) h := by
  unfold c_578_322
  exact
    have D : fk_D 578 [(322, some [0, 1, 2, 3, 4, 5, 7, 9, 10, 11, 12], .iinc 12 1, 3, 0, 1, 0), (325, none, .goto (-252), 3, 73, 0, 0)] := fq_of2 cd_578 ow_578 cl_578 rfl (pc := 322) (by decide +kernel)
    j_inc (pc := 322) (L' := [(12, (0, wI (x12 + 1))), (0, (4, 602)), (1, (0, x1)), (2, (0, x2)), (3, (0, x3)), (4, (0, x4)), (5, (1, x5)), (7, (1, x7)), (9, (0, x9)), (10, (0, x10)), (11, (0, x11))]) D rfl rfl rfl (by decide +kernel) rfl fun D =>
    j_goto (pc := 325) D rfl <|
    fk_jump cut_578_73 rfl rfl
theorem e_578_328 (d : Nat) (x2 x5 x7 x9 x10 : Int) {h : fi_H} (H : Shp h) : c_578_328 d x2 x5 x7 x9 x10 h =
  if x2 = 62 then
    cv_ (fj_run d 590 h [(4, 602), (0, x10)])
      (fun h1 =>
      some (.inl none, h1))
      (fun q3 h1 => tx_ q3 h1)
  else
    if x2 = 63 then
      if x10 = 0 then
        c_578_360 d 602 1 h
      else
        c_578_360 d 602 0 h
    else
      if 63 < x2 then
        if x9 = 0 then
          cv_ (fj_run d 577 h [(4, 602), (0, 6)])
            (fun h4 =>
            some (.inl none, h4))
            (fun q6 h4 => tx_ q6 h4)
        else
          c_578_386 d x5 x7 h
      else
        c_578_386 d x5 x7 h := by
  unfold c_578_328
  exact
    have D : fk_D 578 [(328, some [0, 2, 5, 7, 9, 10], .iload_n 2, 1, 0, 0, 0), (329, none, .bipush 62, 2, 0, 62, 0), (331, none, .if_icmp .ne 12, 3, 343, 0, 0), (334, none, .aload_n 0, 1, 0, 0, 0), (335, none, .iload 10, 2, 0, 0, 0), (337, none, .invokevirtual 969, 3, 1, 417, 0), (340, none, .goto 58, 3, 398, 0, 0)] := fq_of2 cd_578 ow_578 cl_578 rfl (pc := 328) (by decide +kernel)
    j_ildn (pc := 328) D rfl rfl rfl fun D =>
    j_bp (pc := 329) D rfl fun D =>
    j_ine (pc := 331) D rfl (fun q D =>
      j_aldn (pc := 334) D rfl rfl rfl fun D =>
      j_ild (pc := 335) D rfl rfl rfl fun D =>
      j_ivv (pc := 337) (m := 590) (dd := 417) (a := [(0, x10)]) (rest := []) D rfl rfl rfl rfl rfl (by decide) (s0_602 H) (by decide +kernel) (fun h1 e1 D =>
        have T := fj_run_ok _ _ _ _ _ _ H.1 e1
        have H := shp_st H T
        j_goto (pc := 340) D rfl <|
        have D : fk_D 578 [(398, none, .return_, 1, 0, 0, 0)] := fq_of2 cd_578 ow_578 cl_578 rfl (pc := 398) (by decide +kernel)
        j_vret D rt_578) (fun q3 h1 e1 =>
        j_tx (hx_578 _))) (fun q =>
      have D : fk_D 578 [(343, none, .iload_n 2, 1, 0, 0, 0), (344, none, .bipush 63, 2, 0, 63, 0), (346, none, .if_icmp .ne 20, 3, 366, 0, 0), (349, none, .aload_n 0, 1, 0, 0, 0), (350, none, .iload 10, 2, 0, 0, 0), (352, none, .ifCond .ne 7, 3, 359, 0, 0), (355, none, .iconst 1, 1, 0, 1, 0), (356, none, .goto 4, 3, 360, 0, 0)] := fq_of2 cd_578 ow_578 cl_578 rfl (pc := 343) (by decide +kernel)
      j_ildn (pc := 343) D rfl rfl rfl fun D =>
      j_bp (pc := 344) D rfl fun D =>
      j_ine (pc := 346) D rfl (fun q D =>
        j_aldn (pc := 349) D rfl rfl rfl fun D =>
        j_ild (pc := 350) D rfl rfl rfl fun D =>
        j_ifne (pc := 352) D rfl (fun q D =>
          j_ic (pc := 355) D rfl fun D =>
          j_goto (pc := 356) D rfl <|
          fk_jump cut_578_360 rfl rfl) (fun q =>
          have D : fk_D 578 [(359, none, .iconst 0, 1, 0, 0, 0)] := fq_of2 cd_578 ow_578 cl_578 rfl (pc := 359) (by decide +kernel)
          j_ic (pc := 359) D rfl fun D =>
          fk_jump cut_578_360 rfl rfl)) (fun q =>
        have D : fk_D 578 [(366, none, .iload_n 2, 1, 0, 0, 0), (367, none, .bipush 63, 2, 0, 63, 0), (369, none, .if_icmp .le 17, 3, 386, 0, 0), (372, none, .iload 9, 2, 0, 0, 0), (374, none, .ifCond .ne 12, 3, 386, 0, 0), (377, none, .aload_n 0, 1, 0, 0, 0), (378, none, .bipush 6, 2, 0, 6, 0), (380, none, .invokevirtual 854, 3, 1, 403, 0), (383, none, .goto 15, 3, 398, 0, 0)] := fq_of2 cd_578 ow_578 cl_578 rfl (pc := 366) (by decide +kernel)
        j_ildn (pc := 366) D rfl rfl rfl fun D =>
        j_bp (pc := 367) D rfl fun D =>
        j_ile (pc := 369) D rfl (fun q D =>
          j_ild (pc := 372) D rfl rfl rfl fun D =>
          j_ifne (pc := 374) D rfl (fun q D =>
            j_aldn (pc := 377) D rfl rfl rfl fun D =>
            j_bp (pc := 378) D rfl fun D =>
            j_ivv (pc := 380) (m := 577) (dd := 403) (a := [(0, 6)]) (rest := []) D rfl rfl rfl rfl rfl (by decide) (s0_602 H) (by decide +kernel) (fun h4 e1 D =>
              have T := fj_run_ok _ _ _ _ _ _ H.1 e1
              have H := shp_st H T
              j_goto (pc := 383) D rfl <|
              have D : fk_D 578 [(398, none, .return_, 1, 0, 0, 0)] := fq_of2 cd_578 ow_578 cl_578 rfl (pc := 398) (by decide +kernel)
              j_vret D rt_578) (fun q6 h4 e1 =>
              j_tx (hx_578 _))) (fun q =>
            fk_jump cut_578_386 rfl rfl)) (fun q =>
          fk_jump cut_578_386 rfl rfl)))
theorem e_578_360 (d : Nat) (s0 s1 : Int) {h : fi_H} (H : Shp h) : c_578_360 d s0 s1 h =
  dv_ (fi_vt 417 (h 0 s0.toNat 0)) fun m4 => cv_ (fj_run d m4 h [(4, s0), (0, s1)])
    (fun h1 =>
    some (.inl none, h1))
    (fun q3 h1 => tx_ q3 h1) := by
  unfold c_578_360
  exact
    have D : fk_D 578 [(360, some [], .invokevirtual 969, 3, 1, 417, 0), (363, none, .goto 35, 3, 398, 0, 0)] := fq_of2 cd_578 ow_578 cl_578 rfl (pc := 360) (by decide +kernel)
    j_ivuv (pc := 360) (dd := 417) (a := [(0, s1)]) (rest := []) H.2.1 D rfl rfl rfl rfl rfl (fun m4 h1 e1 D =>
      have T := fj_run_ok _ _ _ _ _ _ H.1 e1
      have H := shp_st H T
      j_goto (pc := 363) D rfl <|
      have D : fk_D 578 [(398, none, .return_, 1, 0, 0, 0)] := fq_of2 cd_578 ow_578 cl_578 rfl (pc := 398) (by decide +kernel)
      j_vret D rt_578) (fun m4 q3 h1 e1 =>
      j_tx (hx_578 _))
theorem e_578_386 (d : Nat) (x5 x7 : Int) {h : fi_H} (H : Shp h) : c_578_386 d x5 x7 h =
  lt_ (fi_upd h 492 602 0 x5) fun h1 =>
  lt_ (fi_upd h1 493 602 0 x7) fun h2 =>
  some (.inl none, h2) := by
  unfold c_578_386
  exact
    have D : fk_D 578 [(386, some [0, 5, 7], .aload_n 0, 1, 0, 0, 0), (387, none, .lload 5, 2, 0, 0, 0), (389, none, .putfield 869, 3, 492, 129, 11), (392, none, .aload_n 0, 1, 0, 0, 0), (393, none, .lload 7, 2, 0, 0, 0), (395, none, .putfield 872, 3, 493, 129, 11), (398, none, .return_, 1, 0, 0, 0)] := fq_of2 cd_578 ow_578 cl_578 rfl (pc := 386) (by decide +kernel)
    j_aldn (pc := 386) D rfl rfl rfl fun D =>
    j_lld (pc := 387) D rfl rfl rfl fun D =>
    j_pf (pc := 389) (a := 602) D rfl rfl rfl (s0_602 H) rfl rfl (gy (by decide)) (gy rfl) fun h1 eh1 S D =>
    have T := fj_hs_ok H.1 S
    have H := shp_st H T
    j_aldn (pc := 392) D rfl rfl rfl fun D =>
    j_lld (pc := 393) D rfl rfl rfl fun D =>
    j_pf (pc := 395) (a := 602) D rfl rfl rfl (s0_602 H) rfl rfl (gy (by decide)) (gy rfl) fun h2 eh2 S D =>
    have T := fj_hs_ok H.1 S
    have H := shp_st H T
    j_vret D rt_578
theorem m_578 (d : Nat) (x1 : Int) {h : fi_H} (H : Shp h) : fj_run (d + 1) 578 h [(4, 602), (0, x1)] =
  if 0 ≤ x1 ∧ x1 < 9300 then
  if 0 ≤ h 10 619 x1.toNat ∧ h 10 619 x1.toNat < 9300 then
  if h 10 618 (h 10 619 x1.toNat).toNat = 3 then
    c_578_39 d x1 (h 10 617 x1.toNat) (h 484 602 0) (h 10 618 (h 10 619 x1.toNat).toNat) 0 1 h
  else
    c_578_39 d x1 (h 10 617 x1.toNat) (h 484 602 0) (h 10 618 (h 10 619 x1.toNat).toNat) 0 0 h
  else none
  else none := by
  rw [fj_run_eq d (by decide) h [(4, 602), (0, x1)] (Nat.le_of_ble_eq_true (by rw [nl_578]; rfl))]
  show gG (fj_run d) 578 0 [(0, (4, 602)), (1, (0, x1))] [] h = _
  exact
    have D : fk_D 578 [(0, none, .aload_n 0, 1, 0, 0, 0), (1, none, .getfield 62, 3, 418, 129, 12), (4, none, .iload_n 1, 1, 0, 0, 0), (5, none, .iaload, 1, 0, 0, 0), (6, none, .istore_n 2, 1, 0, 0, 0), (7, none, .aload_n 0, 1, 0, 0, 0), (8, none, .getfield 863, 3, 484, 129, 10), (11, none, .istore_n 3, 1, 0, 0, 0), (12, none, .aload_n 0, 1, 0, 0, 0), (13, none, .getfield 65, 3, 419, 129, 12), (16, none, .aload_n 0, 1, 0, 0, 0), (17, none, .getfield 68, 3, 420, 129, 12), (20, none, .iload_n 1, 1, 0, 0, 0), (21, none, .iaload, 1, 0, 0, 0), (22, none, .iaload, 1, 0, 0, 0), (23, none, .istore 4, 2, 0, 0, 0), (25, none, .lconst 0, 1, 0, 0, 0), (26, none, .lstore 5, 2, 0, 0, 0), (28, none, .iload 4, 2, 0, 0, 0), (30, none, .iconst 3, 1, 0, 3, 0)] := fq_of2 cd_578 ow_578 cl_578 rfl (pc := 0) (by decide +kernel)
    j_aldn (pc := 0) D rfl rfl rfl fun D =>
    j_gfc (pc := 1) (a := 602) D rfl rfl (by decide) rfl (s0_602 H) rfl (sf_418_602 H) fun D =>
    j_ildn (pc := 4) D rfl rfl rfl fun D =>
    j_al (pc := 5) (a := 617) (e := 10) D rfl rfl rfl (by decide) (s0_617 H) (s1_617 H) ⟨rfl, rfl, rfl⟩ rfl gn fun qb1 D =>
    j_istn (pc := 6) (L' := [(2, (0, h 10 617 x1.toNat)), (0, (4, 602)), (1, (0, x1))]) D rfl nl_578 rfl rfl fun D =>
    j_aldn (pc := 7) D rfl rfl rfl fun D =>
    j_gf (pc := 8) (a := 602) D rfl rfl (by decide) rfl (s0_602 H) rfl fun D =>
    j_istn (pc := 11) (L' := [(3, (0, h 484 602 0)), (2, (0, h 10 617 x1.toNat)), (0, (4, 602)), (1, (0, x1))]) D rfl nl_578 rfl rfl fun D =>
    j_aldn (pc := 12) D rfl rfl rfl fun D =>
    j_gfc (pc := 13) (a := 602) D rfl rfl (by decide) rfl (s0_602 H) rfl (sf_419_602 H) fun D =>
    j_aldn (pc := 16) D rfl rfl rfl fun D =>
    j_gfc (pc := 17) (a := 602) D rfl rfl (by decide) rfl (s0_602 H) rfl (sf_420_602 H) fun D =>
    j_ildn (pc := 20) D rfl rfl rfl fun D =>
    j_al (pc := 21) (a := 619) (e := 10) D rfl rfl rfl (by decide) (s0_619 H) (s1_619 H) ⟨rfl, rfl, rfl⟩ rfl (gy qb1) fun q D =>
    j_al (pc := 22) (a := 618) (e := 10) D rfl rfl rfl (by decide) (s0_618 H) (s1_618 H) ⟨rfl, rfl, rfl⟩ rfl gn fun qb2 D =>
    j_ist (pc := 23) (L' := [(4, (0, h 10 618 (h 10 619 x1.toNat).toNat)), (3, (0, h 484 602 0)), (2, (0, h 10 617 x1.toNat)), (0, (4, 602)), (1, (0, x1))]) D rfl nl_578 rfl rfl fun D =>
    j_c0 (pc := 25) (v := (1, 0)) D rfl rfl (by decide +kernel) fun D =>
    j_lst (pc := 26) (L' := [(5, (1, 0)), (4, (0, h 10 618 (h 10 619 x1.toNat).toNat)), (3, (0, h 484 602 0)), (2, (0, h 10 617 x1.toNat)), (0, (4, 602)), (1, (0, x1))]) D rfl nl_578 rfl rfl fun D =>
    j_ild (pc := 28) D rfl rfl rfl fun D =>
    j_ic (pc := 30) D rfl fun D =>
    have D : fk_D 578 [(31, none, .if_icmp .ne 7, 3, 38, 0, 0), (34, none, .lconst 1, 1, 0, 0, 0), (35, none, .goto 4, 3, 39, 0, 0)] := fq_of2 cd_578 ow_578 cl_578 rfl (pc := 31) (by decide +kernel)
    j_ine (pc := 31) D rfl (fun q D =>
      j_c0 (pc := 34) (v := (1, 1)) D rfl rfl (by decide +kernel) fun D =>
      j_goto (pc := 35) D rfl <|
      fk_jump cut_578_39 rfl rfl) (fun q =>
      have D : fk_D 578 [(38, none, .lconst 0, 1, 0, 0, 0)] := fq_of2 cd_578 ow_578 cl_578 rfl (pc := 38) (by decide +kernel)
      j_c0 (pc := 38) (v := (1, 0)) D rfl rfl (by decide +kernel) fun D =>
      fk_jump cut_578_39 rfl rfl)
