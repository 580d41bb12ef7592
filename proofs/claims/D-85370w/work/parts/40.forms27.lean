/-! forms of methods 679..693, printed by gen/forms.py -/
set_option maxRecDepth 100000
/-! 679 StatuteHouseModel.measured(I)J -/
theorem cd_679 : fi_code 679 = prog_69_method_197_code := rfl
theorem hx_679 : ∀ pc, fi_hat 679 pc = none := fun pc => by unfold fi_hat; rw [show fi_hh 679 = [] from rfl]; rfl
theorem rt_679 : fi_ret 679 = some .long := rfl
theorem nl_679 : fi_nl 679 = 5 := rfl
theorem ow_679 : fi_ow 679 = 29 := rfl
theorem cl_679 : fj_cutT.getD 679 [] = [(5, [0, 1, 2, 4]), (76, [0]), (82, [0]), (88, [2]), (90, [0]), (107, [0]), (129, [0]), (153, [0]), (172, [0, 2]), (192, [0, 1])] := rfl
theorem cut_679_5 : fj_cut 679 5 = some [0, 1, 2, 4] := by decide +kernel
noncomputable def c_679_5 (d : Nat) (x1 x2 x4 : Int) (h : fi_H) : fk_R := gG (fj_run d) 679 5 [(0, (4, 602)), (1, (0, x1)), (2, (1, x2)), (4, (0, x4))] [] h
theorem cut_679_76 : fj_cut 679 76 = some [0] := by decide +kernel
noncomputable def c_679_76 (d : Nat) (h : fi_H) : fk_R := gG (fj_run d) 679 76 [(0, (4, 602))] [] h
theorem cut_679_82 : fj_cut 679 82 = some [0] := by decide +kernel
noncomputable def c_679_82 (d : Nat) (h : fi_H) : fk_R := gG (fj_run d) 679 82 [(0, (4, 602))] [] h
theorem cut_679_88 : fj_cut 679 88 = some [2] := by decide +kernel
noncomputable def c_679_88 (d : Nat) (x2 : Int) (h : fi_H) : fk_R := gG (fj_run d) 679 88 [(2, (1, x2))] [] h
theorem cut_679_90 : fj_cut 679 90 = some [0] := by decide +kernel
noncomputable def c_679_90 (d : Nat) (h : fi_H) : fk_R := gG (fj_run d) 679 90 [(0, (4, 602))] [] h
theorem cut_679_107 : fj_cut 679 107 = some [0] := by decide +kernel
noncomputable def c_679_107 (d : Nat) (h : fi_H) : fk_R := gG (fj_run d) 679 107 [(0, (4, 602))] [] h
theorem cut_679_129 : fj_cut 679 129 = some [0] := by decide +kernel
noncomputable def c_679_129 (d : Nat) (h : fi_H) : fk_R := gG (fj_run d) 679 129 [(0, (4, 602))] [] h
theorem cut_679_153 : fj_cut 679 153 = some [0] := by decide +kernel
noncomputable def c_679_153 (d : Nat) (h : fi_H) : fk_R := gG (fj_run d) 679 153 [(0, (4, 602))] [] h
theorem cut_679_172 : fj_cut 679 172 = some [0, 2] := by decide +kernel
noncomputable def c_679_172 (d : Nat) (x2 : Int) (h : fi_H) : fk_R := gG (fj_run d) 679 172 [(0, (4, 602)), (2, (1, x2))] [] h
theorem cut_679_192 : fj_cut 679 192 = some [0, 1] := by decide +kernel
noncomputable def c_679_192 (d : Nat) (x1 : Int) (h : fi_H) : fk_R := gG (fj_run d) 679 192 [(0, (4, 602)), (1, (0, x1))] [] h
theorem e_679_5 (d : Nat) (x1 x2 x4 : Int) {h : fi_H} (H : Shp h) : c_679_5 d x1 x2 x4 h =
  if x4 < h 554 602 0 then
    if 0 ≤ x4 ∧ x4 < 30 then
    c_679_5 d x1 (wJ (x2 + (h 11 707 x4.toNat))) (wI (x4 + 1)) h
    else none
  else
    if x1 = 0 then
      c_679_76 d h
    else if x1 = 1 then
      c_679_82 d h
    else if x1 = 2 then
      c_679_88 d x2 h
    else if x1 = 3 then
      c_679_90 d h
    else if x1 = 4 then
      c_679_107 d h
    else if x1 = 5 then
      c_679_129 d h
    else if x1 = 6 then
      c_679_153 d h
    else if x1 = 7 then
      c_679_172 d x2 h
    else 
      c_679_192 d x1 h := by
  unfold c_679_5
  exact
    have D : fk_D 679 [(5, some [0, 1, 2, 4], .iload 4, 2, 0, 0, 0), (7, none, .aload_n 0, 1, 0, 0, 0), (8, none, .getfield 1218, 3, 554, 129, 10), (11, none, .if_icmp .ge 19, 3, 30, 0, 0), (14, none, .lload_n 2, 1, 0, 0, 0), (15, none, .aload_n 0, 1, 0, 0, 0), (16, none, .getfield 377, 3, 551, 129, 12), (19, none, .iload 4, 2, 0, 0, 0), (21, none, .laload, 1, 0, 0, 0), (22, none, .ladd, 1, 0, 0, 0), (23, none, .lstore_n 2, 1, 0, 0, 0), (24, none, .iinc 4 1, 3, 0, 1, 0), (27, none, .goto (-22), 3, 5, 0, 0)] := fq_of2 cd_679 ow_679 cl_679 rfl (pc := 5) (by decide +kernel)
    j_ild (pc := 5) D rfl rfl rfl fun D =>
    j_aldn (pc := 7) D rfl rfl rfl fun D =>
    j_gf (pc := 8) (a := 602) D rfl rfl (by decide) rfl (s0_602 H) rfl fun D =>
    j_ige (pc := 11) D rfl (fun q D =>
      j_lldn (pc := 14) D rfl rfl rfl fun D =>
      j_aldn (pc := 15) D rfl rfl rfl fun D =>
      j_gfc (pc := 16) (a := 602) D rfl rfl (by decide) rfl (s0_602 H) rfl (sf_551_602 H) fun D =>
      j_ild (pc := 19) D rfl rfl rfl fun D =>
      j_al (pc := 21) (a := 707) (e := 11) D rfl rfl rfl (by decide) (s0_707 H) (s1_707 H) ⟨rfl, rfl, rfl⟩ rfl gn fun qb1 D =>
      j_ladd (pc := 22) D rfl fun D =>
      j_lstn (pc := 23) (L' := [(2, (1, wJ (x2 + (h 11 707 x4.toNat)))), (0, (4, 602)), (1, (0, x1)), (4, (0, x4))]) D rfl nl_679 rfl rfl fun D =>
      j_inc (pc := 24) (L' := [(4, (0, wI (x4 + 1))), (2, (1, wJ (x2 + (h 11 707 x4.toNat)))), (0, (4, 602)), (1, (0, x1))]) D rfl rfl rfl (by decide +kernel) rfl fun D =>
      j_goto (pc := 27) D rfl <|
      fk_jump cut_679_5 rfl rfl) (fun q =>
      have D : fk_D 679 [(30, none, .iload_n 1, 1, 0, 0, 0), (31, none, .tableswitch 161 0 7 #[45, 51, 57, 59, 76, 98, 122, 141], 45, 0, 0, 0)] := fq_of3 cd_679 ow_679 cl_679 rfl (pc := 30) (by decide +kernel)
      j_ildn (pc := 30) D rfl rfl rfl fun D =>
      have N : fk_ni (x1) [] := trivial
      j_tc (pc := 31) 0 (t := 76) D N rfl (by decide +kernel) (fun q =>
        fk_jump cut_679_76 rfl rfl) (fun N =>
        j_tc 1 (t := 82) D N rfl (by decide +kernel) (fun q =>
          fk_jump cut_679_82 rfl rfl) (fun N =>
          j_tc 2 (t := 88) D N rfl (by decide +kernel) (fun q =>
            fk_jump cut_679_88 rfl rfl) (fun N =>
            j_tc 3 (t := 90) D N rfl (by decide +kernel) (fun q =>
              fk_jump cut_679_90 rfl rfl) (fun N =>
              j_tc 4 (t := 107) D N rfl (by decide +kernel) (fun q =>
                fk_jump cut_679_107 rfl rfl) (fun N =>
                j_tc 5 (t := 129) D N rfl (by decide +kernel) (fun q =>
                  fk_jump cut_679_129 rfl rfl) (fun N =>
                  j_tc 6 (t := 153) D N rfl (by decide +kernel) (fun q =>
                    fk_jump cut_679_153 rfl rfl) (fun N =>
                    j_tc 7 (t := 172) D N rfl (by decide +kernel) (fun q =>
                      fk_jump cut_679_172 rfl rfl) (fun N =>
                      j_td (t := 192) D N rfl (by decide +kernel) (by decide +kernel) <|
                      fk_jump cut_679_192 rfl rfl)))))))))
theorem e_679_76 (d : Nat) {h : fi_H} (H : Shp h) : c_679_76 d h =
  some (.inl (some (1, wI (h 554 602 0))), h) := by
  unfold c_679_76
  exact
    have D : fk_D 679 [(76, some [0], .aload_n 0, 1, 0, 0, 0), (77, none, .getfield 1218, 3, 554, 129, 10), (80, none, .i2l, 1, 0, 0, 0), (81, none, .lreturn, 1, 0, 0, 0)] := fq_of2 cd_679 ow_679 cl_679 rfl (pc := 76) (by decide +kernel)
    j_aldn (pc := 76) D rfl rfl rfl fun D =>
    j_gf (pc := 77) (a := 602) D rfl rfl (by decide) rfl (s0_602 H) rfl fun D =>
    j_i2l (pc := 80) D rfl fun D =>
    j_lret D rt_679
theorem e_679_82 (d : Nat) {h : fi_H} (H : Shp h) : c_679_82 d h =
  some (.inl (some (1, wI (h 555 602 0))), h) := by
  unfold c_679_82
  exact
    have D : fk_D 679 [(82, some [0], .aload_n 0, 1, 0, 0, 0), (83, none, .getfield 1221, 3, 555, 129, 10), (86, none, .i2l, 1, 0, 0, 0), (87, none, .lreturn, 1, 0, 0, 0)] := fq_of2 cd_679 ow_679 cl_679 rfl (pc := 82) (by decide +kernel)
    j_aldn (pc := 82) D rfl rfl rfl fun D =>
    j_gf (pc := 83) (a := 602) D rfl rfl (by decide) rfl (s0_602 H) rfl fun D =>
    j_i2l (pc := 86) D rfl fun D =>
    j_lret D rt_679
theorem e_679_88 (d : Nat) (x2 : Int) {h : fi_H} (H : Shp h) : c_679_88 d x2 h =
  some (.inl (some (1, x2)), h) := by
  unfold c_679_88
  exact
    have D : fk_D 679 [(88, some [2], .lload_n 2, 1, 0, 0, 0), (89, none, .lreturn, 1, 0, 0, 0)] := fq_of2 cd_679 ow_679 cl_679 rfl (pc := 88) (by decide +kernel)
    j_lldn (pc := 88) D rfl rfl rfl fun D =>
    j_lret D rt_679
theorem e_679_90 (d : Nat) {h : fi_H} (H : Shp h) : c_679_90 d h =
  if h 554 602 0 = 0 then
    some (.inl (some (1, 0)), h)
  else
    ca_ (fj_run d 680 h [(4, 602), (0, 0)]) 1
      (fun v2 h1 =>
      some (.inl (some (1, v2)), h1))
      (fun q3 h1 => tx_ q3 h1) := by
  unfold c_679_90
  exact
    have D : fk_D 679 [(90, some [0], .aload_n 0, 1, 0, 0, 0), (91, none, .getfield 1218, 3, 554, 129, 10), (94, none, .ifCond .ne 7, 3, 101, 0, 0), (97, none, .lconst 0, 1, 0, 0, 0), (98, none, .goto 8, 3, 106, 0, 0)] := fq_of2 cd_679 ow_679 cl_679 rfl (pc := 90) (by decide +kernel)
    j_aldn (pc := 90) D rfl rfl rfl fun D =>
    j_gf (pc := 91) (a := 602) D rfl rfl (by decide) rfl (s0_602 H) rfl fun D =>
    j_ifne (pc := 94) D rfl (fun q D =>
      j_c0 (pc := 97) (v := (1, 0)) D rfl rfl (by decide +kernel) fun D =>
      j_goto (pc := 98) D rfl <|
      have D : fk_D 679 [(106, none, .lreturn, 1, 0, 0, 0)] := fq_of2 cd_679 ow_679 cl_679 rfl (pc := 106) (by decide +kernel)
      j_lret D rt_679) (fun q =>
      have D : fk_D 679 [(101, none, .aload_n 0, 1, 0, 0, 0), (102, none, .iconst 0, 1, 0, 0, 0), (103, none, .invokevirtual 1227, 3, 1, 465, 2), (106, none, .lreturn, 1, 0, 0, 0)] := fq_of2 cd_679 ow_679 cl_679 rfl (pc := 101) (by decide +kernel)
      j_aldn (pc := 101) D rfl rfl rfl fun D =>
      j_ic (pc := 102) D rfl fun D =>
      j_iv (pc := 103) (m := 680) (dd := 465) (a := [(0, 0)]) (rest := []) D rfl rfl rfl rfl rfl (by decide) (s0_602 H) (by decide +kernel) (fun v2 h1 e1 D =>
        have T := fj_run_ok _ _ _ _ _ _ H.1 e1
        have H := shp_st H T
        j_lret D rt_679) (fun q3 h1 e1 =>
        j_tx (hx_679 _)))
theorem e_679_107 (d : Nat) {h : fi_H} (H : Shp h) : c_679_107 d h =
  if h 554 602 0 = 0 then
    some (.inl (some (1, 0)), h)
  else
    ca_ (fj_run d 680 h [(4, 602), (0, wI ((h 554 602 0) - 1))]) 1
      (fun v2 h1 =>
      some (.inl (some (1, v2)), h1))
      (fun q3 h1 => tx_ q3 h1) := by
  unfold c_679_107
  exact
    have D : fk_D 679 [(107, some [0], .aload_n 0, 1, 0, 0, 0), (108, none, .getfield 1218, 3, 554, 129, 10), (111, none, .ifCond .ne 7, 3, 118, 0, 0), (114, none, .lconst 0, 1, 0, 0, 0), (115, none, .goto 13, 3, 128, 0, 0)] := fq_of2 cd_679 ow_679 cl_679 rfl (pc := 107) (by decide +kernel)
    j_aldn (pc := 107) D rfl rfl rfl fun D =>
    j_gf (pc := 108) (a := 602) D rfl rfl (by decide) rfl (s0_602 H) rfl fun D =>
    j_ifne (pc := 111) D rfl (fun q D =>
      j_c0 (pc := 114) (v := (1, 0)) D rfl rfl (by decide +kernel) fun D =>
      j_goto (pc := 115) D rfl <|
      have D : fk_D 679 [(128, none, .lreturn, 1, 0, 0, 0)] := fq_of2 cd_679 ow_679 cl_679 rfl (pc := 128) (by decide +kernel)
      j_lret D rt_679) (fun q =>
      have D : fk_D 679 [(118, none, .aload_n 0, 1, 0, 0, 0), (119, none, .aload_n 0, 1, 0, 0, 0), (120, none, .getfield 1218, 3, 554, 129, 10), (123, none, .iconst 1, 1, 0, 1, 0), (124, none, .isub, 1, 0, 0, 0), (125, none, .invokevirtual 1227, 3, 1, 465, 2), (128, none, .lreturn, 1, 0, 0, 0)] := fq_of2 cd_679 ow_679 cl_679 rfl (pc := 118) (by decide +kernel)
      j_aldn (pc := 118) D rfl rfl rfl fun D =>
      j_aldn (pc := 119) D rfl rfl rfl fun D =>
      j_gf (pc := 120) (a := 602) D rfl rfl (by decide) rfl (s0_602 H) rfl fun D =>
      j_ic (pc := 123) D rfl fun D =>
      j_isub (pc := 124) D rfl fun D =>
      j_iv (pc := 125) (m := 680) (dd := 465) (a := [(0, wI ((h 554 602 0) - 1))]) (rest := []) D rfl rfl rfl rfl rfl (by decide) (s0_602 H) (by decide +kernel) (fun v2 h1 e1 D =>
        have T := fj_run_ok _ _ _ _ _ _ H.1 e1
        have H := shp_st H T
        j_lret D rt_679) (fun q3 h1 e1 =>
        j_tx (hx_679 _)))
theorem e_679_129 (d : Nat) {h : fi_H} (H : Shp h) : c_679_129 d h =
  if h 554 602 0 = 0 then
    some (.inl (some (1, 0)), h)
  else
    ca_ (fj_run d 680 h [(4, 602), (0, iq_ (wI ((h 554 602 0) - 1)) 2)]) 1
      (fun v2 h1 =>
      some (.inl (some (1, v2)), h1))
      (fun q3 h1 => tx_ q3 h1) := by
  unfold c_679_129
  exact
    have D : fk_D 679 [(129, some [0], .aload_n 0, 1, 0, 0, 0), (130, none, .getfield 1218, 3, 554, 129, 10), (133, none, .ifCond .ne 7, 3, 140, 0, 0), (136, none, .lconst 0, 1, 0, 0, 0), (137, none, .goto 15, 3, 152, 0, 0)] := fq_of2 cd_679 ow_679 cl_679 rfl (pc := 129) (by decide +kernel)
    j_aldn (pc := 129) D rfl rfl rfl fun D =>
    j_gf (pc := 130) (a := 602) D rfl rfl (by decide) rfl (s0_602 H) rfl fun D =>
    j_ifne (pc := 133) D rfl (fun q D =>
      j_c0 (pc := 136) (v := (1, 0)) D rfl rfl (by decide +kernel) fun D =>
      j_goto (pc := 137) D rfl <|
      have D : fk_D 679 [(152, none, .lreturn, 1, 0, 0, 0)] := fq_of2 cd_679 ow_679 cl_679 rfl (pc := 152) (by decide +kernel)
      j_lret D rt_679) (fun q =>
      have D : fk_D 679 [(140, none, .aload_n 0, 1, 0, 0, 0), (141, none, .aload_n 0, 1, 0, 0, 0), (142, none, .getfield 1218, 3, 554, 129, 10), (145, none, .iconst 1, 1, 0, 1, 0), (146, none, .isub, 1, 0, 0, 0), (147, none, .iconst 2, 1, 0, 2, 0), (148, none, .idiv, 1, 0, 0, 0), (149, none, .invokevirtual 1227, 3, 1, 465, 2), (152, none, .lreturn, 1, 0, 0, 0)] := fq_of2 cd_679 ow_679 cl_679 rfl (pc := 140) (by decide +kernel)
      j_aldn (pc := 140) D rfl rfl rfl fun D =>
      j_aldn (pc := 141) D rfl rfl rfl fun D =>
      j_gf (pc := 142) (a := 602) D rfl rfl (by decide) rfl (s0_602 H) rfl fun D =>
      j_ic (pc := 145) D rfl fun D =>
      j_isub (pc := 146) D rfl fun D =>
      j_ic (pc := 147) D rfl fun D =>
      j_idivk (pc := 148) D rfl (by decide) fun D =>
      j_iv (pc := 149) (m := 680) (dd := 465) (a := [(0, iq_ (wI ((h 554 602 0) - 1)) 2)]) (rest := []) D rfl rfl rfl rfl rfl (by decide) (s0_602 H) (by decide +kernel) (fun v2 h1 e1 D =>
        have T := fj_run_ok _ _ _ _ _ _ H.1 e1
        have H := shp_st H T
        j_lret D rt_679) (fun q3 h1 e1 =>
        j_tx (hx_679 _)))
theorem e_679_153 (d : Nat) {h : fi_H} (H : Shp h) : c_679_153 d h =
  if h 554 602 0 = 0 then
    some (.inl (some (1, 0)), h)
  else
    ca_ (fj_run d 681 h [(4, 602)]) 3
      (fun v2 h1 =>
      ca_ (fj_run d 323 h1 [(3, v2)]) 1
        (fun v5 h4 =>
        some (.inl (some (1, v5)), h4))
        (fun q6 h4 => tx_ q6 h4))
      (fun q3 h1 => tx_ q3 h1) := by
  unfold c_679_153
  exact
    have D : fk_D 679 [(153, some [0], .aload_n 0, 1, 0, 0, 0), (154, none, .getfield 1218, 3, 554, 129, 10), (157, none, .ifCond .ne 7, 3, 164, 0, 0), (160, none, .lconst 0, 1, 0, 0, 0), (161, none, .goto 10, 3, 171, 0, 0)] := fq_of2 cd_679 ow_679 cl_679 rfl (pc := 153) (by decide +kernel)
    j_aldn (pc := 153) D rfl rfl rfl fun D =>
    j_gf (pc := 154) (a := 602) D rfl rfl (by decide) rfl (s0_602 H) rfl fun D =>
    j_ifne (pc := 157) D rfl (fun q D =>
      j_c0 (pc := 160) (v := (1, 0)) D rfl rfl (by decide +kernel) fun D =>
      j_goto (pc := 161) D rfl <|
      have D : fk_D 679 [(171, none, .lreturn, 1, 0, 0, 0)] := fq_of2 cd_679 ow_679 cl_679 rfl (pc := 171) (by decide +kernel)
      j_lret D rt_679) (fun q =>
      have D : fk_D 679 [(164, none, .aload_n 0, 1, 0, 0, 0), (165, none, .invokevirtual 1231, 3, 0, 466, 4), (168, none, .invokestatic 942, 3, 1, 323, 2), (171, none, .lreturn, 1, 0, 0, 0)] := fq_of2 cd_679 ow_679 cl_679 rfl (pc := 164) (by decide +kernel)
      j_aldn (pc := 164) D rfl rfl rfl fun D =>
      j_iv (pc := 165) (m := 681) (dd := 466) (a := []) (rest := []) D rfl rfl rfl rfl rfl (by decide) (s0_602 H) (by decide +kernel) (fun v2 h1 e1 D =>
        have T := fj_run_ok _ _ _ _ _ _ H.1 e1
        have H := shp_st H T
        j_is (pc := 168) (m := 323) (a := [(3, v2)]) (rest := []) D rfl rfl rfl rfl (fun v5 h4 e1 D =>
          have T := fj_run_ok _ _ _ _ _ _ H.1 e1
          have H := shp_st H T
          j_lret D rt_679) (fun q6 h4 e1 =>
          j_tx (hx_679 _))) (fun q3 h1 e1 =>
        j_tx (hx_679 _)))
theorem e_679_172 (d : Nat) (x2 : Int) {h : fi_H} (H : Shp h) : c_679_172 d x2 h =
  if h 554 602 0 = 0 then
    some (.inl (some (1, 0)), h)
  else
    ca_ (fj_run d 682 h [(4, 602), (1, x2)]) 3
      (fun v2 h1 =>
      ca_ (fj_run d 323 h1 [(3, v2)]) 1
        (fun v5 h4 =>
        some (.inl (some (1, v5)), h4))
        (fun q6 h4 => tx_ q6 h4))
      (fun q3 h1 => tx_ q3 h1) := by
  unfold c_679_172
  exact
    have D : fk_D 679 [(172, some [0, 2], .aload_n 0, 1, 0, 0, 0), (173, none, .getfield 1218, 3, 554, 129, 10), (176, none, .ifCond .ne 7, 3, 183, 0, 0), (179, none, .lconst 0, 1, 0, 0, 0), (180, none, .goto 11, 3, 191, 0, 0)] := fq_of2 cd_679 ow_679 cl_679 rfl (pc := 172) (by decide +kernel)
    j_aldn (pc := 172) D rfl rfl rfl fun D =>
    j_gf (pc := 173) (a := 602) D rfl rfl (by decide) rfl (s0_602 H) rfl fun D =>
    j_ifne (pc := 176) D rfl (fun q D =>
      j_c0 (pc := 179) (v := (1, 0)) D rfl rfl (by decide +kernel) fun D =>
      j_goto (pc := 180) D rfl <|
      have D : fk_D 679 [(191, none, .lreturn, 1, 0, 0, 0)] := fq_of2 cd_679 ow_679 cl_679 rfl (pc := 191) (by decide +kernel)
      j_lret D rt_679) (fun q =>
      have D : fk_D 679 [(183, none, .aload_n 0, 1, 0, 0, 0), (184, none, .lload_n 2, 1, 0, 0, 0), (185, none, .invokevirtual 1235, 3, 1, 467, 4), (188, none, .invokestatic 942, 3, 1, 323, 2), (191, none, .lreturn, 1, 0, 0, 0)] := fq_of2 cd_679 ow_679 cl_679 rfl (pc := 183) (by decide +kernel)
      j_aldn (pc := 183) D rfl rfl rfl fun D =>
      j_lldn (pc := 184) D rfl rfl rfl fun D =>
      j_iv (pc := 185) (m := 682) (dd := 467) (a := [(1, x2)]) (rest := []) D rfl rfl rfl rfl rfl (by decide) (s0_602 H) (by decide +kernel) (fun v2 h1 e1 D =>
        have T := fj_run_ok _ _ _ _ _ _ H.1 e1
        have H := shp_st H T
        j_is (pc := 188) (m := 323) (a := [(3, v2)]) (rest := []) D rfl rfl rfl rfl (fun v5 h4 e1 D =>
          have T := fj_run_ok _ _ _ _ _ _ H.1 e1
          have H := shp_st H T
          j_lret D rt_679) (fun q6 h4 e1 =>
          j_tx (hx_679 _))) (fun q3 h1 e1 =>
        j_tx (hx_679 _)))
theorem e_679_192 (d : Nat) (x1 : Int) {h : fi_H} (H : Shp h) : c_679_192 d x1 h =
  if h 556 602 0 = 0 then
    some (.inl (some (1, 0)), h)
  else
    ca_ (fj_run d 508 h [(1, wI x1), (1, 8), (1, 11)]) 0
      (fun v2 h1 =>
      if v2 = 0 then
        some (.inl (some (1, 0)), h1)
      else
        ca_ (fj_run d 683 h1 [(4, 602), (0, x1)]) 1
          (fun v5 h4 =>
          some (.inl (some (1, v5)), h4))
          (fun q6 h4 => tx_ q6 h4))
      (fun q3 h1 => tx_ q3 h1) := by
  unfold c_679_192
  exact
    have D : fk_D 679 [(192, some [0, 1], .aload_n 0, 1, 0, 0, 0), (193, none, .getfield 1224, 3, 556, 129, 4), (196, none, .ifCond .eq 25, 3, 221, 0, 0), (199, none, .iload_n 1, 1, 0, 0, 0), (200, none, .i2l, 1, 0, 0, 0), (201, none, .ldc2_w 1237, 3, 1, 8, 0), (204, none, .ldc2_w 1239, 3, 1, 11, 0), (207, none, .invokestatic 434, 3, 3, 508, 1), (210, none, .ifCond .eq 11, 3, 221, 0, 0), (213, none, .aload_n 0, 1, 0, 0, 0), (214, none, .iload_n 1, 1, 0, 0, 0), (215, none, .invokevirtual 1241, 3, 1, 468, 2), (218, none, .goto 4, 3, 222, 0, 0)] := fq_of2 cd_679 ow_679 cl_679 rfl (pc := 192) (by decide +kernel)
    j_aldn (pc := 192) D rfl rfl rfl fun D =>
    j_gf (pc := 193) (a := 602) D rfl rfl (by decide) rfl (s0_602 H) rfl fun D =>
    j_ifeq (pc := 196) D rfl (fun q =>
      have D : fk_D 679 [(221, none, .lconst 0, 1, 0, 0, 0), (222, none, .lreturn, 1, 0, 0, 0)] := fq_of2 cd_679 ow_679 cl_679 rfl (pc := 221) (by decide +kernel)
      j_c0 (pc := 221) (v := (1, 0)) D rfl rfl (by decide +kernel) fun D =>
      j_lret D rt_679) (fun q D =>
      j_ildn (pc := 199) D rfl rfl rfl fun D =>
      j_i2l (pc := 200) D rfl fun D =>
      j_ldc2 (pc := 201) D rfl fun D =>
      j_ldc2 (pc := 204) D rfl fun D =>
      j_is (pc := 207) (m := 508) (a := [(1, wI x1), (1, 8), (1, 11)]) (rest := []) D rfl rfl rfl rfl (fun v2 h1 e1 D =>
        have T := fj_run_ok _ _ _ _ _ _ H.1 e1
        have H := shp_st H T
        j_ifeq (pc := 210) D rfl (fun q =>
          have D : fk_D 679 [(221, none, .lconst 0, 1, 0, 0, 0), (222, none, .lreturn, 1, 0, 0, 0)] := fq_of2 cd_679 ow_679 cl_679 rfl (pc := 221) (by decide +kernel)
          j_c0 (pc := 221) (v := (1, 0)) D rfl rfl (by decide +kernel) fun D =>
          j_lret D rt_679) (fun q D =>
          j_aldn (pc := 213) D rfl rfl rfl fun D =>
          j_ildn (pc := 214) D rfl rfl rfl fun D =>
          j_iv (pc := 215) (m := 683) (dd := 468) (a := [(0, x1)]) (rest := []) D rfl rfl rfl rfl rfl (by decide) (s0_602 H) (by decide +kernel) (fun v5 h4 e1 D =>
            have T := fj_run_ok _ _ _ _ _ _ H.1 e1
            have H := shp_st H T
            j_goto (pc := 218) D rfl <|
            have D : fk_D 679 [(222, none, .lreturn, 1, 0, 0, 0)] := fq_of2 cd_679 ow_679 cl_679 rfl (pc := 222) (by decide +kernel)
            j_lret D rt_679) (fun q6 h4 e1 =>
            j_tx (hx_679 _)))) (fun q3 h1 e1 =>
        j_tx (hx_679 _)))
theorem m_679 (d : Nat) (x1 : Int) {h : fi_H} (H : Shp h) : fj_run (d + 1) 679 h [(4, 602), (0, x1)] =
  c_679_5 d x1 0 0 h := by
  rw [fj_run_eq d (by decide) h [(4, 602), (0, x1)] (Nat.le_of_ble_eq_true (by rw [nl_679]; rfl))]
  show gG (fj_run d) 679 0 [(0, (4, 602)), (1, (0, x1))] [] h = _
  exact
    have D : fk_D 679 [(0, none, .lconst 0, 1, 0, 0, 0), (1, none, .lstore_n 2, 1, 0, 0, 0), (2, none, .iconst 0, 1, 0, 0, 0), (3, none, .istore 4, 2, 0, 0, 0)] := fq_of2 cd_679 ow_679 cl_679 rfl (pc := 0) (by decide +kernel)
    j_c0 (pc := 0) (v := (1, 0)) D rfl rfl (by decide +kernel) fun D =>
    j_lstn (pc := 1) (L' := [(2, (1, 0)), (0, (4, 602)), (1, (0, x1))]) D rfl nl_679 rfl rfl fun D =>
    j_ic (pc := 2) D rfl fun D =>
    j_ist (pc := 3) (L' := [(4, (0, 0)), (2, (1, 0)), (0, (4, 602)), (1, (0, x1))]) D rfl nl_679 rfl rfl fun D =>
    fk_jump cut_679_5 rfl rfl
/-! 680 StatuteHouseModel.bySize(I)J -/
theorem cd_680 : fi_code 680 = prog_69_method_198_code := rfl
theorem hx_680 : ∀ pc, fi_hat 680 pc = none := fun pc => by unfold fi_hat; rw [show fi_hh 680 = [] from rfl]; rfl
theorem rt_680 : fi_ret 680 = some .long := rfl
theorem nl_680 : fi_nl 680 = 6 := rfl
theorem ow_680 : fi_ow 680 = 29 := rfl
theorem cl_680 : fj_cutT.getD 680 [] = [(2, [0, 1, 2]), (18, [0, 1, 2, 3, 4, 5]), (50, [0, 1, 2, 4, 5]), (76, [0, 1, 2, 3, 5]), (105, [0, 1, 2])] := rfl
theorem cut_680_2 : fj_cut 680 2 = some [0, 1, 2] := by decide +kernel
noncomputable def c_680_2 (d : Nat) (x1 x2 : Int) (h : fi_H) : fk_R := gG (fj_run d) 680 2 [(0, (4, 602)), (1, (0, x1)), (2, (0, x2))] [] h
theorem cut_680_18 : fj_cut 680 18 = some [0, 1, 2, 3, 4, 5] := by decide +kernel
noncomputable def c_680_18 (d : Nat) (x1 x2 x3 x4 x5 : Int) (h : fi_H) : fk_R := gG (fj_run d) 680 18 [(0, (4, 602)), (1, (0, x1)), (2, (0, x2)), (3, (0, x3)), (4, (0, x4)), (5, (0, x5))] [] h
theorem cut_680_50 : fj_cut 680 50 = some [0, 1, 2, 4, 5] := by decide +kernel
noncomputable def c_680_50 (d : Nat) (x1 x2 x4 x5 s0 s1 : Int) (h : fi_H) : fk_R := gG (fj_run d) 680 50 [(0, (4, 602)), (1, (0, x1)), (2, (0, x2)), (4, (0, x4)), (5, (0, x5))] [(0, s1), (0, s0)] h
theorem cut_680_76 : fj_cut 680 76 = some [0, 1, 2, 3, 5] := by decide +kernel
noncomputable def c_680_76 (d : Nat) (x1 x2 x3 x5 s0 s1 : Int) (h : fi_H) : fk_R := gG (fj_run d) 680 76 [(0, (4, 602)), (1, (0, x1)), (2, (0, x2)), (3, (0, x3)), (5, (0, x5))] [(0, s1), (0, s0)] h
theorem cut_680_105 : fj_cut 680 105 = some [0, 1, 2] := by decide +kernel
noncomputable def c_680_105 (d : Nat) (x1 x2 : Int) (h : fi_H) : fk_R := gG (fj_run d) 680 105 [(0, (4, 602)), (1, (0, x1)), (2, (0, x2))] [] h
theorem e_680_2 (d : Nat) (x1 x2 : Int) {h : fi_H} (H : Shp h) : c_680_2 d x1 x2 h =
  if x2 < h 554 602 0 then
    c_680_18 d x1 x2 0 0 0 h
  else
    some (.inl (some (1, 0)), h) := by
  unfold c_680_2
  exact
    have D : fk_D 680 [(2, some [0, 1, 2], .iload_n 2, 1, 0, 0, 0), (3, none, .aload_n 0, 1, 0, 0, 0), (4, none, .getfield 1218, 3, 554, 129, 10), (7, none, .if_icmp .ge 104, 3, 111, 0, 0), (10, none, .iconst 0, 1, 0, 0, 0), (11, none, .istore_n 3, 1, 0, 0, 0), (12, none, .iconst 0, 1, 0, 0, 0), (13, none, .istore 4, 2, 0, 0, 0), (15, none, .iconst 0, 1, 0, 0, 0), (16, none, .istore 5, 2, 0, 0, 0)] := fq_of2 cd_680 ow_680 cl_680 rfl (pc := 2) (by decide +kernel)
    j_ildn (pc := 2) D rfl rfl rfl fun D =>
    j_aldn (pc := 3) D rfl rfl rfl fun D =>
    j_gf (pc := 4) (a := 602) D rfl rfl (by decide) rfl (s0_602 H) rfl fun D =>
    j_ige (pc := 7) D rfl (fun q D =>
      j_ic (pc := 10) D rfl fun D =>
      j_istn (pc := 11) (L' := [(3, (0, 0)), (0, (4, 602)), (1, (0, x1)), (2, (0, x2))]) D rfl nl_680 rfl rfl fun D =>
      j_ic (pc := 12) D rfl fun D =>
      j_ist (pc := 13) (L' := [(4, (0, 0)), (3, (0, 0)), (0, (4, 602)), (1, (0, x1)), (2, (0, x2))]) D rfl nl_680 rfl rfl fun D =>
      j_ic (pc := 15) D rfl fun D =>
      j_ist (pc := 16) (L' := [(5, (0, 0)), (4, (0, 0)), (3, (0, 0)), (0, (4, 602)), (1, (0, x1)), (2, (0, x2))]) D rfl nl_680 rfl rfl fun D =>
      fk_jump cut_680_18 rfl rfl) (fun q =>
      have D : fk_D 680 [(111, none, .lconst 0, 1, 0, 0, 0), (112, none, .lreturn, 1, 0, 0, 0)] := fq_of2 cd_680 ow_680 cl_680 rfl (pc := 111) (by decide +kernel)
      j_c0 (pc := 111) (v := (1, 0)) D rfl rfl (by decide +kernel) fun D =>
      j_lret D rt_680)
theorem e_680_18 (d : Nat) (x1 x2 x3 x4 x5 : Int) {h : fi_H} (H : Shp h) : c_680_18 d x1 x2 x3 x4 x5 h =
  if x5 < h 554 602 0 then
    if 0 ≤ x5 ∧ x5 < 30 then
    if 0 ≤ x2 ∧ x2 < 30 then
    if lc_ (h 11 707 x5.toNat) (h 11 707 x2.toNat) < 0 then
      c_680_50 d x1 x2 x4 x5 x3 1 h
    else
      c_680_50 d x1 x2 x4 x5 x3 0 h
    else none
    else none
  else
    if x1 < x3 then
      c_680_105 d x1 x2 h
    else
      if x1 < wI (x3 + x4) then
        if 0 ≤ x2 ∧ x2 < 30 then
        some (.inl (some (1, h 11 707 x2.toNat)), h)
        else none
      else
        c_680_105 d x1 x2 h := by
  unfold c_680_18
  exact
    have D : fk_D 680 [(18, some [0, 1, 2, 3, 4, 5], .iload 5, 2, 0, 0, 0), (20, none, .aload_n 0, 1, 0, 0, 0), (21, none, .getfield 1218, 3, 554, 129, 10), (24, none, .if_icmp .ge 61, 3, 85, 0, 0), (27, none, .iload_n 3, 1, 0, 0, 0), (28, none, .aload_n 0, 1, 0, 0, 0), (29, none, .getfield 377, 3, 551, 129, 12), (32, none, .iload 5, 2, 0, 0, 0), (34, none, .laload, 1, 0, 0, 0), (35, none, .aload_n 0, 1, 0, 0, 0), (36, none, .getfield 377, 3, 551, 129, 12), (39, none, .iload_n 2, 1, 0, 0, 0), (40, none, .laload, 1, 0, 0, 0), (41, none, .lcmp, 1, 0, 0, 0), (42, none, .ifCond .ge 7, 3, 49, 0, 0), (45, none, .iconst 1, 1, 0, 1, 0), (46, none, .goto 4, 3, 50, 0, 0)] := fq_of2 cd_680 ow_680 cl_680 rfl (pc := 18) (by decide +kernel)
    j_ild (pc := 18) D rfl rfl rfl fun D =>
    j_aldn (pc := 20) D rfl rfl rfl fun D =>
    j_gf (pc := 21) (a := 602) D rfl rfl (by decide) rfl (s0_602 H) rfl fun D =>
    j_ige (pc := 24) D rfl (fun q D =>
      j_ildn (pc := 27) D rfl rfl rfl fun D =>
      j_aldn (pc := 28) D rfl rfl rfl fun D =>
      j_gfc (pc := 29) (a := 602) D rfl rfl (by decide) rfl (s0_602 H) rfl (sf_551_602 H) fun D =>
      j_ild (pc := 32) D rfl rfl rfl fun D =>
      j_al (pc := 34) (a := 707) (e := 11) D rfl rfl rfl (by decide) (s0_707 H) (s1_707 H) ⟨rfl, rfl, rfl⟩ rfl gn fun qb1 D =>
      j_aldn (pc := 35) D rfl rfl rfl fun D =>
      j_gfc (pc := 36) (a := 602) D rfl rfl (by decide) rfl (s0_602 H) rfl (sf_551_602 H) fun D =>
      j_ildn (pc := 39) D rfl rfl rfl fun D =>
      j_al (pc := 40) (a := 707) (e := 11) D rfl rfl rfl (by decide) (s0_707 H) (s1_707 H) ⟨rfl, rfl, rfl⟩ rfl gn fun qb2 D =>
      j_lcmp (pc := 41) D rfl fun D =>
      j_ifge (pc := 42) D rfl (fun q D =>
        j_ic (pc := 45) D rfl fun D =>
        j_goto (pc := 46) D rfl <|
        fk_jump cut_680_50 rfl rfl) (fun q =>
        have D : fk_D 680 [(49, none, .iconst 0, 1, 0, 0, 0)] := fq_of2 cd_680 ow_680 cl_680 rfl (pc := 49) (by decide +kernel)
        j_ic (pc := 49) D rfl fun D =>
        fk_jump cut_680_50 rfl rfl)) (fun q =>
      have D : fk_D 680 [(85, none, .iload_n 3, 1, 0, 0, 0), (86, none, .iload_n 1, 1, 0, 0, 0), (87, none, .if_icmp .gt 18, 3, 105, 0, 0), (90, none, .iload_n 1, 1, 0, 0, 0), (91, none, .iload_n 3, 1, 0, 0, 0), (92, none, .iload 4, 2, 0, 0, 0), (94, none, .iadd, 1, 0, 0, 0), (95, none, .if_icmp .ge 10, 3, 105, 0, 0), (98, none, .aload_n 0, 1, 0, 0, 0), (99, none, .getfield 377, 3, 551, 129, 12), (102, none, .iload_n 2, 1, 0, 0, 0), (103, none, .laload, 1, 0, 0, 0), (104, none, .lreturn, 1, 0, 0, 0)] := fq_of2 cd_680 ow_680 cl_680 rfl (pc := 85) (by decide +kernel)
      j_ildn (pc := 85) D rfl rfl rfl fun D =>
      j_ildn (pc := 86) D rfl rfl rfl fun D =>
      j_igt (pc := 87) D rfl (fun q =>
        fk_jump cut_680_105 rfl rfl) (fun q D =>
        j_ildn (pc := 90) D rfl rfl rfl fun D =>
        j_ildn (pc := 91) D rfl rfl rfl fun D =>
        j_ild (pc := 92) D rfl rfl rfl fun D =>
        j_iadd (pc := 94) D rfl fun D =>
        j_ige (pc := 95) D rfl (fun q D =>
          j_aldn (pc := 98) D rfl rfl rfl fun D =>
          j_gfc (pc := 99) (a := 602) D rfl rfl (by decide) rfl (s0_602 H) rfl (sf_551_602 H) fun D =>
          j_ildn (pc := 102) D rfl rfl rfl fun D =>
          j_al (pc := 103) (a := 707) (e := 11) D rfl rfl rfl (by decide) (s0_707 H) (s1_707 H) ⟨rfl, rfl, rfl⟩ rfl gn fun qb3 D =>
          j_lret D rt_680) (fun q =>
          fk_jump cut_680_105 rfl rfl)))
theorem e_680_50 (d : Nat) (x1 x2 x4 x5 s0 s1 : Int) {h : fi_H} (H : Shp h) : c_680_50 d x1 x2 x4 x5 s0 s1 h =
  if 0 ≤ x5 ∧ x5 < 30 then
  if 0 ≤ x2 ∧ x2 < 30 then
  if lc_ (h 11 707 x5.toNat) (h 11 707 x2.toNat) = 0 then
    c_680_76 d x1 x2 (wI (s0 + s1)) x5 x4 1 h
  else
    c_680_76 d x1 x2 (wI (s0 + s1)) x5 x4 0 h
  else none
  else none := by
  unfold c_680_50
  exact
    have D : fk_D 680 [(50, some [0, 1, 2, 4, 5], .iadd, 1, 0, 0, 0), (51, none, .istore_n 3, 1, 0, 0, 0), (52, none, .iload 4, 2, 0, 0, 0), (54, none, .aload_n 0, 1, 0, 0, 0), (55, none, .getfield 377, 3, 551, 129, 12), (58, none, .iload 5, 2, 0, 0, 0), (60, none, .laload, 1, 0, 0, 0), (61, none, .aload_n 0, 1, 0, 0, 0), (62, none, .getfield 377, 3, 551, 129, 12), (65, none, .iload_n 2, 1, 0, 0, 0), (66, none, .laload, 1, 0, 0, 0), (67, none, .lcmp, 1, 0, 0, 0), (68, none, .ifCond .ne 7, 3, 75, 0, 0), (71, none, .iconst 1, 1, 0, 1, 0), (72, none, .goto 4, 3, 76, 0, 0)] := fq_of2 cd_680 ow_680 cl_680 rfl (pc := 50) (by decide +kernel)
    j_iadd (pc := 50) D rfl fun D =>
    j_istn (pc := 51) (L' := [(3, (0, wI (s0 + s1))), (0, (4, 602)), (1, (0, x1)), (2, (0, x2)), (4, (0, x4)), (5, (0, x5))]) D rfl nl_680 rfl rfl fun D =>
    j_ild (pc := 52) D rfl rfl rfl fun D =>
    j_aldn (pc := 54) D rfl rfl rfl fun D =>
    j_gfc (pc := 55) (a := 602) D rfl rfl (by decide) rfl (s0_602 H) rfl (sf_551_602 H) fun D =>
    j_ild (pc := 58) D rfl rfl rfl fun D =>
    j_al (pc := 60) (a := 707) (e := 11) D rfl rfl rfl (by decide) (s0_707 H) (s1_707 H) ⟨rfl, rfl, rfl⟩ rfl gn fun qb1 D =>
    j_aldn (pc := 61) D rfl rfl rfl fun D =>
    j_gfc (pc := 62) (a := 602) D rfl rfl (by decide) rfl (s0_602 H) rfl (sf_551_602 H) fun D =>
    j_ildn (pc := 65) D rfl rfl rfl fun D =>
    j_al (pc := 66) (a := 707) (e := 11) D rfl rfl rfl (by decide) (s0_707 H) (s1_707 H) ⟨rfl, rfl, rfl⟩ rfl gn fun qb2 D =>
    j_lcmp (pc := 67) D rfl fun D =>
    j_ifne (pc := 68) D rfl (fun q D =>
      j_ic (pc := 71) D rfl fun D =>
      j_goto (pc := 72) D rfl <|
      fk_jump cut_680_76 rfl rfl) (fun q =>
      have D : fk_D 680 [(75, none, .iconst 0, 1, 0, 0, 0)] := fq_of2 cd_680 ow_680 cl_680 rfl (pc := 75) (by decide +kernel)
      j_ic (pc := 75) D rfl fun D =>
      fk_jump cut_680_76 rfl rfl)
theorem e_680_76 (d : Nat) (x1 x2 x3 x5 s0 s1 : Int) {h : fi_H} (H : Shp h) : c_680_76 d x1 x2 x3 x5 s0 s1 h =
  c_680_18 d x1 x2 x3 (wI (s0 + s1)) (wI (x5 + 1)) h := by
  unfold c_680_76
  exact
    have D : fk_D 680 [(76, some [0, 1, 2, 3, 5], .iadd, 1, 0, 0, 0), (77, none, .istore 4, 2, 0, 0, 0), (79, none, .iinc 5 1, 3, 0, 1, 0), (82, none, .goto (-64), 3, 18, 0, 0)] := fq_of2 cd_680 ow_680 cl_680 rfl (pc := 76) (by decide +kernel)
    j_iadd (pc := 76) D rfl fun D =>
    j_ist (pc := 77) (L' := [(4, (0, wI (s0 + s1))), (0, (4, 602)), (1, (0, x1)), (2, (0, x2)), (3, (0, x3)), (5, (0, x5))]) D rfl nl_680 rfl rfl fun D =>
    j_inc (pc := 79) (L' := [(5, (0, wI (x5 + 1))), (4, (0, wI (s0 + s1))), (0, (4, 602)), (1, (0, x1)), (2, (0, x2)), (3, (0, x3))]) D rfl rfl rfl (by decide +kernel) rfl fun D =>
    j_goto (pc := 82) D rfl <|
    fk_jump cut_680_18 rfl rfl
theorem e_680_105 (d : Nat) (x1 x2 : Int) {h : fi_H} (H : Shp h) : c_680_105 d x1 x2 h =
  c_680_2 d x1 (wI (x2 + 1)) h := by
  unfold c_680_105
  exact
    have D : fk_D 680 [(105, some [0, 1, 2], .iinc 2 1, 3, 0, 1, 0), (108, none, .goto (-106), 3, 2, 0, 0)] := fq_of2 cd_680 ow_680 cl_680 rfl (pc := 105) (by decide +kernel)
    j_inc (pc := 105) (L' := [(2, (0, wI (x2 + 1))), (0, (4, 602)), (1, (0, x1))]) D rfl rfl rfl (by decide +kernel) rfl fun D =>
    j_goto (pc := 108) D rfl <|
    fk_jump cut_680_2 rfl rfl
theorem m_680 (d : Nat) (x1 : Int) {h : fi_H} (H : Shp h) : fj_run (d + 1) 680 h [(4, 602), (0, x1)] =
  c_680_2 d x1 0 h := by
  rw [fj_run_eq d (by decide) h [(4, 602), (0, x1)] (Nat.le_of_ble_eq_true (by rw [nl_680]; rfl))]
  show gG (fj_run d) 680 0 [(0, (4, 602)), (1, (0, x1))] [] h = _
  exact
    have D : fk_D 680 [(0, none, .iconst 0, 1, 0, 0, 0), (1, none, .istore_n 2, 1, 0, 0, 0)] := fq_of2 cd_680 ow_680 cl_680 rfl (pc := 0) (by decide +kernel)
    j_ic (pc := 0) D rfl fun D =>
    j_istn (pc := 1) (L' := [(2, (0, 0)), (0, (4, 602)), (1, (0, x1))]) D rfl nl_680 rfl rfl fun D =>
    fk_jump cut_680_2 rfl rfl
/-! 681 StatuteHouseModel.weighed()D -/
theorem cd_681 : fi_code 681 = prog_69_method_199_code := rfl
theorem hx_681 : ∀ pc, fi_hat 681 pc = none := fun pc => by unfold fi_hat; rw [show fi_hh 681 = [] from rfl]; rfl
theorem rt_681 : fi_ret 681 = some .double := rfl
theorem nl_681 : fi_nl 681 = 6 := rfl
theorem ow_681 : fi_ow 681 = 29 := rfl
theorem cl_681 : fj_cutT.getD 681 [] = [(7, [0, 1, 3, 5])] := rfl
theorem cut_681_7 : fj_cut 681 7 = some [0, 1, 3, 5] := by decide +kernel
noncomputable def c_681_7 (d : Nat) (x1 x3 x5 : Int) (h : fi_H) : fk_R := gG (fj_run d) 681 7 [(0, (4, 602)), (1, (3, x1)), (3, (3, x3)), (5, (0, x5))] [] h
theorem e_681_7 (d : Nat) (x1 x3 x5 : Int) {h : fi_H} (H : Shp h) : c_681_7 d x1 x3 x5 h =
  if x5 < h 554 602 0 then
    if 0 ≤ x5 ∧ x5 < 30 then
    dn_ (FP.f2d (fi_F (h 6 709 x5.toNat))) fun v2 =>
    dn_ (FP.dmul (fi_D v2) (fi_D (ld_ (h 11 707 x5.toNat)))) fun v3 =>
    dn_ (FP.dadd (fi_D x1) (fi_D v3)) fun v4 =>
    dn_ (FP.f2d (fi_F (h 6 709 x5.toNat))) fun v5 =>
    dn_ (FP.dadd (fi_D x3) (fi_D v5)) fun v6 =>
    c_681_7 d v4 v6 (wI (x5 + 1)) h
    else none
  else
    dn_ (FP.ddiv (fi_D x1) (fi_D x3)) fun v7 =>
    some (.inl (some (3, v7)), h) := by
  unfold c_681_7
  exact
    have D : fk_D 681 [(7, some [0, 1, 3, 5], .iload 5, 2, 0, 0, 0), (9, none, .aload_n 0, 1, 0, 0, 0), (10, none, .getfield 1218, 3, 554, 129, 10), (13, none, .if_icmp .ge 40, 3, 53, 0, 0), (16, none, .dload_n 1, 1, 0, 0, 0), (17, none, .aload_n 0, 1, 0, 0, 0), (18, none, .getfield 383, 3, 553, 129, 12), (21, none, .iload 5, 2, 0, 0, 0), (23, none, .faload, 1, 0, 0, 0), (24, none, .f2d, 1, 0, 0, 0), (25, none, .aload_n 0, 1, 0, 0, 0), (26, none, .getfield 377, 3, 551, 129, 12), (29, none, .iload 5, 2, 0, 0, 0), (31, none, .laload, 1, 0, 0, 0), (32, none, .l2d, 1, 0, 0, 0), (33, none, .dmul, 1, 0, 0, 0), (34, none, .dadd, 1, 0, 0, 0), (35, none, .dstore_n 1, 1, 0, 0, 0), (36, none, .dload_n 3, 1, 0, 0, 0), (37, none, .aload_n 0, 1, 0, 0, 0)] := fq_of2 cd_681 ow_681 cl_681 rfl (pc := 7) (by decide +kernel)
    j_ild (pc := 7) D rfl rfl rfl fun D =>
    j_aldn (pc := 9) D rfl rfl rfl fun D =>
    j_gf (pc := 10) (a := 602) D rfl rfl (by decide) rfl (s0_602 H) rfl fun D =>
    j_ige (pc := 13) D rfl (fun q D =>
      j_dldn (pc := 16) D rfl rfl rfl fun D =>
      j_aldn (pc := 17) D rfl rfl rfl fun D =>
      j_gfc (pc := 18) (a := 602) D rfl rfl (by decide) rfl (s0_602 H) rfl (sf_553_602 H) fun D =>
      j_ild (pc := 21) D rfl rfl rfl fun D =>
      j_al (pc := 23) (a := 709) (e := 6) D rfl rfl rfl (by decide) (s0_709 H) (s1_709 H) ⟨rfl, rfl, rfl⟩ rfl gn fun qb1 D =>
      j_f2d (pc := 24) D rfl fun D v2 =>
      j_aldn (pc := 25) D rfl rfl rfl fun D =>
      j_gfc (pc := 26) (a := 602) D rfl rfl (by decide) rfl (s0_602 H) rfl (sf_551_602 H) fun D =>
      j_ild (pc := 29) D rfl rfl rfl fun D =>
      j_al (pc := 31) (a := 707) (e := 11) D rfl rfl rfl (by decide) (s0_707 H) (s1_707 H) ⟨rfl, rfl, rfl⟩ rfl (gy qb1) fun q D =>
      j_l2d (pc := 32) D rfl fun D =>
      j_dop (pc := 33) (u := FP.dmul (fi_D v2) (fi_D (ld_ (h 11 707 x5.toNat)))) D rfl rfl rfl fun D v3 =>
      j_dop (pc := 34) (u := FP.dadd (fi_D x1) (fi_D v3)) D rfl rfl rfl fun D v4 =>
      j_dstn (pc := 35) (L' := [(1, (3, v4)), (0, (4, 602)), (3, (3, x3)), (5, (0, x5))]) D rfl nl_681 rfl rfl fun D =>
      j_dldn (pc := 36) D rfl rfl rfl fun D =>
      j_aldn (pc := 37) D rfl rfl rfl fun D =>
      have D : fk_D 681 [(38, none, .getfield 383, 3, 553, 129, 12), (41, none, .iload 5, 2, 0, 0, 0), (43, none, .faload, 1, 0, 0, 0), (44, none, .f2d, 1, 0, 0, 0), (45, none, .dadd, 1, 0, 0, 0), (46, none, .dstore_n 3, 1, 0, 0, 0), (47, none, .iinc 5 1, 3, 0, 1, 0), (50, none, .goto (-43), 3, 7, 0, 0)] := fq_of2 cd_681 ow_681 cl_681 rfl (pc := 38) (by decide +kernel)
      j_gfc (pc := 38) (a := 602) D rfl rfl (by decide) rfl (s0_602 H) rfl (sf_553_602 H) fun D =>
      j_ild (pc := 41) D rfl rfl rfl fun D =>
      j_al (pc := 43) (a := 709) (e := 6) D rfl rfl rfl (by decide) (s0_709 H) (s1_709 H) ⟨rfl, rfl, rfl⟩ rfl (gy qb1) fun q D =>
      j_f2d (pc := 44) D rfl fun D v5 =>
      j_dop (pc := 45) (u := FP.dadd (fi_D x3) (fi_D v5)) D rfl rfl rfl fun D v6 =>
      j_dstn (pc := 46) (L' := [(3, (3, v6)), (1, (3, v4)), (0, (4, 602)), (5, (0, x5))]) D rfl nl_681 rfl rfl fun D =>
      j_inc (pc := 47) (L' := [(5, (0, wI (x5 + 1))), (3, (3, v6)), (1, (3, v4)), (0, (4, 602))]) D rfl rfl rfl (by decide +kernel) rfl fun D =>
      j_goto (pc := 50) D rfl <|
      fk_jump cut_681_7 rfl rfl) (fun q =>
      have D : fk_D 681 [(53, none, .dload_n 1, 1, 0, 0, 0), (54, none, .dload_n 3, 1, 0, 0, 0), (55, none, .ddiv, 1, 0, 0, 0), (56, none, .dreturn, 1, 0, 0, 0)] := fq_of2 cd_681 ow_681 cl_681 rfl (pc := 53) (by decide +kernel)
      j_dldn (pc := 53) D rfl rfl rfl fun D =>
      j_dldn (pc := 54) D rfl rfl rfl fun D =>
      j_dop (pc := 55) (u := FP.ddiv (fi_D x1) (fi_D x3)) D rfl rfl rfl fun D v7 =>
      j_dret D rt_681)
theorem m_681 (d : Nat) {h : fi_H} (H : Shp h) : fj_run (d + 1) 681 h [(4, 602)] =
  c_681_7 d 0 0 0 h := by
  rw [fj_run_eq d (by decide) h [(4, 602)] (Nat.le_of_ble_eq_true (by rw [nl_681]; rfl))]
  show gG (fj_run d) 681 0 [(0, (4, 602))] [] h = _
  exact
    have D : fk_D 681 [(0, none, .dconst 0, 1, 0, 0, 0), (1, none, .dstore_n 1, 1, 0, 0, 0), (2, none, .dconst 0, 1, 0, 0, 0), (3, none, .dstore_n 3, 1, 0, 0, 0), (4, none, .iconst 0, 1, 0, 0, 0), (5, none, .istore 5, 2, 0, 0, 0)] := fq_of2 cd_681 ow_681 cl_681 rfl (pc := 0) (by decide +kernel)
    j_c0 (pc := 0) (v := (3, 0)) D rfl rfl (by decide +kernel) fun D =>
    j_dstn (pc := 1) (L' := [(1, (3, 0)), (0, (4, 602))]) D rfl nl_681 rfl rfl fun D =>
    j_c0 (pc := 2) (v := (3, 0)) D rfl rfl (by decide +kernel) fun D =>
    j_dstn (pc := 3) (L' := [(3, (3, 0)), (1, (3, 0)), (0, (4, 602))]) D rfl nl_681 rfl rfl fun D =>
    j_ic (pc := 4) D rfl fun D =>
    j_ist (pc := 5) (L' := [(5, (0, 0)), (3, (3, 0)), (1, (3, 0)), (0, (4, 602))]) D rfl nl_681 rfl rfl fun D =>
    fk_jump cut_681_7 rfl rfl
/-! 682 StatuteHouseModel.unlike(J)D -/
theorem cd_682 : fi_code 682 = prog_69_method_200_code := rfl
theorem hx_682 : ∀ pc, fi_hat 682 pc = none := fun pc => by unfold fi_hat; rw [show fi_hh 682 = [] from rfl]; rfl
theorem rt_682 : fi_ret 682 = some .double := rfl
theorem nl_682 : fi_nl 682 = 7 := rfl
theorem ow_682 : fi_ow 682 = 29 := rfl
theorem cl_682 : fj_cutT.getD 682 [] = [(13, [0, 1, 3, 5]), (25, [0, 1, 3, 5, 6])] := rfl
theorem cut_682_13 : fj_cut 682 13 = some [0, 1, 3, 5] := by decide +kernel
noncomputable def c_682_13 (d : Nat) (x1 x3 x5 : Int) (h : fi_H) : fk_R := gG (fj_run d) 682 13 [(0, (4, 602)), (1, (1, x1)), (3, (1, x3)), (5, (0, x5))] [] h
theorem cut_682_25 : fj_cut 682 25 = some [0, 1, 3, 5, 6] := by decide +kernel
noncomputable def c_682_25 (d : Nat) (x1 x3 x5 x6 : Int) (h : fi_H) : fk_R := gG (fj_run d) 682 25 [(0, (4, 602)), (1, (1, x1)), (3, (1, x3)), (5, (0, x5)), (6, (0, x6))] [] h
theorem e_682_13 (d : Nat) (x1 x3 x5 : Int) {h : fi_H} (H : Shp h) : c_682_13 d x1 x3 x5 h =
  if x5 < h 554 602 0 then
    c_682_25 d x1 x3 x5 0 h
  else
    dn_ (FP.ddiv (fi_D (ld_ x3)) (fi_D (id_ (h 554 602 0)))) fun v1 =>
    dn_ (FP.ddiv (fi_D v1) (fi_D (ld_ x1))) fun v2 =>
    some (.inl (some (3, v2)), h) := by
  unfold c_682_13
  exact
    have D : fk_D 682 [(13, some [0, 1, 3, 5], .iload 5, 2, 0, 0, 0), (15, none, .aload_n 0, 1, 0, 0, 0), (16, none, .getfield 1218, 3, 554, 129, 10), (19, none, .if_icmp .ge 46, 3, 65, 0, 0), (22, none, .iconst 0, 1, 0, 0, 0), (23, none, .istore 6, 2, 0, 0, 0)] := fq_of2 cd_682 ow_682 cl_682 rfl (pc := 13) (by decide +kernel)
    j_ild (pc := 13) D rfl rfl rfl fun D =>
    j_aldn (pc := 15) D rfl rfl rfl fun D =>
    j_gf (pc := 16) (a := 602) D rfl rfl (by decide) rfl (s0_602 H) rfl fun D =>
    j_ige (pc := 19) D rfl (fun q D =>
      j_ic (pc := 22) D rfl fun D =>
      j_ist (pc := 23) (L' := [(6, (0, 0)), (0, (4, 602)), (1, (1, x1)), (3, (1, x3)), (5, (0, x5))]) D rfl nl_682 rfl rfl fun D =>
      fk_jump cut_682_25 rfl rfl) (fun q =>
      have D : fk_D 682 [(65, none, .lload_n 3, 1, 0, 0, 0), (66, none, .l2d, 1, 0, 0, 0), (67, none, .aload_n 0, 1, 0, 0, 0), (68, none, .getfield 1218, 3, 554, 129, 10), (71, none, .i2d, 1, 0, 0, 0), (72, none, .ddiv, 1, 0, 0, 0), (73, none, .lload_n 1, 1, 0, 0, 0), (74, none, .l2d, 1, 0, 0, 0), (75, none, .ddiv, 1, 0, 0, 0), (76, none, .dreturn, 1, 0, 0, 0)] := fq_of2 cd_682 ow_682 cl_682 rfl (pc := 65) (by decide +kernel)
      j_lldn (pc := 65) D rfl rfl rfl fun D =>
      j_l2d (pc := 66) D rfl fun D =>
      j_aldn (pc := 67) D rfl rfl rfl fun D =>
      j_gf (pc := 68) (a := 602) D rfl rfl (by decide) rfl (s0_602 H) rfl fun D =>
      j_i2d (pc := 71) D rfl fun D =>
      j_dop (pc := 72) (u := FP.ddiv (fi_D (ld_ x3)) (fi_D (id_ (h 554 602 0)))) D rfl rfl rfl fun D v1 =>
      j_lldn (pc := 73) D rfl rfl rfl fun D =>
      j_l2d (pc := 74) D rfl fun D =>
      j_dop (pc := 75) (u := FP.ddiv (fi_D v1) (fi_D (ld_ x1))) D rfl rfl rfl fun D v2 =>
      j_dret D rt_682)
theorem e_682_25 (d : Nat) (x1 x3 x5 x6 : Int) {h : fi_H} (H : Shp h) : c_682_25 d x1 x3 x5 x6 h =
  if x6 < x5 then
    if 0 ≤ x5 ∧ x5 < 30 then
    if 0 ≤ x6 ∧ x6 < 30 then
    ca_ (fj_run d 598 h [(1, wJ ((h 11 707 x5.toNat) - (h 11 707 x6.toNat)))]) 1
      (fun v4 h3 =>
      c_682_25 d x1 (wJ (x3 + v4)) x5 (wI (x6 + 1)) h3)
      (fun q5 h3 => tx_ q5 h3)
    else none
    else none
  else
    c_682_13 d x1 x3 (wI (x5 + 1)) h := by
  unfold c_682_25
  exact
    have D : fk_D 682 [(25, some [0, 1, 3, 5, 6], .iload 6, 2, 0, 0, 0), (27, none, .iload 5, 2, 0, 0, 0), (29, none, .if_icmp .ge 30, 3, 59, 0, 0), (32, none, .lload_n 3, 1, 0, 0, 0), (33, none, .aload_n 0, 1, 0, 0, 0), (34, none, .getfield 377, 3, 551, 129, 12), (37, none, .iload 5, 2, 0, 0, 0), (39, none, .laload, 1, 0, 0, 0), (40, none, .aload_n 0, 1, 0, 0, 0), (41, none, .getfield 377, 3, 551, 129, 12), (44, none, .iload 6, 2, 0, 0, 0), (46, none, .laload, 1, 0, 0, 0), (47, none, .lsub, 1, 0, 0, 0), (48, none, .invokestatic 954, 3, 1, 598, 2), (51, none, .ladd, 1, 0, 0, 0), (52, none, .lstore_n 3, 1, 0, 0, 0), (53, none, .iinc 6 1, 3, 0, 1, 0), (56, none, .goto (-31), 3, 25, 0, 0)] := fq_of2 cd_682 ow_682 cl_682 rfl (pc := 25) (by decide +kernel)
    j_ild (pc := 25) D rfl rfl rfl fun D =>
    j_ild (pc := 27) D rfl rfl rfl fun D =>
    j_ige (pc := 29) D rfl (fun q D =>
      j_lldn (pc := 32) D rfl rfl rfl fun D =>
      j_aldn (pc := 33) D rfl rfl rfl fun D =>
      j_gfc (pc := 34) (a := 602) D rfl rfl (by decide) rfl (s0_602 H) rfl (sf_551_602 H) fun D =>
      j_ild (pc := 37) D rfl rfl rfl fun D =>
      j_al (pc := 39) (a := 707) (e := 11) D rfl rfl rfl (by decide) (s0_707 H) (s1_707 H) ⟨rfl, rfl, rfl⟩ rfl gn fun qb1 D =>
      j_aldn (pc := 40) D rfl rfl rfl fun D =>
      j_gfc (pc := 41) (a := 602) D rfl rfl (by decide) rfl (s0_602 H) rfl (sf_551_602 H) fun D =>
      j_ild (pc := 44) D rfl rfl rfl fun D =>
      j_al (pc := 46) (a := 707) (e := 11) D rfl rfl rfl (by decide) (s0_707 H) (s1_707 H) ⟨rfl, rfl, rfl⟩ rfl gn fun qb2 D =>
      j_lsub (pc := 47) D rfl fun D =>
      j_is (pc := 48) (m := 598) (a := [(1, wJ ((h 11 707 x5.toNat) - (h 11 707 x6.toNat)))]) (rest := [(1, x3)]) D rfl rfl rfl rfl (fun v4 h3 e1 D =>
        have T := fj_run_ok _ _ _ _ _ _ H.1 e1
        have H := shp_st H T
        j_ladd (pc := 51) D rfl fun D =>
        j_lstn (pc := 52) (L' := [(3, (1, wJ (x3 + v4))), (0, (4, 602)), (1, (1, x1)), (5, (0, x5)), (6, (0, x6))]) D rfl nl_682 rfl rfl fun D =>
        j_inc (pc := 53) (L' := [(6, (0, wI (x6 + 1))), (3, (1, wJ (x3 + v4))), (0, (4, 602)), (1, (1, x1)), (5, (0, x5))]) D rfl rfl rfl (by decide +kernel) rfl fun D =>
        j_goto (pc := 56) D rfl <|
        fk_jump cut_682_25 rfl rfl) (fun q5 h3 e1 =>
        j_tx (hx_682 _))) (fun q =>
      have D : fk_D 682 [(59, none, .iinc 5 1, 3, 0, 1, 0), (62, none, .goto (-49), 3, 13, 0, 0)] := fq_of2 cd_682 ow_682 cl_682 rfl (pc := 59) (by decide +kernel)
      j_inc (pc := 59) (L' := [(5, (0, wI (x5 + 1))), (0, (4, 602)), (1, (1, x1)), (3, (1, x3)), (6, (0, x6))]) D rfl rfl rfl (by decide +kernel) rfl fun D =>
      j_goto (pc := 62) D rfl <|
      fk_jump cut_682_13 rfl rfl)
theorem m_682 (d : Nat) (x1 : Int) {h : fi_H} (H : Shp h) : fj_run (d + 1) 682 h [(4, 602), (1, x1)] =
  if 0 < lc_ x1 0 then
    c_682_13 d x1 0 0 h
  else
    some (.inl (some (3, 0)), h) := by
  rw [fj_run_eq d (by decide) h [(4, 602), (1, x1)] (Nat.le_of_ble_eq_true (by rw [nl_682]; rfl))]
  show gG (fj_run d) 682 0 [(0, (4, 602)), (1, (1, x1))] [] h = _
  exact
    have D : fk_D 682 [(0, none, .lload_n 1, 1, 0, 0, 0), (1, none, .lconst 0, 1, 0, 0, 0), (2, none, .lcmp, 1, 0, 0, 0), (3, none, .ifCond .gt 5, 3, 8, 0, 0), (6, none, .dconst 0, 1, 0, 0, 0), (7, none, .dreturn, 1, 0, 0, 0)] := fq_of2 cd_682 ow_682 cl_682 rfl (pc := 0) (by decide +kernel)
    j_lldn (pc := 0) D rfl rfl rfl fun D =>
    j_c0 (pc := 1) (v := (1, 0)) D rfl rfl (by decide +kernel) fun D =>
    j_lcmp (pc := 2) D rfl fun D =>
    j_ifgt (pc := 3) D rfl (fun q =>
      have D : fk_D 682 [(8, none, .lconst 0, 1, 0, 0, 0), (9, none, .lstore_n 3, 1, 0, 0, 0), (10, none, .iconst 0, 1, 0, 0, 0), (11, none, .istore 5, 2, 0, 0, 0)] := fq_of2 cd_682 ow_682 cl_682 rfl (pc := 8) (by decide +kernel)
      j_c0 (pc := 8) (v := (1, 0)) D rfl rfl (by decide +kernel) fun D =>
      j_lstn (pc := 9) (L' := [(3, (1, 0)), (0, (4, 602)), (1, (1, x1))]) D rfl nl_682 rfl rfl fun D =>
      j_ic (pc := 10) D rfl fun D =>
      j_ist (pc := 11) (L' := [(5, (0, 0)), (3, (1, 0)), (0, (4, 602)), (1, (1, x1))]) D rfl nl_682 rfl rfl fun D =>
      fk_jump cut_682_13 rfl rfl) (fun q D =>
      j_c0 (pc := 6) (v := (3, 0)) D rfl rfl (by decide +kernel) fun D =>
      j_dret D rt_682)
/-! 683 StatuteHouseModel.beside(I)J -/
theorem cd_683 : fi_code 683 = prog_69_method_201_code := rfl
theorem hx_683 : ∀ pc, fi_hat 683 pc = none := fun pc => by unfold fi_hat; rw [show fi_hh 683 = [] from rfl]; rfl
theorem rt_683 : fi_ret 683 = some .long := rfl
theorem nl_683 : fi_nl 683 = 11 := rfl
theorem ow_683 : fi_ow 683 = 29 := rfl
theorem cl_683 : fj_cutT.getD 683 [] = [(14, [0, 1, 2, 4, 6, 7, 8]), (54, [0, 1, 2, 4, 7, 8, 9]), (71, [0, 1, 2, 4, 6, 8, 9]), (88, [0, 1, 4, 6, 7, 8, 9]), (106, [0, 1, 2, 6, 7, 8])] := rfl
theorem cut_683_14 : fj_cut 683 14 = some [0, 1, 2, 4, 6, 7, 8] := by decide +kernel
noncomputable def c_683_14 (d : Nat) (x1 x2 x4 x6 x7 x8 : Int) (h : fi_H) : fk_R := gG (fj_run d) 683 14 [(0, (4, 602)), (1, (0, x1)), (2, (1, x2)), (4, (1, x4)), (6, (0, x6)), (7, (0, x7)), (8, (0, x8))] [] h
theorem cut_683_54 : fj_cut 683 54 = some [0, 1, 2, 4, 7, 8, 9] := by decide +kernel
noncomputable def c_683_54 (d : Nat) (x1 x2 x4 x7 x8 x9 s0 s1 : Int) (h : fi_H) : fk_R := gG (fj_run d) 683 54 [(0, (4, 602)), (1, (0, x1)), (2, (1, x2)), (4, (1, x4)), (7, (0, x7)), (8, (0, x8)), (9, (1, x9))] [(0, s1), (0, s0)] h
theorem cut_683_71 : fj_cut 683 71 = some [0, 1, 2, 4, 6, 8, 9] := by decide +kernel
noncomputable def c_683_71 (d : Nat) (x1 x2 x4 x6 x8 x9 s0 s1 : Int) (h : fi_H) : fk_R := gG (fj_run d) 683 71 [(0, (4, 602)), (1, (0, x1)), (2, (1, x2)), (4, (1, x4)), (6, (0, x6)), (8, (0, x8)), (9, (1, x9))] [(0, s1), (0, s0)] h
theorem cut_683_88 : fj_cut 683 88 = some [0, 1, 4, 6, 7, 8, 9] := by decide +kernel
noncomputable def c_683_88 (d : Nat) (x1 x4 x6 x7 x8 x9 s0 s1 : Int) (h : fi_H) : fk_R := gG (fj_run d) 683 88 [(0, (4, 602)), (1, (0, x1)), (4, (1, x4)), (6, (0, x6)), (7, (0, x7)), (8, (0, x8)), (9, (1, x9))] [(1, s1), (1, s0)] h
theorem cut_683_106 : fj_cut 683 106 = some [0, 1, 2, 6, 7, 8] := by decide +kernel
noncomputable def c_683_106 (d : Nat) (x1 x2 x6 x7 x8 s0 s1 : Int) (h : fi_H) : fk_R := gG (fj_run d) 683 106 [(0, (4, 602)), (1, (0, x1)), (2, (1, x2)), (6, (0, x6)), (7, (0, x7)), (8, (0, x8))] [(1, s1), (1, s0)] h
theorem e_683_14 (d : Nat) (x1 x2 x4 x6 x7 x8 : Int) {h : fi_H} (H : Shp h) : c_683_14 d x1 x2 x4 x6 x7 x8 h =
  if x8 < h 554 602 0 then
    if 0 ≤ x8 ∧ x8 < 30 then
    lt_ (wJ ((h 11 708 x8.toNat) - (h 11 707 x8.toNat))) fun y2 =>
    if 0 < lc_ y2 0 then
      c_683_54 d x1 x2 x4 x7 x8 y2 x6 1 h
    else
      c_683_54 d x1 x2 x4 x7 x8 y2 x6 0 h
    else none
  else
    if x1 = 8 then
      some (.inl (some (1, wI x6)), h)
    else
      if x1 = 9 then
        some (.inl (some (1, wI x7)), h)
      else
        if x1 = 10 then
          some (.inl (some (1, x2)), h)
        else
          some (.inl (some (1, x4)), h) := by
  unfold c_683_14
  exact
    have D : fk_D 683 [(14, some [0, 1, 2, 4, 6, 7, 8], .iload 8, 2, 0, 0, 0), (16, none, .aload_n 0, 1, 0, 0, 0), (17, none, .getfield 1218, 3, 554, 129, 10), (20, none, .if_icmp .ge 95, 3, 115, 0, 0), (23, none, .aload_n 0, 1, 0, 0, 0), (24, none, .getfield 380, 3, 552, 129, 12), (27, none, .iload 8, 2, 0, 0, 0), (29, none, .laload, 1, 0, 0, 0), (30, none, .aload_n 0, 1, 0, 0, 0), (31, none, .getfield 377, 3, 551, 129, 12), (34, none, .iload 8, 2, 0, 0, 0), (36, none, .laload, 1, 0, 0, 0), (37, none, .lsub, 1, 0, 0, 0), (38, none, .lstore 9, 2, 0, 0, 0), (40, none, .iload 6, 2, 0, 0, 0), (42, none, .lload 9, 2, 0, 0, 0), (44, none, .lconst 0, 1, 0, 0, 0), (45, none, .lcmp, 1, 0, 0, 0), (46, none, .ifCond .le 7, 3, 53, 0, 0), (49, none, .iconst 1, 1, 0, 1, 0)] := fq_of2 cd_683 ow_683 cl_683 rfl (pc := 14) (by decide +kernel)
    j_ild (pc := 14) D rfl rfl rfl fun D =>
    j_aldn (pc := 16) D rfl rfl rfl fun D =>
    j_gf (pc := 17) (a := 602) D rfl rfl (by decide) rfl (s0_602 H) rfl fun D =>
    j_ige (pc := 20) D rfl (fun q D =>
      j_aldn (pc := 23) D rfl rfl rfl fun D =>
      j_gfc (pc := 24) (a := 602) D rfl rfl (by decide) rfl (s0_602 H) rfl (sf_552_602 H) fun D =>
      j_ild (pc := 27) D rfl rfl rfl fun D =>
      j_al (pc := 29) (a := 708) (e := 11) D rfl rfl rfl (by decide) (s0_708 H) (s1_708 H) ⟨rfl, rfl, rfl⟩ rfl gn fun qb1 D =>
      j_aldn (pc := 30) D rfl rfl rfl fun D =>
      j_gfc (pc := 31) (a := 602) D rfl rfl (by decide) rfl (s0_602 H) rfl (sf_551_602 H) fun D =>
      j_ild (pc := 34) D rfl rfl rfl fun D =>
      j_al (pc := 36) (a := 707) (e := 11) D rfl rfl rfl (by decide) (s0_707 H) (s1_707 H) ⟨rfl, rfl, rfl⟩ rfl (gy qb1) fun q D =>
      j_lsub (pc := 37) D rfl fun D =>
      j_stl (pc := 38) (L' := fun y2 => [(9, (1, y2)), (0, (4, 602)), (1, (0, x1)), (2, (1, x2)), (4, (1, x4)), (6, (0, x6)), (7, (0, x7)), (8, (0, x8))]) D rfl ⟨rfl, rfl, rfl, rfl⟩ nl_683 rfl (fun _ => rfl) fun y2 ey2 D =>
      j_ild (pc := 40) D rfl rfl rfl fun D =>
      j_lld (pc := 42) D rfl rfl rfl fun D =>
      j_c0 (pc := 44) (v := (1, 0)) D rfl rfl (by decide +kernel) fun D =>
      j_lcmp (pc := 45) D rfl fun D =>
      j_ifle (pc := 46) D rfl (fun q D =>
        j_ic (pc := 49) D rfl fun D =>
        have D : fk_D 683 [(50, none, .goto 4, 3, 54, 0, 0)] := fq_of2 cd_683 ow_683 cl_683 rfl (pc := 50) (by decide +kernel)
        j_goto (pc := 50) D rfl <|
        fk_jump cut_683_54 rfl rfl) (fun q =>
        have D : fk_D 683 [(53, none, .iconst 0, 1, 0, 0, 0)] := fq_of2 cd_683 ow_683 cl_683 rfl (pc := 53) (by decide +kernel)
        j_ic (pc := 53) D rfl fun D =>
        fk_jump cut_683_54 rfl rfl)) (fun q =>
      have D : fk_D 683 [(115, none, .iload_n 1, 1, 0, 0, 0), (116, none, .bipush 8, 2, 0, 8, 0), (118, none, .if_icmp .ne 9, 3, 127, 0, 0), (121, none, .iload 6, 2, 0, 0, 0), (123, none, .i2l, 1, 0, 0, 0), (124, none, .goto 27, 3, 151, 0, 0)] := fq_of2 cd_683 ow_683 cl_683 rfl (pc := 115) (by decide +kernel)
      j_ildn (pc := 115) D rfl rfl rfl fun D =>
      j_bp (pc := 116) D rfl fun D =>
      j_ine (pc := 118) D rfl (fun q D =>
        j_ild (pc := 121) D rfl rfl rfl fun D =>
        j_i2l (pc := 123) D rfl fun D =>
        j_goto (pc := 124) D rfl <|
        have D : fk_D 683 [(151, none, .lreturn, 1, 0, 0, 0)] := fq_of2 cd_683 ow_683 cl_683 rfl (pc := 151) (by decide +kernel)
        j_lret D rt_683) (fun q =>
        have D : fk_D 683 [(127, none, .iload_n 1, 1, 0, 0, 0), (128, none, .bipush 9, 2, 0, 9, 0), (130, none, .if_icmp .ne 9, 3, 139, 0, 0), (133, none, .iload 7, 2, 0, 0, 0), (135, none, .i2l, 1, 0, 0, 0), (136, none, .goto 15, 3, 151, 0, 0)] := fq_of2 cd_683 ow_683 cl_683 rfl (pc := 127) (by decide +kernel)
        j_ildn (pc := 127) D rfl rfl rfl fun D =>
        j_bp (pc := 128) D rfl fun D =>
        j_ine (pc := 130) D rfl (fun q D =>
          j_ild (pc := 133) D rfl rfl rfl fun D =>
          j_i2l (pc := 135) D rfl fun D =>
          j_goto (pc := 136) D rfl <|
          have D : fk_D 683 [(151, none, .lreturn, 1, 0, 0, 0)] := fq_of2 cd_683 ow_683 cl_683 rfl (pc := 151) (by decide +kernel)
          j_lret D rt_683) (fun q =>
          have D : fk_D 683 [(139, none, .iload_n 1, 1, 0, 0, 0), (140, none, .bipush 10, 2, 0, 10, 0), (142, none, .if_icmp .ne 7, 3, 149, 0, 0), (145, none, .lload_n 2, 1, 0, 0, 0), (146, none, .goto 5, 3, 151, 0, 0)] := fq_of2 cd_683 ow_683 cl_683 rfl (pc := 139) (by decide +kernel)
          j_ildn (pc := 139) D rfl rfl rfl fun D =>
          j_bp (pc := 140) D rfl fun D =>
          j_ine (pc := 142) D rfl (fun q D =>
            j_lldn (pc := 145) D rfl rfl rfl fun D =>
            j_goto (pc := 146) D rfl <|
            have D : fk_D 683 [(151, none, .lreturn, 1, 0, 0, 0)] := fq_of2 cd_683 ow_683 cl_683 rfl (pc := 151) (by decide +kernel)
            j_lret D rt_683) (fun q =>
            have D : fk_D 683 [(149, none, .lload 4, 2, 0, 0, 0), (151, none, .lreturn, 1, 0, 0, 0)] := fq_of2 cd_683 ow_683 cl_683 rfl (pc := 149) (by decide +kernel)
            j_lld (pc := 149) D rfl rfl rfl fun D =>
            j_lret D rt_683))))
theorem e_683_54 (d : Nat) (x1 x2 x4 x7 x8 x9 s0 s1 : Int) {h : fi_H} (H : Shp h) : c_683_54 d x1 x2 x4 x7 x8 x9 s0 s1 h =
  if lc_ x9 0 < 0 then
    c_683_71 d x1 x2 x4 (wI (s0 + s1)) x8 x9 x7 1 h
  else
    c_683_71 d x1 x2 x4 (wI (s0 + s1)) x8 x9 x7 0 h := by
  unfold c_683_54
  exact
    have D : fk_D 683 [(54, some [0, 1, 2, 4, 7, 8, 9], .iadd, 1, 0, 0, 0), (55, none, .istore 6, 2, 0, 0, 0), (57, none, .iload 7, 2, 0, 0, 0), (59, none, .lload 9, 2, 0, 0, 0), (61, none, .lconst 0, 1, 0, 0, 0), (62, none, .lcmp, 1, 0, 0, 0), (63, none, .ifCond .ge 7, 3, 70, 0, 0), (66, none, .iconst 1, 1, 0, 1, 0), (67, none, .goto 4, 3, 71, 0, 0)] := fq_of2 cd_683 ow_683 cl_683 rfl (pc := 54) (by decide +kernel)
    j_iadd (pc := 54) D rfl fun D =>
    j_ist (pc := 55) (L' := [(6, (0, wI (s0 + s1))), (0, (4, 602)), (1, (0, x1)), (2, (1, x2)), (4, (1, x4)), (7, (0, x7)), (8, (0, x8)), (9, (1, x9))]) D rfl nl_683 rfl rfl fun D =>
    j_ild (pc := 57) D rfl rfl rfl fun D =>
    j_lld (pc := 59) D rfl rfl rfl fun D =>
    j_c0 (pc := 61) (v := (1, 0)) D rfl rfl (by decide +kernel) fun D =>
    j_lcmp (pc := 62) D rfl fun D =>
    j_ifge (pc := 63) D rfl (fun q D =>
      j_ic (pc := 66) D rfl fun D =>
      j_goto (pc := 67) D rfl <|
      fk_jump cut_683_71 rfl rfl) (fun q =>
      have D : fk_D 683 [(70, none, .iconst 0, 1, 0, 0, 0)] := fq_of2 cd_683 ow_683 cl_683 rfl (pc := 70) (by decide +kernel)
      j_ic (pc := 70) D rfl fun D =>
      fk_jump cut_683_71 rfl rfl)
theorem e_683_71 (d : Nat) (x1 x2 x4 x6 x8 x9 s0 s1 : Int) {h : fi_H} (H : Shp h) : c_683_71 d x1 x2 x4 x6 x8 x9 s0 s1 h =
  if 0 < lc_ x9 0 then
    c_683_88 d x1 x4 x6 (wI (s0 + s1)) x8 x9 x2 x9 h
  else
    c_683_88 d x1 x4 x6 (wI (s0 + s1)) x8 x9 x2 0 h := by
  unfold c_683_71
  exact
    have D : fk_D 683 [(71, some [0, 1, 2, 4, 6, 8, 9], .iadd, 1, 0, 0, 0), (72, none, .istore 7, 2, 0, 0, 0), (74, none, .lload_n 2, 1, 0, 0, 0), (75, none, .lload 9, 2, 0, 0, 0), (77, none, .lconst 0, 1, 0, 0, 0), (78, none, .lcmp, 1, 0, 0, 0), (79, none, .ifCond .le 8, 3, 87, 0, 0), (82, none, .lload 9, 2, 0, 0, 0), (84, none, .goto 4, 3, 88, 0, 0)] := fq_of2 cd_683 ow_683 cl_683 rfl (pc := 71) (by decide +kernel)
    j_iadd (pc := 71) D rfl fun D =>
    j_ist (pc := 72) (L' := [(7, (0, wI (s0 + s1))), (0, (4, 602)), (1, (0, x1)), (2, (1, x2)), (4, (1, x4)), (6, (0, x6)), (8, (0, x8)), (9, (1, x9))]) D rfl nl_683 rfl rfl fun D =>
    j_lldn (pc := 74) D rfl rfl rfl fun D =>
    j_lld (pc := 75) D rfl rfl rfl fun D =>
    j_c0 (pc := 77) (v := (1, 0)) D rfl rfl (by decide +kernel) fun D =>
    j_lcmp (pc := 78) D rfl fun D =>
    j_ifle (pc := 79) D rfl (fun q D =>
      j_lld (pc := 82) D rfl rfl rfl fun D =>
      j_goto (pc := 84) D rfl <|
      fk_jump cut_683_88 rfl rfl) (fun q =>
      have D : fk_D 683 [(87, none, .lconst 0, 1, 0, 0, 0)] := fq_of2 cd_683 ow_683 cl_683 rfl (pc := 87) (by decide +kernel)
      j_c0 (pc := 87) (v := (1, 0)) D rfl rfl (by decide +kernel) fun D =>
      fk_jump cut_683_88 rfl rfl)
theorem e_683_88 (d : Nat) (x1 x4 x6 x7 x8 x9 s0 s1 : Int) {h : fi_H} (H : Shp h) : c_683_88 d x1 x4 x6 x7 x8 x9 s0 s1 h =
  if lc_ x9 0 < 0 then
    c_683_106 d x1 (wJ (s0 + s1)) x6 x7 x8 x4 (wJ (-x9)) h
  else
    c_683_106 d x1 (wJ (s0 + s1)) x6 x7 x8 x4 0 h := by
  unfold c_683_88
  exact
    have D : fk_D 683 [(88, some [0, 1, 4, 6, 7, 8, 9], .ladd, 1, 0, 0, 0), (89, none, .lstore_n 2, 1, 0, 0, 0), (90, none, .lload 4, 2, 0, 0, 0), (92, none, .lload 9, 2, 0, 0, 0), (94, none, .lconst 0, 1, 0, 0, 0), (95, none, .lcmp, 1, 0, 0, 0), (96, none, .ifCond .ge 9, 3, 105, 0, 0), (99, none, .lload 9, 2, 0, 0, 0), (101, none, .lneg, 1, 0, 0, 0), (102, none, .goto 4, 3, 106, 0, 0)] := fq_of2 cd_683 ow_683 cl_683 rfl (pc := 88) (by decide +kernel)
    j_ladd (pc := 88) D rfl fun D =>
    j_lstn (pc := 89) (L' := [(2, (1, wJ (s0 + s1))), (0, (4, 602)), (1, (0, x1)), (4, (1, x4)), (6, (0, x6)), (7, (0, x7)), (8, (0, x8)), (9, (1, x9))]) D rfl nl_683 rfl rfl fun D =>
    j_lld (pc := 90) D rfl rfl rfl fun D =>
    j_lld (pc := 92) D rfl rfl rfl fun D =>
    j_c0 (pc := 94) (v := (1, 0)) D rfl rfl (by decide +kernel) fun D =>
    j_lcmp (pc := 95) D rfl fun D =>
    j_ifge (pc := 96) D rfl (fun q D =>
      j_lld (pc := 99) D rfl rfl rfl fun D =>
      j_lneg (pc := 101) D rfl fun D =>
      j_goto (pc := 102) D rfl <|
      fk_jump cut_683_106 rfl rfl) (fun q =>
      have D : fk_D 683 [(105, none, .lconst 0, 1, 0, 0, 0)] := fq_of2 cd_683 ow_683 cl_683 rfl (pc := 105) (by decide +kernel)
      j_c0 (pc := 105) (v := (1, 0)) D rfl rfl (by decide +kernel) fun D =>
      fk_jump cut_683_106 rfl rfl)
theorem e_683_106 (d : Nat) (x1 x2 x6 x7 x8 s0 s1 : Int) {h : fi_H} (H : Shp h) : c_683_106 d x1 x2 x6 x7 x8 s0 s1 h =
  c_683_14 d x1 x2 (wJ (s0 + s1)) x6 x7 (wI (x8 + 1)) h := by
  unfold c_683_106
  exact
    have D : fk_D 683 [(106, some [0, 1, 2, 6, 7, 8], .ladd, 1, 0, 0, 0), (107, none, .lstore 4, 2, 0, 0, 0), (109, none, .iinc 8 1, 3, 0, 1, 0), (112, none, .goto (-98), 3, 14, 0, 0)] := fq_of2 cd_683 ow_683 cl_683 rfl (pc := 106) (by decide +kernel)
    j_ladd (pc := 106) D rfl fun D =>
    j_lst (pc := 107) (L' := [(4, (1, wJ (s0 + s1))), (0, (4, 602)), (1, (0, x1)), (2, (1, x2)), (6, (0, x6)), (7, (0, x7)), (8, (0, x8))]) D rfl nl_683 rfl rfl fun D =>
    j_inc (pc := 109) (L' := [(8, (0, wI (x8 + 1))), (4, (1, wJ (s0 + s1))), (0, (4, 602)), (1, (0, x1)), (2, (1, x2)), (6, (0, x6)), (7, (0, x7))]) D rfl rfl rfl (by decide +kernel) rfl fun D =>
    j_goto (pc := 112) D rfl <|
    fk_jump cut_683_14 rfl rfl
theorem m_683 (d : Nat) (x1 : Int) {h : fi_H} (H : Shp h) : fj_run (d + 1) 683 h [(4, 602), (0, x1)] =
  c_683_14 d x1 0 0 0 0 0 h := by
  rw [fj_run_eq d (by decide) h [(4, 602), (0, x1)] (Nat.le_of_ble_eq_true (by rw [nl_683]; rfl))]
  show gG (fj_run d) 683 0 [(0, (4, 602)), (1, (0, x1))] [] h = _
  exact
    have D : fk_D 683 [(0, none, .lconst 0, 1, 0, 0, 0), (1, none, .lstore_n 2, 1, 0, 0, 0), (2, none, .lconst 0, 1, 0, 0, 0), (3, none, .lstore 4, 2, 0, 0, 0), (5, none, .iconst 0, 1, 0, 0, 0), (6, none, .istore 6, 2, 0, 0, 0), (8, none, .iconst 0, 1, 0, 0, 0), (9, none, .istore 7, 2, 0, 0, 0), (11, none, .iconst 0, 1, 0, 0, 0), (12, none, .istore 8, 2, 0, 0, 0)] := fq_of2 cd_683 ow_683 cl_683 rfl (pc := 0) (by decide +kernel)
    j_c0 (pc := 0) (v := (1, 0)) D rfl rfl (by decide +kernel) fun D =>
    j_lstn (pc := 1) (L' := [(2, (1, 0)), (0, (4, 602)), (1, (0, x1))]) D rfl nl_683 rfl rfl fun D =>
    j_c0 (pc := 2) (v := (1, 0)) D rfl rfl (by decide +kernel) fun D =>
    j_lst (pc := 3) (L' := [(4, (1, 0)), (2, (1, 0)), (0, (4, 602)), (1, (0, x1))]) D rfl nl_683 rfl rfl fun D =>
    j_ic (pc := 5) D rfl fun D =>
    j_ist (pc := 6) (L' := [(6, (0, 0)), (4, (1, 0)), (2, (1, 0)), (0, (4, 602)), (1, (0, x1))]) D rfl nl_683 rfl rfl fun D =>
    j_ic (pc := 8) D rfl fun D =>
    j_ist (pc := 9) (L' := [(7, (0, 0)), (6, (0, 0)), (4, (1, 0)), (2, (1, 0)), (0, (4, 602)), (1, (0, x1))]) D rfl nl_683 rfl rfl fun D =>
    j_ic (pc := 11) D rfl fun D =>
    j_ist (pc := 12) (L' := [(8, (0, 0)), (7, (0, 0)), (6, (0, 0)), (4, (1, 0)), (2, (1, 0)), (0, (4, 602)), (1, (0, x1))]) D rfl nl_683 rfl rfl fun D =>
    fk_jump cut_683_14 rfl rfl
/-! 684 StatuteHouseModel.gaps(III)I -/
theorem cd_684 : fi_code 684 = prog_69_method_207_code := rfl
theorem hx_684 : ∀ pc, fi_hat 684 pc = none := fun pc => by unfold fi_hat; rw [show fi_hh 684 = [] from rfl]; rfl
theorem rt_684 : fi_ret 684 = some .int := rfl
theorem nl_684 : fi_nl 684 = 9 := rfl
theorem ow_684 : fi_ow 684 = 29 := rfl
theorem cl_684 : fj_cutT.getD 684 [] = [(52, [0, 2, 4, 5]), (80, [0, 2, 4, 5, 6, 7]), (159, [0, 2, 4, 5, 6, 7]), (234, [0, 2, 5]), (274, [0, 2, 5]), (306, [0, 2, 5]), (316, [0, 2, 5])] := rfl
theorem cut_684_52 : fj_cut 684 52 = some [0, 2, 4, 5] := by decide +kernel
noncomputable def c_684_52 (d : Nat) (x2 x4 x5 : Int) (h : fi_H) : fk_R := gG (fj_run d) 684 52 [(0, (4, 602)), (2, (0, x2)), (4, (0, x4)), (5, (0, x5))] [] h
theorem cut_684_80 : fj_cut 684 80 = some [0, 2, 4, 5, 6, 7] := by decide +kernel
noncomputable def c_684_80 (d : Nat) (x2 x4 x5 x6 x7 : Int) (h : fi_H) : fk_R := gG (fj_run d) 684 80 [(0, (4, 602)), (2, (0, x2)), (4, (0, x4)), (5, (0, x5)), (6, (0, x6)), (7, (0, x7))] [] h
theorem cut_684_159 : fj_cut 684 159 = some [0, 2, 4, 5, 6, 7] := by decide +kernel
noncomputable def c_684_159 (d : Nat) (x2 x4 x5 x6 x7 : Int) (h : fi_H) : fk_R := gG (fj_run d) 684 159 [(0, (4, 602)), (2, (0, x2)), (4, (0, x4)), (5, (0, x5)), (6, (0, x6)), (7, (0, x7))] [] h
theorem cut_684_234 : fj_cut 684 234 = some [0, 2, 5] := by decide +kernel
noncomputable def c_684_234 (d : Nat) (x2 x5 : Int) (h : fi_H) : fk_R := gG (fj_run d) 684 234 [(0, (4, 602)), (2, (0, x2)), (5, (0, x5))] [] h
theorem cut_684_274 : fj_cut 684 274 = some [0, 2, 5] := by decide +kernel
noncomputable def c_684_274 (d : Nat) (x2 x5 : Int) (h : fi_H) : fk_R := gG (fj_run d) 684 274 [(0, (4, 602)), (2, (0, x2)), (5, (0, x5))] [] h
theorem cut_684_306 : fj_cut 684 306 = some [0, 2, 5] := by decide +kernel
noncomputable def c_684_306 (d : Nat) (x2 x5 : Int) (h : fi_H) : fk_R := gG (fj_run d) 684 306 [(0, (4, 602)), (2, (0, x2)), (5, (0, x5))] [] h
theorem cut_684_316 : fj_cut 684 316 = some [0, 2, 5] := by decide +kernel
noncomputable def c_684_316 (d : Nat) (x2 x5 : Int) (h : fi_H) : fk_R := gG (fj_run d) 684 316 [(0, (4, 602)), (2, (0, x2)), (5, (0, x5))] [] h
theorem e_684_52 (d : Nat) (x2 x4 x5 : Int) {h : fi_H} (H : Shp h) : c_684_52 d x2 x4 x5 h =
  if x5 < h 10 647 12 then
    if 0 ≤ wI (2400 + x5) ∧ wI (2400 + x5) < 3200 then
    c_684_80 d x2 x4 x5 (h 10 646 (wI (2400 + x5)).toNat) 1 h
    else none
  else
    if 40 < x4 then
      some (.inl (some (0, (-4))), h)
    else
      if 8 < h 558 602 0 then
        some (.inl (some (0, (-4))), h)
      else
        ca_ (fj_run d 687 h [(4, 602), (0, x2), (0, (-1)), (0, 0), (0, 0)]) 0
          (fun v3 h2 =>
          if v3 = 8 then
            some (.inl (some (0, (-4))), h2)
          else
            lt_ (fi_upd h2 564 602 0 (h2 558 602 0)) fun h5 =>
            lt_ (fi_upd h5 560 602 0 0) fun h6 =>
            lt_ (fi_upd h6 561 602 0 0) fun h7 =>
            lt_ (fi_upd h7 562 602 0 (-1)) fun h8 =>
            lt_ (fi_upd h8 563 602 0 (-1)) fun h9 =>
            c_684_234 d x2 0 h9)
          (fun q4 h2 => tx_ q4 h2) := by
  unfold c_684_52
  exact
    have D : fk_D 684 [(52, some [0, 2, 4, 5], .iload 5, 2, 0, 0, 0), (54, none, .aload_n 0, 1, 0, 0, 0), (55, none, .getfield 156, 3, 455, 129, 12), (58, none, .bipush 12, 2, 0, 12, 0), (60, none, .iaload, 1, 0, 0, 0), (61, none, .if_icmp .ge 110, 3, 171, 0, 0), (64, none, .aload_n 0, 1, 0, 0, 0), (65, none, .getfield 153, 3, 454, 129, 12), (68, none, .sipush 2400, 3, 0, 2400, 0), (71, none, .iload 5, 2, 0, 0, 0), (73, none, .iadd, 1, 0, 0, 0), (74, none, .iaload, 1, 0, 0, 0), (75, none, .istore 6, 2, 0, 0, 0), (77, none, .iconst 1, 1, 0, 1, 0), (78, none, .istore 7, 2, 0, 0, 0)] := fq_of2 cd_684 ow_684 cl_684 rfl (pc := 52) (by decide +kernel)
    j_ild (pc := 52) D rfl rfl rfl fun D =>
    j_aldn (pc := 54) D rfl rfl rfl fun D =>
    j_gfc (pc := 55) (a := 602) D rfl rfl (by decide) rfl (s0_602 H) rfl (sf_455_602 H) fun D =>
    j_bp (pc := 58) D rfl fun D =>
    j_al (pc := 60) (a := 647) (e := 10) D rfl rfl rfl (by decide) (s0_647 H) (s1_647 H) ⟨rfl, rfl, rfl⟩ rfl (gy (by decide)) fun q D =>
    j_ige (pc := 61) D rfl (fun q D =>
      j_aldn (pc := 64) D rfl rfl rfl fun D =>
      j_gfc (pc := 65) (a := 602) D rfl rfl (by decide) rfl (s0_602 H) rfl (sf_454_602 H) fun D =>
      j_sp (pc := 68) D rfl fun D =>
      j_ild (pc := 71) D rfl rfl rfl fun D =>
      j_iadd (pc := 73) D rfl fun D =>
      j_al (pc := 74) (a := 646) (e := 10) D rfl rfl rfl (by decide) (s0_646 H) (s1_646 H) ⟨rfl, rfl, rfl⟩ rfl gn fun qb1 D =>
      j_ist (pc := 75) (L' := [(6, (0, h 10 646 (wI (2400 + x5)).toNat)), (0, (4, 602)), (2, (0, x2)), (4, (0, x4)), (5, (0, x5))]) D rfl nl_684 rfl rfl fun D =>
      j_ic (pc := 77) D rfl fun D =>
      j_ist (pc := 78) (L' := [(7, (0, 1)), (6, (0, h 10 646 (wI (2400 + x5)).toNat)), (0, (4, 602)), (2, (0, x2)), (4, (0, x4)), (5, (0, x5))]) D rfl nl_684 rfl rfl fun D =>
      fk_jump cut_684_80 rfl rfl) (fun q =>
      have D : fk_D 684 [(171, none, .iload 4, 2, 0, 0, 0), (173, none, .bipush 40, 2, 0, 40, 0), (175, none, .if_icmp .gt 25, 3, 200, 0, 0), (178, none, .aload_n 0, 1, 0, 0, 0), (179, none, .getfield 1250, 3, 558, 129, 10), (182, none, .bipush 8, 2, 0, 8, 0), (184, none, .if_icmp .gt 16, 3, 200, 0, 0), (187, none, .aload_n 0, 1, 0, 0, 0), (188, none, .iload_n 2, 1, 0, 0, 0), (189, none, .iconst (-1), 1, 0, (-1), 0), (190, none, .iconst 0, 1, 0, 0, 0), (191, none, .iconst 0, 1, 0, 0, 0), (192, none, .invokevirtual 1256, 3, 4, 472, 1), (195, none, .bipush 8, 2, 0, 8, 0), (197, none, .if_icmp .ne 6, 3, 203, 0, 0), (200, none, .bipush (-4), 2, 0, (-4), 0), (202, none, .ireturn, 1, 0, 0, 0)] := fq_of2 cd_684 ow_684 cl_684 rfl (pc := 171) (by decide +kernel)
      j_ild (pc := 171) D rfl rfl rfl fun D =>
      j_bp (pc := 173) D rfl fun D =>
      j_igt (pc := 175) D rfl (fun q =>
        have D : fk_D 684 [(200, none, .bipush (-4), 2, 0, (-4), 0), (202, none, .ireturn, 1, 0, 0, 0)] := fq_of2 cd_684 ow_684 cl_684 rfl (pc := 200) (by decide +kernel)
        j_bp (pc := 200) D rfl fun D =>
        j_iret D rt_684) (fun q D =>
        j_aldn (pc := 178) D rfl rfl rfl fun D =>
        j_gf (pc := 179) (a := 602) D rfl rfl (by decide) rfl (s0_602 H) rfl fun D =>
        j_bp (pc := 182) D rfl fun D =>
        j_igt (pc := 184) D rfl (fun q =>
          have D : fk_D 684 [(200, none, .bipush (-4), 2, 0, (-4), 0), (202, none, .ireturn, 1, 0, 0, 0)] := fq_of2 cd_684 ow_684 cl_684 rfl (pc := 200) (by decide +kernel)
          j_bp (pc := 200) D rfl fun D =>
          j_iret D rt_684) (fun q D =>
          j_aldn (pc := 187) D rfl rfl rfl fun D =>
          j_ildn (pc := 188) D rfl rfl rfl fun D =>
          j_ic (pc := 189) D rfl fun D =>
          j_ic (pc := 190) D rfl fun D =>
          j_ic (pc := 191) D rfl fun D =>
          j_iv (pc := 192) (m := 687) (dd := 472) (a := [(0, x2), (0, (-1)), (0, 0), (0, 0)]) (rest := []) D rfl rfl rfl rfl rfl (by decide) (s0_602 H) (by decide +kernel) (fun v3 h2 e1 D =>
            have T := fj_run_ok _ _ _ _ _ _ H.1 e1
            have H := shp_st H T
            j_bp (pc := 195) D rfl fun D =>
            j_ine (pc := 197) D rfl (fun q D =>
              j_bp (pc := 200) D rfl fun D =>
              j_iret D rt_684) (fun q =>
              have D : fk_D 684 [(203, none, .aload_n 0, 1, 0, 0, 0), (204, none, .aload_n 0, 1, 0, 0, 0), (205, none, .getfield 1250, 3, 558, 129, 10), (208, none, .putfield 1262, 3, 564, 129, 10), (211, none, .aload_n 0, 1, 0, 0, 0), (212, none, .iconst 0, 1, 0, 0, 0), (213, none, .putfield 389, 3, 560, 129, 10), (216, none, .aload_n 0, 1, 0, 0, 0), (217, none, .iconst 0, 1, 0, 0, 0), (218, none, .putfield 1265, 3, 561, 129, 10), (221, none, .aload_n 0, 1, 0, 0, 0), (222, none, .iconst (-1), 1, 0, (-1), 0), (223, none, .putfield 392, 3, 562, 129, 10), (226, none, .aload_n 0, 1, 0, 0, 0), (227, none, .iconst (-1), 1, 0, (-1), 0), (228, none, .putfield 395, 3, 563, 129, 10), (231, none, .iconst 0, 1, 0, 0, 0), (232, none, .istore 5, 2, 0, 0, 0)] := fq_of2 cd_684 ow_684 cl_684 rfl (pc := 203) (by decide +kernel)
              j_aldn (pc := 203) D rfl rfl rfl fun D =>
              j_aldn (pc := 204) D rfl rfl rfl fun D =>
              j_gf (pc := 205) (a := 602) D rfl rfl (by decide) rfl (s0_602 H) rfl fun D =>
              j_pf (pc := 208) (a := 602) D rfl rfl rfl (s0_602 H) rfl rfl (gy (by decide)) (gy rfl) fun h5 eh5 S D =>
              have T := fj_hs_ok H.1 S
              have H := shp_st H T
              j_aldn (pc := 211) D rfl rfl rfl fun D =>
              j_ic (pc := 212) D rfl fun D =>
              j_pf (pc := 213) (a := 602) D rfl rfl rfl (s0_602 H) rfl rfl (gy (by decide)) (gy rfl) fun h6 eh6 S D =>
              have T := fj_hs_ok H.1 S
              have H := shp_st H T
              j_aldn (pc := 216) D rfl rfl rfl fun D =>
              j_ic (pc := 217) D rfl fun D =>
              j_pf (pc := 218) (a := 602) D rfl rfl rfl (s0_602 H) rfl rfl (gy (by decide)) (gy rfl) fun h7 eh7 S D =>
              have T := fj_hs_ok H.1 S
              have H := shp_st H T
              j_aldn (pc := 221) D rfl rfl rfl fun D =>
              j_ic (pc := 222) D rfl fun D =>
              j_pf (pc := 223) (a := 602) D rfl rfl rfl (s0_602 H) rfl rfl (gy (by decide)) (gy rfl) fun h8 eh8 S D =>
              have T := fj_hs_ok H.1 S
              have H := shp_st H T
              j_aldn (pc := 226) D rfl rfl rfl fun D =>
              j_ic (pc := 227) D rfl fun D =>
              j_pf (pc := 228) (a := 602) D rfl rfl rfl (s0_602 H) rfl rfl (gy (by decide)) (gy rfl) fun h9 eh9 S D =>
              have T := fj_hs_ok H.1 S
              have H := shp_st H T
              j_ic (pc := 231) D rfl fun D =>
              j_ist (pc := 232) (L' := [(5, (0, 0)), (0, (4, 602)), (2, (0, x2)), (4, (0, x4))]) D rfl nl_684 rfl rfl fun D =>
              fk_jump cut_684_234 rfl rfl)) (fun q4 h2 e1 =>
            j_tx (hx_684 _)))))
theorem e_684_80 (d : Nat) (x2 x4 x5 x6 x7 : Int) {h : fi_H} (H : Shp h) : c_684_80 d x2 x4 x5 x6 x7 h =
  if 0 ≤ x6 ∧ x6 < 240 then
  if h 10 638 x6.toNat < x7 then
    c_684_52 d x2 x4 (wI (x5 + 1)) h
  else
    ca_ (fj_run d 610 h [(4, 602), (0, 12), (0, x6), (0, x7)]) 0
      (fun v3 h2 =>
      if v3 = (-1) then
        c_684_159 d x2 x4 x5 x6 x7 h2
      else
        if 0 ≤ v3 ∧ v3 < 560 then
        if h2 4 630 v3.toNat = 0 then
          if h2 10 625 v3.toNat = x2 then
            if h2 10 627 v3.toNat = (-1) then
              c_684_159 d x2 (wI (x4 + 1)) x5 x6 x7 h2
            else
              cv_ (fj_run d 685 h2 [(4, 602), (0, h2 10 627 v3.toNat)])
                (fun h6 =>
                c_684_159 d x2 (wI (x4 + 1)) x5 x6 x7 h6)
                (fun q8 h6 => tx_ q8 h6)
          else
            c_684_159 d x2 x4 x5 x6 x7 h2
        else
          c_684_159 d x2 x4 x5 x6 x7 h2
        else none)
      (fun q4 h2 => tx_ q4 h2)
  else none := by
  unfold c_684_80
  exact
    have D : fk_D 684 [(80, some [0, 2, 4, 5, 6, 7], .iload 7, 2, 0, 0, 0), (82, none, .aload_n 0, 1, 0, 0, 0), (83, none, .getfield 125, 3, 443, 129, 12), (86, none, .iload 6, 2, 0, 0, 0), (88, none, .iaload, 1, 0, 0, 0), (89, none, .if_icmp .gt 76, 3, 165, 0, 0), (92, none, .aload_n 0, 1, 0, 0, 0), (93, none, .bipush 12, 2, 0, 12, 0), (95, none, .iload 6, 2, 0, 0, 0), (97, none, .iload 7, 2, 0, 0, 0), (99, none, .invokevirtual 836, 3, 3, 402, 1), (102, none, .istore 8, 2, 0, 0, 0), (104, none, .iload 8, 2, 0, 0, 0), (106, none, .iconst (-1), 1, 0, (-1), 0), (107, none, .if_icmp .eq 52, 3, 159, 0, 0), (110, none, .aload_n 0, 1, 0, 0, 0), (111, none, .getfield 101, 3, 433, 129, 12), (114, none, .iload 8, 2, 0, 0, 0), (116, none, .baload, 1, 0, 0, 0), (117, none, .ifCond .ne 42, 3, 159, 0, 0)] := fq_of2 cd_684 ow_684 cl_684 rfl (pc := 80) (by decide +kernel)
    j_ild (pc := 80) D rfl rfl rfl fun D =>
    j_aldn (pc := 82) D rfl rfl rfl fun D =>
    j_gfc (pc := 83) (a := 602) D rfl rfl (by decide) rfl (s0_602 H) rfl (sf_443_602 H) fun D =>
    j_ild (pc := 86) D rfl rfl rfl fun D =>
    j_al (pc := 88) (a := 638) (e := 10) D rfl rfl rfl (by decide) (s0_638 H) (s1_638 H) ⟨rfl, rfl, rfl⟩ rfl gn fun qb1 D =>
    j_igt (pc := 89) D rfl (fun q =>
      have D : fk_D 684 [(165, none, .iinc 5 1, 3, 0, 1, 0), (168, none, .goto (-116), 3, 52, 0, 0)] := fq_of2 cd_684 ow_684 cl_684 rfl (pc := 165) (by decide +kernel)
      j_inc (pc := 165) (L' := [(5, (0, wI (x5 + 1))), (0, (4, 602)), (2, (0, x2)), (4, (0, x4)), (6, (0, x6)), (7, (0, x7))]) D rfl rfl rfl (by decide +kernel) rfl fun D =>
      j_goto (pc := 168) D rfl <|
      fk_jump cut_684_52 rfl rfl) (fun q D =>
      j_aldn (pc := 92) D rfl rfl rfl fun D =>
      j_bp (pc := 93) D rfl fun D =>
      j_ild (pc := 95) D rfl rfl rfl fun D =>
      j_ild (pc := 97) D rfl rfl rfl fun D =>
      j_iv (pc := 99) (m := 610) (dd := 402) (a := [(0, 12), (0, x6), (0, x7)]) (rest := []) D rfl rfl rfl rfl rfl (by decide) (s0_602 H) (by decide +kernel) (fun v3 h2 e1 D =>
        have T := fj_run_ok _ _ _ _ _ _ H.1 e1
        have H := shp_st H T
        j_ist (pc := 102) (L' := [(8, (0, v3)), (0, (4, 602)), (2, (0, x2)), (4, (0, x4)), (5, (0, x5)), (6, (0, x6)), (7, (0, x7))]) D rfl nl_684 rfl rfl fun D =>
        j_ild (pc := 104) D rfl rfl rfl fun D =>
        j_ic (pc := 106) D rfl fun D =>
        j_ieq (pc := 107) D rfl (fun q =>
          fk_jump cut_684_159 rfl rfl) (fun q D =>
          j_aldn (pc := 110) D rfl rfl rfl fun D =>
          j_gfc (pc := 111) (a := 602) D rfl rfl (by decide) rfl (s0_602 H) rfl (sf_433_602 H) fun D =>
          j_ild (pc := 114) D rfl rfl rfl fun D =>
          j_al (pc := 116) (a := 630) (e := 4) D rfl rfl rfl (by decide) (s0_630 H) (s1_630 H) ⟨rfl, rfl, rfl⟩ rfl gn fun qb5 D =>
          j_ifne (pc := 117) D rfl (fun q D =>
            have D : fk_D 684 [(120, none, .aload_n 0, 1, 0, 0, 0), (121, none, .getfield 86, 3, 428, 129, 12), (124, none, .iload 8, 2, 0, 0, 0), (126, none, .iaload, 1, 0, 0, 0), (127, none, .iload_n 2, 1, 0, 0, 0), (128, none, .if_icmp .eq 6, 3, 134, 0, 0), (131, none, .goto 28, 3, 159, 0, 0)] := fq_of2 cd_684 ow_684 cl_684 rfl (pc := 120) (by decide +kernel)
            j_aldn (pc := 120) D rfl rfl rfl fun D =>
            j_gfc (pc := 121) (a := 602) D rfl rfl (by decide) rfl (s0_602 H) rfl (sf_428_602 H) fun D =>
            j_ild (pc := 124) D rfl rfl rfl fun D =>
            j_al (pc := 126) (a := 625) (e := 10) D rfl rfl rfl (by decide) (s0_625 H) (s1_625 H) ⟨rfl, rfl, rfl⟩ rfl (gy qb5) fun q D =>
            j_ildn (pc := 127) D rfl rfl rfl fun D =>
            j_ieq (pc := 128) D rfl (fun q =>
              have D : fk_D 684 [(134, none, .iinc 4 1, 3, 0, 1, 0), (137, none, .aload_n 0, 1, 0, 0, 0), (138, none, .getfield 92, 3, 430, 129, 12), (141, none, .iload 8, 2, 0, 0, 0), (143, none, .iaload, 1, 0, 0, 0), (144, none, .iconst (-1), 1, 0, (-1), 0), (145, none, .if_icmp .eq 14, 3, 159, 0, 0), (148, none, .aload_n 0, 1, 0, 0, 0), (149, none, .aload_n 0, 1, 0, 0, 0), (150, none, .getfield 92, 3, 430, 129, 12), (153, none, .iload 8, 2, 0, 0, 0), (155, none, .iaload, 1, 0, 0, 0), (156, none, .invokevirtual 1247, 3, 1, 470, 0)] := fq_of2 cd_684 ow_684 cl_684 rfl (pc := 134) (by decide +kernel)
              j_inc (pc := 134) (L' := [(4, (0, wI (x4 + 1))), (8, (0, v3)), (0, (4, 602)), (2, (0, x2)), (5, (0, x5)), (6, (0, x6)), (7, (0, x7))]) D rfl rfl rfl (by decide +kernel) rfl fun D =>
              j_aldn (pc := 137) D rfl rfl rfl fun D =>
              j_gfc (pc := 138) (a := 602) D rfl rfl (by decide) rfl (s0_602 H) rfl (sf_430_602 H) fun D =>
              j_ild (pc := 141) D rfl rfl rfl fun D =>
              j_al (pc := 143) (a := 627) (e := 10) D rfl rfl rfl (by decide) (s0_627 H) (s1_627 H) ⟨rfl, rfl, rfl⟩ rfl (gy qb5) fun q D =>
              j_ic (pc := 144) D rfl fun D =>
              j_ieq (pc := 145) D rfl (fun q =>
                fk_jump cut_684_159 rfl rfl) (fun q D =>
                j_aldn (pc := 148) D rfl rfl rfl fun D =>
                j_aldn (pc := 149) D rfl rfl rfl fun D =>
                j_gfc (pc := 150) (a := 602) D rfl rfl (by decide) rfl (s0_602 H) rfl (sf_430_602 H) fun D =>
                j_ild (pc := 153) D rfl rfl rfl fun D =>
                j_al (pc := 155) (a := 627) (e := 10) D rfl rfl rfl (by decide) (s0_627 H) (s1_627 H) ⟨rfl, rfl, rfl⟩ rfl (gy qb5) fun q D =>
                j_ivv (pc := 156) (m := 685) (dd := 470) (a := [(0, h2 10 627 v3.toNat)]) (rest := []) D rfl rfl rfl rfl rfl (by decide) (s0_602 H) (by decide +kernel) (fun h6 e1 D =>
                  have T := fj_run_ok _ _ _ _ _ _ H.1 e1
                  have H := shp_st H T
                  fk_jump cut_684_159 rfl rfl) (fun q8 h6 e1 =>
                  j_tx (hx_684 _)))) (fun q D =>
              j_goto (pc := 131) D rfl <|
              fk_jump cut_684_159 rfl rfl)) (fun q =>
            fk_jump cut_684_159 rfl rfl))) (fun q4 h2 e1 =>
        j_tx (hx_684 _)))
theorem e_684_159 (d : Nat) (x2 x4 x5 x6 x7 : Int) {h : fi_H} (H : Shp h) : c_684_159 d x2 x4 x5 x6 x7 h =
  c_684_80 d x2 x4 x5 x6 (wI (x7 + 1)) h := by
  unfold c_684_159
  exact
    have D : fk_D 684 [(159, some [0, 2, 4, 5, 6, 7], .iinc 7 1, 3, 0, 1, 0), (162, none, .goto (-82), 3, 80, 0, 0)] := fq_of2 cd_684 ow_684 cl_684 rfl (pc := 159) (by decide +kernel)
    j_inc (pc := 159) (L' := [(7, (0, wI (x7 + 1))), (0, (4, 602)), (2, (0, x2)), (4, (0, x4)), (5, (0, x5)), (6, (0, x6))]) D rfl rfl rfl (by decide +kernel) rfl fun D =>
    j_goto (pc := 162) D rfl <|
    fk_jump cut_684_80 rfl rfl
theorem e_684_234 (d : Nat) (x2 x5 : Int) {h : fi_H} (H : Shp h) : c_684_234 d x2 x5 h =
  if x5 < sl_ 1 (h 558 602 0) then
    ca_ (fj_run d 688 h [(4, 602), (0, x2), (0, (-1)), (0, 0), (0, x5)]) 0
      (fun v2 h1 =>
      if v2 = 0 then
        if h1 560 602 0 = 0 then
          lt_ (fi_upd h1 562 602 0 x5) fun h4 =>
          c_684_274 d x2 x5 h4
        else
          c_684_274 d x2 x5 h1
      else
        if v2 = 2 then
          if h1 561 602 0 = 0 then
            lt_ (fi_upd h1 563 602 0 x5) fun h5 =>
            c_684_306 d x2 x5 h5
          else
            c_684_306 d x2 x5 h1
        else
          c_684_316 d x2 x5 h1)
      (fun q3 h1 => tx_ q3 h1)
  else
    some (.inl (some (0, wI ((h 560 602 0) + (h 561 602 0)))), h) := by
  unfold c_684_234
  exact
    have D : fk_D 684 [(234, some [0, 2, 5], .iload 5, 2, 0, 0, 0), (236, none, .iconst 1, 1, 0, 1, 0), (237, none, .aload_n 0, 1, 0, 0, 0), (238, none, .getfield 1250, 3, 558, 129, 10), (241, none, .ishl, 1, 0, 0, 0), (242, none, .if_icmp .ge 80, 3, 322, 0, 0), (245, none, .aload_n 0, 1, 0, 0, 0), (246, none, .iload_n 2, 1, 0, 0, 0), (247, none, .iconst (-1), 1, 0, (-1), 0), (248, none, .iconst 0, 1, 0, 0, 0), (249, none, .iload 5, 2, 0, 0, 0), (251, none, .invokevirtual 1259, 3, 4, 473, 1), (254, none, .istore 6, 2, 0, 0, 0), (256, none, .iload 6, 2, 0, 0, 0), (258, none, .ifCond .ne 29, 3, 287, 0, 0), (261, none, .aload_n 0, 1, 0, 0, 0), (262, none, .getfield 389, 3, 560, 129, 10), (265, none, .ifCond .ne 9, 3, 274, 0, 0), (268, none, .aload_n 0, 1, 0, 0, 0), (269, none, .iload 5, 2, 0, 0, 0)] := fq_of2 cd_684 ow_684 cl_684 rfl (pc := 234) (by decide +kernel)
    j_ild (pc := 234) D rfl rfl rfl fun D =>
    j_ic (pc := 236) D rfl fun D =>
    j_aldn (pc := 237) D rfl rfl rfl fun D =>
    j_gf (pc := 238) (a := 602) D rfl rfl (by decide) rfl (s0_602 H) rfl fun D =>
    j_ishl (pc := 241) D rfl fun D =>
    j_ige (pc := 242) D rfl (fun q D =>
      j_aldn (pc := 245) D rfl rfl rfl fun D =>
      j_ildn (pc := 246) D rfl rfl rfl fun D =>
      j_ic (pc := 247) D rfl fun D =>
      j_ic (pc := 248) D rfl fun D =>
      j_ild (pc := 249) D rfl rfl rfl fun D =>
      j_iv (pc := 251) (m := 688) (dd := 473) (a := [(0, x2), (0, (-1)), (0, 0), (0, x5)]) (rest := []) D rfl rfl rfl rfl rfl (by decide) (s0_602 H) (by decide +kernel) (fun v2 h1 e1 D =>
        have T := fj_run_ok _ _ _ _ _ _ H.1 e1
        have H := shp_st H T
        j_ist (pc := 254) (L' := [(6, (0, v2)), (0, (4, 602)), (2, (0, x2)), (5, (0, x5))]) D rfl nl_684 rfl rfl fun D =>
        j_ild (pc := 256) D rfl rfl rfl fun D =>
        j_ifne (pc := 258) D rfl (fun q D =>
          j_aldn (pc := 261) D rfl rfl rfl fun D =>
          j_gf (pc := 262) (a := 602) D rfl rfl (by decide) rfl (s0_602 H) rfl fun D =>
          j_ifne (pc := 265) D rfl (fun q D =>
            j_aldn (pc := 268) D rfl rfl rfl fun D =>
            j_ild (pc := 269) D rfl rfl rfl fun D =>
            have D : fk_D 684 [(271, none, .putfield 392, 3, 562, 129, 10)] := fq_of2 cd_684 ow_684 cl_684 rfl (pc := 271) (by decide +kernel)
            j_pf (pc := 271) (a := 602) D rfl rfl rfl (s0_602 H) rfl rfl (gy (by decide)) (gy rfl) fun h4 eh4 S D =>
            have T := fj_hs_ok H.1 S
            have H := shp_st H T
            fk_jump cut_684_274 rfl rfl) (fun q =>
            fk_jump cut_684_274 rfl rfl)) (fun q =>
          have D : fk_D 684 [(287, none, .iload 6, 2, 0, 0, 0), (289, none, .iconst 2, 1, 0, 2, 0), (290, none, .if_icmp .ne 26, 3, 316, 0, 0), (293, none, .aload_n 0, 1, 0, 0, 0), (294, none, .getfield 1265, 3, 561, 129, 10), (297, none, .ifCond .ne 9, 3, 306, 0, 0), (300, none, .aload_n 0, 1, 0, 0, 0), (301, none, .iload 5, 2, 0, 0, 0), (303, none, .putfield 395, 3, 563, 129, 10)] := fq_of2 cd_684 ow_684 cl_684 rfl (pc := 287) (by decide +kernel)
          j_ild (pc := 287) D rfl rfl rfl fun D =>
          j_ic (pc := 289) D rfl fun D =>
          j_ine (pc := 290) D rfl (fun q D =>
            j_aldn (pc := 293) D rfl rfl rfl fun D =>
            j_gf (pc := 294) (a := 602) D rfl rfl (by decide) rfl (s0_602 H) rfl fun D =>
            j_ifne (pc := 297) D rfl (fun q D =>
              j_aldn (pc := 300) D rfl rfl rfl fun D =>
              j_ild (pc := 301) D rfl rfl rfl fun D =>
              j_pf (pc := 303) (a := 602) D rfl rfl rfl (s0_602 H) rfl rfl (gy (by decide)) (gy rfl) fun h5 eh5 S D =>
              have T := fj_hs_ok H.1 S
              have H := shp_st H T
              fk_jump cut_684_306 rfl rfl) (fun q =>
              fk_jump cut_684_306 rfl rfl)) (fun q =>
            fk_jump cut_684_316 rfl rfl))) (fun q3 h1 e1 =>
        j_tx (hx_684 _))) (fun q =>
      have D : fk_D 684 [(322, none, .aload_n 0, 1, 0, 0, 0), (323, none, .getfield 389, 3, 560, 129, 10), (326, none, .aload_n 0, 1, 0, 0, 0), (327, none, .getfield 1265, 3, 561, 129, 10), (330, none, .iadd, 1, 0, 0, 0), (331, none, .ireturn, 1, 0, 0, 0)] := fq_of2 cd_684 ow_684 cl_684 rfl (pc := 322) (by decide +kernel)
      j_aldn (pc := 322) D rfl rfl rfl fun D =>
      j_gf (pc := 323) (a := 602) D rfl rfl (by decide) rfl (s0_602 H) rfl fun D =>
      j_aldn (pc := 326) D rfl rfl rfl fun D =>
      j_gf (pc := 327) (a := 602) D rfl rfl (by decide) rfl (s0_602 H) rfl fun D =>
      j_iadd (pc := 330) D rfl fun D =>
      j_iret D rt_684)
theorem e_684_274 (d : Nat) (x2 x5 : Int) {h : fi_H} (H : Shp h) : c_684_274 d x2 x5 h =
  lt_ (fi_upd h 560 602 0 (wI ((h 560 602 0) + 1))) fun h1 =>
  c_684_316 d x2 x5 h1 := by
  unfold c_684_274
  exact
    have D : fk_D 684 [(274, some [0, 2, 5], .aload_n 0, 1, 0, 0, 0), (275, none, .dup, 1, 0, 0, 0), (276, none, .getfield 389, 3, 560, 129, 10), (279, none, .iconst 1, 1, 0, 1, 0), (280, none, .iadd, 1, 0, 0, 0), (281, none, .putfield 389, 3, 560, 129, 10), (284, none, .goto 32, 3, 316, 0, 0)] := fq_of2 cd_684 ow_684 cl_684 rfl (pc := 274) (by decide +kernel)
    j_aldn (pc := 274) D rfl rfl rfl fun D =>
    j_sh (pc := 275) D rfl rfl rfl fun D =>
    j_gf (pc := 276) (a := 602) D rfl rfl (by decide) rfl (s0_602 H) rfl fun D =>
    j_ic (pc := 279) D rfl fun D =>
    j_iadd (pc := 280) D rfl fun D =>
    j_pf (pc := 281) (a := 602) D rfl rfl rfl (s0_602 H) rfl rfl (gy (by decide)) (gy rfl) fun h1 eh1 S D =>
    have T := fj_hs_ok H.1 S
    have H := shp_st H T
    j_goto (pc := 284) D rfl <|
    fk_jump cut_684_316 rfl rfl
theorem e_684_306 (d : Nat) (x2 x5 : Int) {h : fi_H} (H : Shp h) : c_684_306 d x2 x5 h =
  lt_ (fi_upd h 561 602 0 (wI ((h 561 602 0) + 1))) fun h1 =>
  c_684_316 d x2 x5 h1 := by
  unfold c_684_306
  exact
    have D : fk_D 684 [(306, some [0, 2, 5], .aload_n 0, 1, 0, 0, 0), (307, none, .dup, 1, 0, 0, 0), (308, none, .getfield 1265, 3, 561, 129, 10), (311, none, .iconst 1, 1, 0, 1, 0), (312, none, .iadd, 1, 0, 0, 0), (313, none, .putfield 1265, 3, 561, 129, 10)] := fq_of2 cd_684 ow_684 cl_684 rfl (pc := 306) (by decide +kernel)
    j_aldn (pc := 306) D rfl rfl rfl fun D =>
    j_sh (pc := 307) D rfl rfl rfl fun D =>
    j_gf (pc := 308) (a := 602) D rfl rfl (by decide) rfl (s0_602 H) rfl fun D =>
    j_ic (pc := 311) D rfl fun D =>
    j_iadd (pc := 312) D rfl fun D =>
    j_pf (pc := 313) (a := 602) D rfl rfl rfl (s0_602 H) rfl rfl (gy (by decide)) (gy rfl) fun h1 eh1 S D =>
    have T := fj_hs_ok H.1 S
    have H := shp_st H T
    fk_jump cut_684_316 rfl rfl
theorem e_684_316 (d : Nat) (x2 x5 : Int) {h : fi_H} (H : Shp h) : c_684_316 d x2 x5 h =
  c_684_234 d x2 (wI (x5 + 1)) h := by
  unfold c_684_316
  exact
    have D : fk_D 684 [(316, some [0, 2, 5], .iinc 5 1, 3, 0, 1, 0), (319, none, .goto (-85), 3, 234, 0, 0)] := fq_of2 cd_684 ow_684 cl_684 rfl (pc := 316) (by decide +kernel)
    j_inc (pc := 316) (L' := [(5, (0, wI (x5 + 1))), (0, (4, 602)), (2, (0, x2))]) D rfl rfl rfl (by decide +kernel) rfl fun D =>
    j_goto (pc := 319) D rfl <|
    fk_jump cut_684_234 rfl rfl
theorem m_684 (d : Nat) (x1 x2 x3 : Int) {h : fi_H} (H : Shp h) : fj_run (d + 1) 684 h [(4, 602), (0, x1), (0, x2), (0, x3)] =
  ca_ (fj_run d 641 h [(4, 602), (0, x2)]) 0
    (fun v2 h1 =>
    if v2 = 0 then
      some (.inl (some (0, (-1))), h1)
    else
      ca_ (fj_run d 525 h1 [(4, 602), (0, x1)]) 0
        (fun v5 h4 =>
        if v5 = 0 then
          some (.inl (some (0, (-2))), h4)
        else
          ca_ (fj_run d 520 h4 [(1, wI x3)]) 0
            (fun v8 h7 =>
            if v8 = 0 then
              some (.inl (some (0, (-2))), h7)
            else
              cv_ (fj_run d 607 h7 [(4, 602), (0, 12), (0, x1), (0, x3), (0, h7 449 602 0)])
                (fun h10 =>
                lt_ (fi_upd h10 558 602 0 0) fun h13 =>
                c_684_52 d x2 0 0 h13)
                (fun q12 h10 => tx_ q12 h10))
            (fun q9 h7 => tx_ q9 h7))
        (fun q6 h4 => tx_ q6 h4))
    (fun q3 h1 => tx_ q3 h1) := by
  rw [fj_run_eq d (by decide) h [(4, 602), (0, x1), (0, x2), (0, x3)] (Nat.le_of_ble_eq_true (by rw [nl_684]; rfl))]
  show gG (fj_run d) 684 0 [(0, (4, 602)), (1, (0, x1)), (2, (0, x2)), (3, (0, x3))] [] h = _
  exact
    have D : fk_D 684 [(0, none, .aload_n 0, 1, 0, 0, 0), (1, none, .iload_n 2, 1, 0, 0, 0), (2, none, .invokevirtual 1148, 3, 1, 452, 1), (5, none, .ifCond .ne 5, 3, 10, 0, 0), (8, none, .iconst (-1), 1, 0, (-1), 0), (9, none, .ireturn, 1, 0, 0, 0)] := fq_of2 cd_684 ow_684 cl_684 rfl (pc := 0) (by decide +kernel)
    j_aldn (pc := 0) D rfl rfl rfl fun D =>
    j_ildn (pc := 1) D rfl rfl rfl fun D =>
    j_iv (pc := 2) (m := 641) (dd := 452) (a := [(0, x2)]) (rest := []) D rfl rfl rfl rfl rfl (by decide) (s0_602 H) (by decide +kernel) (fun v2 h1 e1 D =>
      have T := fj_run_ok _ _ _ _ _ _ H.1 e1
      have H := shp_st H T
      j_ifne (pc := 5) D rfl (fun q D =>
        j_ic (pc := 8) D rfl fun D =>
        j_iret D rt_684) (fun q =>
        have D : fk_D 684 [(10, none, .aload_n 0, 1, 0, 0, 0), (11, none, .iload_n 1, 1, 0, 0, 0), (12, none, .invokevirtual 823, 3, 1, 399, 1), (15, none, .ifCond .eq 11, 3, 26, 0, 0), (18, none, .iload_n 3, 1, 0, 0, 0), (19, none, .i2l, 1, 0, 0, 0), (20, none, .invokestatic 456, 3, 1, 520, 1), (23, none, .ifCond .ne 6, 3, 29, 0, 0), (26, none, .bipush (-2), 2, 0, (-2), 0), (28, none, .ireturn, 1, 0, 0, 0)] := fq_of2 cd_684 ow_684 cl_684 rfl (pc := 10) (by decide +kernel)
        j_aldn (pc := 10) D rfl rfl rfl fun D =>
        j_ildn (pc := 11) D rfl rfl rfl fun D =>
        j_iv (pc := 12) (m := 525) (dd := 399) (a := [(0, x1)]) (rest := []) D rfl rfl rfl rfl rfl (by decide) (s0_602 H) (by decide +kernel) (fun v5 h4 e1 D =>
          have T := fj_run_ok _ _ _ _ _ _ H.1 e1
          have H := shp_st H T
          j_ifeq (pc := 15) D rfl (fun q =>
            have D : fk_D 684 [(26, none, .bipush (-2), 2, 0, (-2), 0), (28, none, .ireturn, 1, 0, 0, 0)] := fq_of2 cd_684 ow_684 cl_684 rfl (pc := 26) (by decide +kernel)
            j_bp (pc := 26) D rfl fun D =>
            j_iret D rt_684) (fun q D =>
            j_ildn (pc := 18) D rfl rfl rfl fun D =>
            j_i2l (pc := 19) D rfl fun D =>
            j_is (pc := 20) (m := 520) (a := [(1, wI x3)]) (rest := []) D rfl rfl rfl rfl (fun v8 h7 e1 D =>
              have T := fj_run_ok _ _ _ _ _ _ H.1 e1
              have H := shp_st H T
              j_ifne (pc := 23) D rfl (fun q D =>
                j_bp (pc := 26) D rfl fun D =>
                j_iret D rt_684) (fun q =>
                have D : fk_D 684 [(29, none, .aload_n 0, 1, 0, 0, 0), (30, none, .bipush 12, 2, 0, 12, 0), (32, none, .iload_n 1, 1, 0, 0, 0), (33, none, .iload_n 3, 1, 0, 0, 0), (34, none, .aload_n 0, 1, 0, 0, 0), (35, none, .getfield 141, 3, 449, 129, 10), (38, none, .invokevirtual 896, 3, 4, 407, 0), (41, none, .aload_n 0, 1, 0, 0, 0), (42, none, .iconst 0, 1, 0, 0, 0), (43, none, .putfield 1250, 3, 558, 129, 10), (46, none, .iconst 0, 1, 0, 0, 0), (47, none, .istore 4, 2, 0, 0, 0), (49, none, .iconst 0, 1, 0, 0, 0), (50, none, .istore 5, 2, 0, 0, 0)] := fq_of2 cd_684 ow_684 cl_684 rfl (pc := 29) (by decide +kernel)
                j_aldn (pc := 29) D rfl rfl rfl fun D =>
                j_bp (pc := 30) D rfl fun D =>
                j_ildn (pc := 32) D rfl rfl rfl fun D =>
                j_ildn (pc := 33) D rfl rfl rfl fun D =>
                j_aldn (pc := 34) D rfl rfl rfl fun D =>
                j_gf (pc := 35) (a := 602) D rfl rfl (by decide) rfl (s0_602 H) rfl fun D =>
                j_ivv (pc := 38) (m := 607) (dd := 407) (a := [(0, 12), (0, x1), (0, x3), (0, h7 449 602 0)]) (rest := []) D rfl rfl rfl rfl rfl (by decide) (s0_602 H) (by decide +kernel) (fun h10 e1 D =>
                  have T := fj_run_ok _ _ _ _ _ _ H.1 e1
                  have H := shp_st H T
                  j_aldn (pc := 41) D rfl rfl rfl fun D =>
                  j_ic (pc := 42) D rfl fun D =>
                  j_pf (pc := 43) (a := 602) D rfl rfl rfl (s0_602 H) rfl rfl (gy (by decide)) (gy rfl) fun h13 eh13 S D =>
                  have T := fj_hs_ok H.1 S
                  have H := shp_st H T
                  j_ic (pc := 46) D rfl fun D =>
                  j_ist (pc := 47) (L' := [(4, (0, 0)), (0, (4, 602)), (1, (0, x1)), (2, (0, x2)), (3, (0, x3))]) D rfl nl_684 rfl rfl fun D =>
                  j_ic (pc := 49) D rfl fun D =>
                  j_ist (pc := 50) (L' := [(5, (0, 0)), (4, (0, 0)), (0, (4, 602)), (1, (0, x1)), (2, (0, x2)), (3, (0, x3))]) D rfl nl_684 rfl rfl fun D =>
                  fk_jump cut_684_52 rfl rfl) (fun q12 h10 e1 =>
                  j_tx (hx_684 _)))) (fun q9 h7 e1 =>
              j_tx (hx_684 _)))) (fun q6 h4 e1 =>
          j_tx (hx_684 _)))) (fun q3 h1 e1 =>
      j_tx (hx_684 _))
/-! 685 StatuteHouseModel.collect(I)V -/
theorem cd_685 : fi_code 685 = prog_69_method_203_code := rfl
theorem hx_685 : ∀ pc, fi_hat 685 pc = none := fun pc => by unfold fi_hat; rw [show fi_hh 685 = [] from rfl]; rfl
theorem rt_685 : fi_ret 685 = none := rfl
theorem nl_685 : fi_nl 685 = 3 := rfl
theorem ow_685 : fi_ow 685 = 29 := rfl
theorem cl_685 : fj_cutT.getD 685 [] = [(20, [0, 1]), (68, [0, 1, 2]), (96, [0, 1, 2]), (124, [0])] := rfl
theorem cut_685_20 : fj_cut 685 20 = some [0, 1] := by decide +kernel
noncomputable def c_685_20 (d : Nat) (x1 : Int) (h : fi_H) : fk_R := gG (fj_run d) 685 20 [(0, (4, 602)), (1, (0, x1))] [] h
theorem cut_685_68 : fj_cut 685 68 = some [0, 1, 2] := by decide +kernel
noncomputable def c_685_68 (d : Nat) (x1 x2 : Int) (h : fi_H) : fk_R := gG (fj_run d) 685 68 [(0, (4, 602)), (1, (0, x1)), (2, (0, x2))] [] h
theorem cut_685_96 : fj_cut 685 96 = some [0, 1, 2] := by decide +kernel
noncomputable def c_685_96 (d : Nat) (x1 x2 : Int) (h : fi_H) : fk_R := gG (fj_run d) 685 96 [(0, (4, 602)), (1, (0, x1)), (2, (0, x2))] [] h
theorem cut_685_124 : fj_cut 685 124 = some [0] := by decide +kernel
noncomputable def c_685_124 (d : Nat) (h : fi_H) : fk_R := gG (fj_run d) 685 124 [(0, (4, 602))] [] h
theorem e_685_20 (d : Nat) (x1 : Int) {h : fi_H} (H : Shp h) : c_685_20 d x1 h =
  if 0 ≤ x1 ∧ x1 < 9300 then
  cv_ (fj_run d 685 h [(4, 602), (0, h 10 619 x1.toNat)])
    (fun h2 =>
    cv_ (fj_run d 685 h2 [(4, 602), (0, h2 10 620 x1.toNat)])
      (fun h5 =>
      some (.inl none, h5))
      (fun q7 h5 => tx_ q7 h5))
    (fun q4 h2 => tx_ q4 h2)
  else none := by
  unfold c_685_20
  exact
    have D : fk_D 685 [(20, some [0, 1], .aload_n 0, 1, 0, 0, 0), (21, none, .aload_n 0, 1, 0, 0, 0), (22, none, .getfield 68, 3, 420, 129, 12), (25, none, .iload_n 1, 1, 0, 0, 0), (26, none, .iaload, 1, 0, 0, 0), (27, none, .invokevirtual 1247, 3, 1, 470, 0), (30, none, .aload_n 0, 1, 0, 0, 0), (31, none, .aload_n 0, 1, 0, 0, 0), (32, none, .getfield 71, 3, 421, 129, 12), (35, none, .iload_n 1, 1, 0, 0, 0), (36, none, .iaload, 1, 0, 0, 0), (37, none, .invokevirtual 1247, 3, 1, 470, 0), (40, none, .goto 103, 3, 143, 0, 0)] := fq_of2 cd_685 ow_685 cl_685 rfl (pc := 20) (by decide +kernel)
    j_aldn (pc := 20) D rfl rfl rfl fun D =>
    j_aldn (pc := 21) D rfl rfl rfl fun D =>
    j_gfc (pc := 22) (a := 602) D rfl rfl (by decide) rfl (s0_602 H) rfl (sf_420_602 H) fun D =>
    j_ildn (pc := 25) D rfl rfl rfl fun D =>
    j_al (pc := 26) (a := 619) (e := 10) D rfl rfl rfl (by decide) (s0_619 H) (s1_619 H) ⟨rfl, rfl, rfl⟩ rfl gn fun qb1 D =>
    j_ivv (pc := 27) (m := 685) (dd := 470) (a := [(0, h 10 619 x1.toNat)]) (rest := []) D rfl rfl rfl rfl rfl (by decide) (s0_602 H) (by decide +kernel) (fun h2 e1 D =>
      have T := fj_run_ok _ _ _ _ _ _ H.1 e1
      have H := shp_st H T
      j_aldn (pc := 30) D rfl rfl rfl fun D =>
      j_aldn (pc := 31) D rfl rfl rfl fun D =>
      j_gfc (pc := 32) (a := 602) D rfl rfl (by decide) rfl (s0_602 H) rfl (sf_421_602 H) fun D =>
      j_ildn (pc := 35) D rfl rfl rfl fun D =>
      j_al (pc := 36) (a := 620) (e := 10) D rfl rfl rfl (by decide) (s0_620 H) (s1_620 H) ⟨rfl, rfl, rfl⟩ rfl (gy qb1) fun q D =>
      j_ivv (pc := 37) (m := 685) (dd := 470) (a := [(0, h2 10 620 x1.toNat)]) (rest := []) D rfl rfl rfl rfl rfl (by decide) (s0_602 H) (by decide +kernel) (fun h5 e1 D =>
        have T := fj_run_ok _ _ _ _ _ _ H.1 e1
        have H := shp_st H T
        j_goto (pc := 40) D rfl <|
        have D : fk_D 685 [(143, none, .return_, 1, 0, 0, 0)] := fq_of2 cd_685 ow_685 cl_685 rfl (pc := 143) (by decide +kernel)
        j_vret D rt_685) (fun q7 h5 e1 =>
        j_tx (hx_685 _))) (fun q4 h2 e1 =>
      j_tx (hx_685 _))
theorem e_685_68 (d : Nat) (x1 x2 : Int) {h : fi_H} (H : Shp h) : c_685_68 d x1 x2 h =
  if x2 < h 558 602 0 then
    if 0 ≤ x2 ∧ x2 < 9 then
    ca_ (fj_run d 686 h [(4, 602), (0, h 10 710 x2.toNat), (0, x1)]) 0
      (fun v3 h2 =>
      if v3 = 0 then
        c_685_68 d x1 (wI (x2 + 1)) h2
      else
        c_685_96 d x1 x2 h2)
      (fun q4 h2 => tx_ q4 h2)
    else none
  else
    c_685_96 d x1 x2 h := by
  unfold c_685_68
  exact
    have D : fk_D 685 [(68, some [0, 1, 2], .iload_n 2, 1, 0, 0, 0), (69, none, .aload_n 0, 1, 0, 0, 0), (70, none, .getfield 1250, 3, 558, 129, 10), (73, none, .if_icmp .ge 23, 3, 96, 0, 0), (76, none, .aload_n 0, 1, 0, 0, 0), (77, none, .aload_n 0, 1, 0, 0, 0), (78, none, .getfield 386, 3, 557, 129, 12), (81, none, .iload_n 2, 1, 0, 0, 0), (82, none, .iaload, 1, 0, 0, 0), (83, none, .iload_n 1, 1, 0, 0, 0), (84, none, .invokevirtual 1244, 3, 2, 469, 1), (87, none, .ifCond .ne 9, 3, 96, 0, 0), (90, none, .iinc 2 1, 3, 0, 1, 0), (93, none, .goto (-25), 3, 68, 0, 0)] := fq_of2 cd_685 ow_685 cl_685 rfl (pc := 68) (by decide +kernel)
    j_ildn (pc := 68) D rfl rfl rfl fun D =>
    j_aldn (pc := 69) D rfl rfl rfl fun D =>
    j_gf (pc := 70) (a := 602) D rfl rfl (by decide) rfl (s0_602 H) rfl fun D =>
    j_ige (pc := 73) D rfl (fun q D =>
      j_aldn (pc := 76) D rfl rfl rfl fun D =>
      j_aldn (pc := 77) D rfl rfl rfl fun D =>
      j_gfc (pc := 78) (a := 602) D rfl rfl (by decide) rfl (s0_602 H) rfl (sf_557_602 H) fun D =>
      j_ildn (pc := 81) D rfl rfl rfl fun D =>
      j_al (pc := 82) (a := 710) (e := 10) D rfl rfl rfl (by decide) (s0_710 H) (s1_710 H) ⟨rfl, rfl, rfl⟩ rfl gn fun qb1 D =>
      j_ildn (pc := 83) D rfl rfl rfl fun D =>
      j_iv (pc := 84) (m := 686) (dd := 469) (a := [(0, h 10 710 x2.toNat), (0, x1)]) (rest := []) D rfl rfl rfl rfl rfl (by decide) (s0_602 H) (by decide +kernel) (fun v3 h2 e1 D =>
        have T := fj_run_ok _ _ _ _ _ _ H.1 e1
        have H := shp_st H T
        j_ifne (pc := 87) D rfl (fun q D =>
          j_inc (pc := 90) (L' := [(2, (0, wI (x2 + 1))), (0, (4, 602)), (1, (0, x1))]) D rfl rfl rfl (by decide +kernel) rfl fun D =>
          j_goto (pc := 93) D rfl <|
          fk_jump cut_685_68 rfl rfl) (fun q =>
          fk_jump cut_685_96 rfl rfl)) (fun q4 h2 e1 =>
        j_tx (hx_685 _))) (fun q =>
      fk_jump cut_685_96 rfl rfl)
theorem e_685_96 (d : Nat) (x1 x2 : Int) {h : fi_H} (H : Shp h) : c_685_96 d x1 x2 h =
  if x2 < h 558 602 0 then
    some (.inl none, h)
  else
    if h 558 602 0 < 9 then
      if 0 ≤ h 558 602 0 ∧ h 558 602 0 < 9 then
      lt_ (fi_upd h 10 710 (h 558 602 0).toNat x1) fun h1 =>
      c_685_124 d h1
      else none
    else
      c_685_124 d h := by
  unfold c_685_96
  exact
    have D : fk_D 685 [(96, some [0, 1, 2], .iload_n 2, 1, 0, 0, 0), (97, none, .aload_n 0, 1, 0, 0, 0), (98, none, .getfield 1250, 3, 558, 129, 10), (101, none, .if_icmp .ge 4, 3, 105, 0, 0), (104, none, .return_, 1, 0, 0, 0)] := fq_of2 cd_685 ow_685 cl_685 rfl (pc := 96) (by decide +kernel)
    j_ildn (pc := 96) D rfl rfl rfl fun D =>
    j_aldn (pc := 97) D rfl rfl rfl fun D =>
    j_gf (pc := 98) (a := 602) D rfl rfl (by decide) rfl (s0_602 H) rfl fun D =>
    j_ige (pc := 101) D rfl (fun q D =>
      j_vret D rt_685) (fun q =>
      have D : fk_D 685 [(105, none, .aload_n 0, 1, 0, 0, 0), (106, none, .getfield 1250, 3, 558, 129, 10), (109, none, .bipush 9, 2, 0, 9, 0), (111, none, .if_icmp .ge 13, 3, 124, 0, 0), (114, none, .aload_n 0, 1, 0, 0, 0), (115, none, .getfield 386, 3, 557, 129, 12), (118, none, .aload_n 0, 1, 0, 0, 0), (119, none, .getfield 1250, 3, 558, 129, 10), (122, none, .iload_n 1, 1, 0, 0, 0), (123, none, .iastore, 1, 0, 0, 0)] := fq_of2 cd_685 ow_685 cl_685 rfl (pc := 105) (by decide +kernel)
      j_aldn (pc := 105) D rfl rfl rfl fun D =>
      j_gf (pc := 106) (a := 602) D rfl rfl (by decide) rfl (s0_602 H) rfl fun D =>
      j_bp (pc := 109) D rfl fun D =>
      j_ige (pc := 111) D rfl (fun q D =>
        j_aldn (pc := 114) D rfl rfl rfl fun D =>
        j_gfc (pc := 115) (a := 602) D rfl rfl (by decide) rfl (s0_602 H) rfl (sf_557_602 H) fun D =>
        j_aldn (pc := 118) D rfl rfl rfl fun D =>
        j_gf (pc := 119) (a := 602) D rfl rfl (by decide) rfl (s0_602 H) rfl fun D =>
        j_ildn (pc := 122) D rfl rfl rfl fun D =>
        j_as (pc := 123) (a := 710) (e := 10) D rfl ⟨rfl, rfl⟩ rfl (by decide) (s0_710 H) (s1_710 H) ⟨rfl, rfl, rfl⟩ rfl gn (gy rfl) fun h1 eh1 S qb2 D =>
        have T := fj_hs_ok H.1 S
        have H := shp_st H T
        fk_jump cut_685_124 rfl rfl) (fun q =>
        fk_jump cut_685_124 rfl rfl))
theorem e_685_124 (d : Nat) {h : fi_H} (H : Shp h) : c_685_124 d h =
  if h 558 602 0 < 9 then
    lt_ (fi_upd h 558 602 0 (wI ((h 558 602 0) + 1))) fun h1 =>
    some (.inl none, h1)
  else
    some (.inl none, h) := by
  unfold c_685_124
  exact
    have D : fk_D 685 [(124, some [0], .aload_n 0, 1, 0, 0, 0), (125, none, .getfield 1250, 3, 558, 129, 10), (128, none, .bipush 9, 2, 0, 9, 0), (130, none, .if_icmp .ge 13, 3, 143, 0, 0), (133, none, .aload_n 0, 1, 0, 0, 0), (134, none, .dup, 1, 0, 0, 0), (135, none, .getfield 1250, 3, 558, 129, 10), (138, none, .iconst 1, 1, 0, 1, 0), (139, none, .iadd, 1, 0, 0, 0), (140, none, .putfield 1250, 3, 558, 129, 10), (143, none, .return_, 1, 0, 0, 0)] := fq_of2 cd_685 ow_685 cl_685 rfl (pc := 124) (by decide +kernel)
    j_aldn (pc := 124) D rfl rfl rfl fun D =>
    j_gf (pc := 125) (a := 602) D rfl rfl (by decide) rfl (s0_602 H) rfl fun D =>
    j_bp (pc := 128) D rfl fun D =>
    j_ige (pc := 130) D rfl (fun q D =>
      j_aldn (pc := 133) D rfl rfl rfl fun D =>
      j_sh (pc := 134) D rfl rfl rfl fun D =>
      j_gf (pc := 135) (a := 602) D rfl rfl (by decide) rfl (s0_602 H) rfl fun D =>
      j_ic (pc := 138) D rfl fun D =>
      j_iadd (pc := 139) D rfl fun D =>
      j_pf (pc := 140) (a := 602) D rfl rfl rfl (s0_602 H) rfl rfl (gy (by decide)) (gy rfl) fun h1 eh1 S D =>
      have T := fj_hs_ok H.1 S
      have H := shp_st H T
      j_vret D rt_685) (fun q =>
      have D : fk_D 685 [(143, none, .return_, 1, 0, 0, 0)] := fq_of2 cd_685 ow_685 cl_685 rfl (pc := 143) (by decide +kernel)
      j_vret D rt_685)
theorem m_685 (d : Nat) (x1 : Int) {h : fi_H} (H : Shp h) : fj_run (d + 1) 685 h [(4, 602), (0, x1)] =
  if 0 ≤ x1 ∧ x1 < 9300 then
  if h 10 617 x1.toNat = 1 then
    c_685_20 d x1 h
  else
    if h 10 617 x1.toNat = 2 then
      c_685_20 d x1 h
    else
      if h 10 617 x1.toNat = 3 then
        cv_ (fj_run d 685 h [(4, 602), (0, h 10 619 x1.toNat)])
          (fun h2 =>
          some (.inl none, h2))
          (fun q4 h2 => tx_ q4 h2)
      else
        c_685_68 d x1 0 h
  else none := by
  rw [fj_run_eq d (by decide) h [(4, 602), (0, x1)] (Nat.le_of_ble_eq_true (by rw [nl_685]; rfl))]
  show gG (fj_run d) 685 0 [(0, (4, 602)), (1, (0, x1))] [] h = _
  exact
    have D : fk_D 685 [(0, none, .aload_n 0, 1, 0, 0, 0), (1, none, .getfield 62, 3, 418, 129, 12), (4, none, .iload_n 1, 1, 0, 0, 0), (5, none, .iaload, 1, 0, 0, 0), (6, none, .iconst 1, 1, 0, 1, 0), (7, none, .if_icmp .eq 13, 3, 20, 0, 0), (10, none, .aload_n 0, 1, 0, 0, 0), (11, none, .getfield 62, 3, 418, 129, 12), (14, none, .iload_n 1, 1, 0, 0, 0), (15, none, .iaload, 1, 0, 0, 0), (16, none, .iconst 2, 1, 0, 2, 0), (17, none, .if_icmp .ne 26, 3, 43, 0, 0)] := fq_of2 cd_685 ow_685 cl_685 rfl (pc := 0) (by decide +kernel)
    j_aldn (pc := 0) D rfl rfl rfl fun D =>
    j_gfc (pc := 1) (a := 602) D rfl rfl (by decide) rfl (s0_602 H) rfl (sf_418_602 H) fun D =>
    j_ildn (pc := 4) D rfl rfl rfl fun D =>
    j_al (pc := 5) (a := 617) (e := 10) D rfl rfl rfl (by decide) (s0_617 H) (s1_617 H) ⟨rfl, rfl, rfl⟩ rfl gn fun qb1 D =>
    j_ic (pc := 6) D rfl fun D =>
    j_ieq (pc := 7) D rfl (fun q =>
      fk_jump cut_685_20 rfl rfl) (fun q D =>
      j_aldn (pc := 10) D rfl rfl rfl fun D =>
      j_gfc (pc := 11) (a := 602) D rfl rfl (by decide) rfl (s0_602 H) rfl (sf_418_602 H) fun D =>
      j_ildn (pc := 14) D rfl rfl rfl fun D =>
      j_al (pc := 15) (a := 617) (e := 10) D rfl rfl rfl (by decide) (s0_617 H) (s1_617 H) ⟨rfl, rfl, rfl⟩ rfl (gy qb1) fun q D =>
      j_ic (pc := 16) D rfl fun D =>
      j_ine (pc := 17) D rfl (fun q D =>
        fk_jump cut_685_20 rfl rfl) (fun q =>
        have D : fk_D 685 [(43, none, .aload_n 0, 1, 0, 0, 0), (44, none, .getfield 62, 3, 418, 129, 12), (47, none, .iload_n 1, 1, 0, 0, 0), (48, none, .iaload, 1, 0, 0, 0), (49, none, .iconst 3, 1, 0, 3, 0), (50, none, .if_icmp .ne 16, 3, 66, 0, 0), (53, none, .aload_n 0, 1, 0, 0, 0), (54, none, .aload_n 0, 1, 0, 0, 0), (55, none, .getfield 68, 3, 420, 129, 12), (58, none, .iload_n 1, 1, 0, 0, 0), (59, none, .iaload, 1, 0, 0, 0), (60, none, .invokevirtual 1247, 3, 1, 470, 0), (63, none, .goto 80, 3, 143, 0, 0)] := fq_of2 cd_685 ow_685 cl_685 rfl (pc := 43) (by decide +kernel)
        j_aldn (pc := 43) D rfl rfl rfl fun D =>
        j_gfc (pc := 44) (a := 602) D rfl rfl (by decide) rfl (s0_602 H) rfl (sf_418_602 H) fun D =>
        j_ildn (pc := 47) D rfl rfl rfl fun D =>
        j_al (pc := 48) (a := 617) (e := 10) D rfl rfl rfl (by decide) (s0_617 H) (s1_617 H) ⟨rfl, rfl, rfl⟩ rfl (gy qb1) fun q D =>
        j_ic (pc := 49) D rfl fun D =>
        j_ine (pc := 50) D rfl (fun q D =>
          j_aldn (pc := 53) D rfl rfl rfl fun D =>
          j_aldn (pc := 54) D rfl rfl rfl fun D =>
          j_gfc (pc := 55) (a := 602) D rfl rfl (by decide) rfl (s0_602 H) rfl (sf_420_602 H) fun D =>
          j_ildn (pc := 58) D rfl rfl rfl fun D =>
          j_al (pc := 59) (a := 619) (e := 10) D rfl rfl rfl (by decide) (s0_619 H) (s1_619 H) ⟨rfl, rfl, rfl⟩ rfl (gy qb1) fun q D =>
          j_ivv (pc := 60) (m := 685) (dd := 470) (a := [(0, h 10 619 x1.toNat)]) (rest := []) D rfl rfl rfl rfl rfl (by decide) (s0_602 H) (by decide +kernel) (fun h2 e1 D =>
            have T := fj_run_ok _ _ _ _ _ _ H.1 e1
            have H := shp_st H T
            j_goto (pc := 63) D rfl <|
            have D : fk_D 685 [(143, none, .return_, 1, 0, 0, 0)] := fq_of2 cd_685 ow_685 cl_685 rfl (pc := 143) (by decide +kernel)
            j_vret D rt_685) (fun q4 h2 e1 =>
            j_tx (hx_685 _))) (fun q =>
          have D : fk_D 685 [(66, none, .iconst 0, 1, 0, 0, 0), (67, none, .istore_n 2, 1, 0, 0, 0)] := fq_of2 cd_685 ow_685 cl_685 rfl (pc := 66) (by decide +kernel)
          j_ic (pc := 66) D rfl fun D =>
          j_istn (pc := 67) (L' := [(2, (0, 0)), (0, (4, 602)), (1, (0, x1))]) D rfl nl_685 rfl rfl fun D =>
          fk_jump cut_685_68 rfl rfl)))
/-! 686 StatuteHouseModel.alike(II)Z -/
theorem cd_686 : fi_code 686 = prog_69_method_202_code := rfl
theorem hx_686 : ∀ pc, fi_hat 686 pc = none := fun pc => by unfold fi_hat; rw [show fi_hh 686 = [] from rfl]; rfl
theorem rt_686 : fi_ret 686 = some .boolean := rfl
theorem nl_686 : fi_nl 686 = 3 := rfl
theorem ow_686 : fi_ow 686 = 29 := rfl
theorem cl_686 : fj_cutT.getD 686 [] = [(10, [1, 2])] := rfl
theorem cut_686_10 : fj_cut 686 10 = some [1, 2] := by decide +kernel
noncomputable def c_686_10 (d : Nat) (x1 x2 : Int) (h : fi_H) : fk_R := gG (fj_run d) 686 10 [(1, (0, x1)), (2, (0, x2))] [] h
theorem e_686_10 (d : Nat) (x1 x2 : Int) {h : fi_H} (H : Shp h) : c_686_10 d x1 x2 h =
  if x1 = x2 then
    some (.inl (some (0, 1)), h)
  else
    some (.inl (some (0, 0)), h) := by
  unfold c_686_10
  exact
    have D : fk_D 686 [(10, some [1, 2], .iload_n 1, 1, 0, 0, 0), (11, none, .iload_n 2, 1, 0, 0, 0), (12, none, .if_icmp .ne 7, 3, 19, 0, 0), (15, none, .iconst 1, 1, 0, 1, 0), (16, none, .goto 4, 3, 20, 0, 0)] := fq_of2 cd_686 ow_686 cl_686 rfl (pc := 10) (by decide +kernel)
    j_ildn (pc := 10) D rfl rfl rfl fun D =>
    j_ildn (pc := 11) D rfl rfl rfl fun D =>
    j_ine (pc := 12) D rfl (fun q D =>
      j_ic (pc := 15) D rfl fun D =>
      j_goto (pc := 16) D rfl <|
      have D : fk_D 686 [(20, none, .ireturn, 1, 0, 0, 0)] := fq_of2 cd_686 ow_686 cl_686 rfl (pc := 20) (by decide +kernel)
      j_zret D rt_686 (gy (by decide))) (fun q =>
      have D : fk_D 686 [(19, none, .iconst 0, 1, 0, 0, 0), (20, none, .ireturn, 1, 0, 0, 0)] := fq_of2 cd_686 ow_686 cl_686 rfl (pc := 19) (by decide +kernel)
      j_ic (pc := 19) D rfl fun D =>
      j_zret D rt_686 (gy (by decide)))
theorem m_686 (d : Nat) (x1 x2 : Int) {h : fi_H} (H : Shp h) : fj_run (d + 1) 686 h [(4, 602), (0, x1), (0, x2)] =
  if x1 = (-1) then
    c_686_10 d x1 x2 h
  else
    if x2 = (-1) then
      c_686_10 d x1 x2 h
    else
      if 0 ≤ x1 ∧ x1 < 9300 then
      if 0 ≤ x2 ∧ x2 < 9300 then
      if h 10 617 x1.toNat = h 10 617 x2.toNat then
        if h 10 618 x1.toNat = h 10 618 x2.toNat then
          if lc_ (h 11 623 x1.toNat) (h 11 623 x2.toNat) = 0 then
            if lc_ (h 11 624 x1.toNat) (h 11 624 x2.toNat) = 0 then
              if h 10 617 x1.toNat = 18 then
                some (.inl (some (0, 1)), h)
              else
                ca_ (fj_run d 686 h [(4, 602), (0, h 10 619 x1.toNat), (0, h 10 619 x2.toNat)]) 0
                  (fun v4 h3 =>
                  if v4 = 0 then
                    some (.inl (some (0, 0)), h3)
                  else
                    ca_ (fj_run d 686 h3 [(4, 602), (0, h3 10 620 x1.toNat), (0, h3 10 620 x2.toNat)]) 0
                      (fun v7 h6 =>
                      if v7 = 0 then
                        some (.inl (some (0, 0)), h6)
                      else
                        ca_ (fj_run d 686 h6 [(4, 602), (0, h6 10 621 x1.toNat), (0, h6 10 621 x2.toNat)]) 0
                          (fun v10 h9 =>
                          if v10 = 0 then
                            some (.inl (some (0, 0)), h9)
                          else
                            some (.inl (some (0, 1)), h9))
                          (fun q11 h9 => tx_ q11 h9))
                      (fun q8 h6 => tx_ q8 h6))
                  (fun q5 h3 => tx_ q5 h3)
            else
              some (.inl (some (0, 0)), h)
          else
            some (.inl (some (0, 0)), h)
        else
          some (.inl (some (0, 0)), h)
      else
        some (.inl (some (0, 0)), h)
      else none
      else none := by
  rw [fj_run_eq d (by decide) h [(4, 602), (0, x1), (0, x2)] (Nat.le_of_ble_eq_true (by rw [nl_686]; rfl))]
  show gG (fj_run d) 686 0 [(0, (4, 602)), (1, (0, x1)), (2, (0, x2))] [] h = _
  exact
    have D : fk_D 686 [(0, none, .iload_n 1, 1, 0, 0, 0), (1, none, .iconst (-1), 1, 0, (-1), 0), (2, none, .if_icmp .eq 8, 3, 10, 0, 0), (5, none, .iload_n 2, 1, 0, 0, 0), (6, none, .iconst (-1), 1, 0, (-1), 0), (7, none, .if_icmp .ne 14, 3, 21, 0, 0)] := fq_of2 cd_686 ow_686 cl_686 rfl (pc := 0) (by decide +kernel)
    j_ildn (pc := 0) D rfl rfl rfl fun D =>
    j_ic (pc := 1) D rfl fun D =>
    j_ieq (pc := 2) D rfl (fun q =>
      fk_jump cut_686_10 rfl rfl) (fun q D =>
      j_ildn (pc := 5) D rfl rfl rfl fun D =>
      j_ic (pc := 6) D rfl fun D =>
      j_ine (pc := 7) D rfl (fun q D =>
        fk_jump cut_686_10 rfl rfl) (fun q =>
        have D : fk_D 686 [(21, none, .aload_n 0, 1, 0, 0, 0), (22, none, .getfield 62, 3, 418, 129, 12), (25, none, .iload_n 1, 1, 0, 0, 0), (26, none, .iaload, 1, 0, 0, 0), (27, none, .aload_n 0, 1, 0, 0, 0), (28, none, .getfield 62, 3, 418, 129, 12), (31, none, .iload_n 2, 1, 0, 0, 0), (32, none, .iaload, 1, 0, 0, 0), (33, none, .if_icmp .ne 50, 3, 83, 0, 0), (36, none, .aload_n 0, 1, 0, 0, 0), (37, none, .getfield 65, 3, 419, 129, 12), (40, none, .iload_n 1, 1, 0, 0, 0), (41, none, .iaload, 1, 0, 0, 0), (42, none, .aload_n 0, 1, 0, 0, 0), (43, none, .getfield 65, 3, 419, 129, 12), (46, none, .iload_n 2, 1, 0, 0, 0), (47, none, .iaload, 1, 0, 0, 0), (48, none, .if_icmp .ne 35, 3, 83, 0, 0), (51, none, .aload_n 0, 1, 0, 0, 0), (52, none, .getfield 80, 3, 424, 129, 12)] := fq_of2 cd_686 ow_686 cl_686 rfl (pc := 21) (by decide +kernel)
        j_aldn (pc := 21) D rfl rfl rfl fun D =>
        j_gfc (pc := 22) (a := 602) D rfl rfl (by decide) rfl (s0_602 H) rfl (sf_418_602 H) fun D =>
        j_ildn (pc := 25) D rfl rfl rfl fun D =>
        j_al (pc := 26) (a := 617) (e := 10) D rfl rfl rfl (by decide) (s0_617 H) (s1_617 H) ⟨rfl, rfl, rfl⟩ rfl gn fun qb1 D =>
        j_aldn (pc := 27) D rfl rfl rfl fun D =>
        j_gfc (pc := 28) (a := 602) D rfl rfl (by decide) rfl (s0_602 H) rfl (sf_418_602 H) fun D =>
        j_ildn (pc := 31) D rfl rfl rfl fun D =>
        j_al (pc := 32) (a := 617) (e := 10) D rfl rfl rfl (by decide) (s0_617 H) (s1_617 H) ⟨rfl, rfl, rfl⟩ rfl gn fun qb2 D =>
        j_ine (pc := 33) D rfl (fun q D =>
          j_aldn (pc := 36) D rfl rfl rfl fun D =>
          j_gfc (pc := 37) (a := 602) D rfl rfl (by decide) rfl (s0_602 H) rfl (sf_419_602 H) fun D =>
          j_ildn (pc := 40) D rfl rfl rfl fun D =>
          j_al (pc := 41) (a := 618) (e := 10) D rfl rfl rfl (by decide) (s0_618 H) (s1_618 H) ⟨rfl, rfl, rfl⟩ rfl (gy qb1) fun q D =>
          j_aldn (pc := 42) D rfl rfl rfl fun D =>
          j_gfc (pc := 43) (a := 602) D rfl rfl (by decide) rfl (s0_602 H) rfl (sf_419_602 H) fun D =>
          j_ildn (pc := 46) D rfl rfl rfl fun D =>
          j_al (pc := 47) (a := 618) (e := 10) D rfl rfl rfl (by decide) (s0_618 H) (s1_618 H) ⟨rfl, rfl, rfl⟩ rfl (gy qb2) fun q D =>
          j_ine (pc := 48) D rfl (fun q D =>
            j_aldn (pc := 51) D rfl rfl rfl fun D =>
            j_gfc (pc := 52) (a := 602) D rfl rfl (by decide) rfl (s0_602 H) rfl (sf_424_602 H) fun D =>
            have D : fk_D 686 [(55, none, .iload_n 1, 1, 0, 0, 0), (56, none, .laload, 1, 0, 0, 0), (57, none, .aload_n 0, 1, 0, 0, 0), (58, none, .getfield 80, 3, 424, 129, 12), (61, none, .iload_n 2, 1, 0, 0, 0), (62, none, .laload, 1, 0, 0, 0), (63, none, .lcmp, 1, 0, 0, 0), (64, none, .ifCond .ne 19, 3, 83, 0, 0), (67, none, .aload_n 0, 1, 0, 0, 0), (68, none, .getfield 83, 3, 425, 129, 12), (71, none, .iload_n 1, 1, 0, 0, 0), (72, none, .laload, 1, 0, 0, 0), (73, none, .aload_n 0, 1, 0, 0, 0), (74, none, .getfield 83, 3, 425, 129, 12), (77, none, .iload_n 2, 1, 0, 0, 0), (78, none, .laload, 1, 0, 0, 0), (79, none, .lcmp, 1, 0, 0, 0), (80, none, .ifCond .eq 5, 3, 85, 0, 0), (83, none, .iconst 0, 1, 0, 0, 0), (84, none, .ireturn, 1, 0, 0, 0)] := fq_of2 cd_686 ow_686 cl_686 rfl (pc := 55) (by decide +kernel)
            j_ildn (pc := 55) D rfl rfl rfl fun D =>
            j_al (pc := 56) (a := 623) (e := 11) D rfl rfl rfl (by decide) (s0_623 H) (s1_623 H) ⟨rfl, rfl, rfl⟩ rfl (gy qb1) fun q D =>
            j_aldn (pc := 57) D rfl rfl rfl fun D =>
            j_gfc (pc := 58) (a := 602) D rfl rfl (by decide) rfl (s0_602 H) rfl (sf_424_602 H) fun D =>
            j_ildn (pc := 61) D rfl rfl rfl fun D =>
            j_al (pc := 62) (a := 623) (e := 11) D rfl rfl rfl (by decide) (s0_623 H) (s1_623 H) ⟨rfl, rfl, rfl⟩ rfl (gy qb2) fun q D =>
            j_lcmp (pc := 63) D rfl fun D =>
            j_ifne (pc := 64) D rfl (fun q D =>
              j_aldn (pc := 67) D rfl rfl rfl fun D =>
              j_gfc (pc := 68) (a := 602) D rfl rfl (by decide) rfl (s0_602 H) rfl (sf_425_602 H) fun D =>
              j_ildn (pc := 71) D rfl rfl rfl fun D =>
              j_al (pc := 72) (a := 624) (e := 11) D rfl rfl rfl (by decide) (s0_624 H) (s1_624 H) ⟨rfl, rfl, rfl⟩ rfl (gy qb1) fun q D =>
              j_aldn (pc := 73) D rfl rfl rfl fun D =>
              j_gfc (pc := 74) (a := 602) D rfl rfl (by decide) rfl (s0_602 H) rfl (sf_425_602 H) fun D =>
              j_ildn (pc := 77) D rfl rfl rfl fun D =>
              j_al (pc := 78) (a := 624) (e := 11) D rfl rfl rfl (by decide) (s0_624 H) (s1_624 H) ⟨rfl, rfl, rfl⟩ rfl (gy qb2) fun q D =>
              j_lcmp (pc := 79) D rfl fun D =>
              j_ifeq (pc := 80) D rfl (fun q =>
                have D : fk_D 686 [(85, none, .aload_n 0, 1, 0, 0, 0), (86, none, .getfield 62, 3, 418, 129, 12), (89, none, .iload_n 1, 1, 0, 0, 0), (90, none, .iaload, 1, 0, 0, 0), (91, none, .bipush 18, 2, 0, 18, 0), (93, none, .if_icmp .eq 60, 3, 153, 0, 0), (96, none, .aload_n 0, 1, 0, 0, 0), (97, none, .aload_n 0, 1, 0, 0, 0), (98, none, .getfield 68, 3, 420, 129, 12), (101, none, .iload_n 1, 1, 0, 0, 0), (102, none, .iaload, 1, 0, 0, 0), (103, none, .aload_n 0, 1, 0, 0, 0), (104, none, .getfield 68, 3, 420, 129, 12), (107, none, .iload_n 2, 1, 0, 0, 0), (108, none, .iaload, 1, 0, 0, 0), (109, none, .invokevirtual 1244, 3, 2, 469, 1), (112, none, .ifCond .eq 45, 3, 157, 0, 0), (115, none, .aload_n 0, 1, 0, 0, 0), (116, none, .aload_n 0, 1, 0, 0, 0), (117, none, .getfield 71, 3, 421, 129, 12)] := fq_of2 cd_686 ow_686 cl_686 rfl (pc := 85) (by decide +kernel)
                j_aldn (pc := 85) D rfl rfl rfl fun D =>
                j_gfc (pc := 86) (a := 602) D rfl rfl (by decide) rfl (s0_602 H) rfl (sf_418_602 H) fun D =>
                j_ildn (pc := 89) D rfl rfl rfl fun D =>
                j_al (pc := 90) (a := 617) (e := 10) D rfl rfl rfl (by decide) (s0_617 H) (s1_617 H) ⟨rfl, rfl, rfl⟩ rfl (gy qb1) fun q D =>
                j_bp (pc := 91) D rfl fun D =>
                j_ieq (pc := 93) D rfl (fun q =>
                  have D : fk_D 686 [(153, none, .iconst 1, 1, 0, 1, 0), (154, none, .goto 4, 3, 158, 0, 0)] := fq_of2 cd_686 ow_686 cl_686 rfl (pc := 153) (by decide +kernel)
                  j_ic (pc := 153) D rfl fun D =>
                  j_goto (pc := 154) D rfl <|
                  have D : fk_D 686 [(158, none, .ireturn, 1, 0, 0, 0)] := fq_of2 cd_686 ow_686 cl_686 rfl (pc := 158) (by decide +kernel)
                  j_zret D rt_686 (gy (by decide))) (fun q D =>
                  j_aldn (pc := 96) D rfl rfl rfl fun D =>
                  j_aldn (pc := 97) D rfl rfl rfl fun D =>
                  j_gfc (pc := 98) (a := 602) D rfl rfl (by decide) rfl (s0_602 H) rfl (sf_420_602 H) fun D =>
                  j_ildn (pc := 101) D rfl rfl rfl fun D =>
                  j_al (pc := 102) (a := 619) (e := 10) D rfl rfl rfl (by decide) (s0_619 H) (s1_619 H) ⟨rfl, rfl, rfl⟩ rfl (gy qb1) fun q D =>
                  j_aldn (pc := 103) D rfl rfl rfl fun D =>
                  j_gfc (pc := 104) (a := 602) D rfl rfl (by decide) rfl (s0_602 H) rfl (sf_420_602 H) fun D =>
                  j_ildn (pc := 107) D rfl rfl rfl fun D =>
                  j_al (pc := 108) (a := 619) (e := 10) D rfl rfl rfl (by decide) (s0_619 H) (s1_619 H) ⟨rfl, rfl, rfl⟩ rfl (gy qb2) fun q D =>
                  j_iv (pc := 109) (m := 686) (dd := 469) (a := [(0, h 10 619 x1.toNat), (0, h 10 619 x2.toNat)]) (rest := []) D rfl rfl rfl rfl rfl (by decide) (s0_602 H) (by decide +kernel) (fun v4 h3 e1 D =>
                    have T := fj_run_ok _ _ _ _ _ _ H.1 e1
                    have H := shp_st H T
                    j_ifeq (pc := 112) D rfl (fun q =>
                      have D : fk_D 686 [(157, none, .iconst 0, 1, 0, 0, 0), (158, none, .ireturn, 1, 0, 0, 0)] := fq_of2 cd_686 ow_686 cl_686 rfl (pc := 157) (by decide +kernel)
                      j_ic (pc := 157) D rfl fun D =>
                      j_zret D rt_686 (gy (by decide))) (fun q D =>
                      j_aldn (pc := 115) D rfl rfl rfl fun D =>
                      j_aldn (pc := 116) D rfl rfl rfl fun D =>
                      j_gfc (pc := 117) (a := 602) D rfl rfl (by decide) rfl (s0_602 H) rfl (sf_421_602 H) fun D =>
                      have D : fk_D 686 [(120, none, .iload_n 1, 1, 0, 0, 0), (121, none, .iaload, 1, 0, 0, 0), (122, none, .aload_n 0, 1, 0, 0, 0), (123, none, .getfield 71, 3, 421, 129, 12), (126, none, .iload_n 2, 1, 0, 0, 0), (127, none, .iaload, 1, 0, 0, 0), (128, none, .invokevirtual 1244, 3, 2, 469, 1), (131, none, .ifCond .eq 26, 3, 157, 0, 0), (134, none, .aload_n 0, 1, 0, 0, 0), (135, none, .aload_n 0, 1, 0, 0, 0), (136, none, .getfield 74, 3, 422, 129, 12), (139, none, .iload_n 1, 1, 0, 0, 0), (140, none, .iaload, 1, 0, 0, 0), (141, none, .aload_n 0, 1, 0, 0, 0), (142, none, .getfield 74, 3, 422, 129, 12), (145, none, .iload_n 2, 1, 0, 0, 0), (146, none, .iaload, 1, 0, 0, 0), (147, none, .invokevirtual 1244, 3, 2, 469, 1), (150, none, .ifCond .eq 7, 3, 157, 0, 0), (153, none, .iconst 1, 1, 0, 1, 0)] := fq_of2 cd_686 ow_686 cl_686 rfl (pc := 120) (by decide +kernel)
                      j_ildn (pc := 120) D rfl rfl rfl fun D =>
                      j_al (pc := 121) (a := 620) (e := 10) D rfl rfl rfl (by decide) (s0_620 H) (s1_620 H) ⟨rfl, rfl, rfl⟩ rfl (gy qb1) fun q D =>
                      j_aldn (pc := 122) D rfl rfl rfl fun D =>
                      j_gfc (pc := 123) (a := 602) D rfl rfl (by decide) rfl (s0_602 H) rfl (sf_421_602 H) fun D =>
                      j_ildn (pc := 126) D rfl rfl rfl fun D =>
                      j_al (pc := 127) (a := 620) (e := 10) D rfl rfl rfl (by decide) (s0_620 H) (s1_620 H) ⟨rfl, rfl, rfl⟩ rfl (gy qb2) fun q D =>
                      j_iv (pc := 128) (m := 686) (dd := 469) (a := [(0, h3 10 620 x1.toNat), (0, h3 10 620 x2.toNat)]) (rest := []) D rfl rfl rfl rfl rfl (by decide) (s0_602 H) (by decide +kernel) (fun v7 h6 e1 D =>
                        have T := fj_run_ok _ _ _ _ _ _ H.1 e1
                        have H := shp_st H T
                        j_ifeq (pc := 131) D rfl (fun q =>
                          have D : fk_D 686 [(157, none, .iconst 0, 1, 0, 0, 0), (158, none, .ireturn, 1, 0, 0, 0)] := fq_of2 cd_686 ow_686 cl_686 rfl (pc := 157) (by decide +kernel)
                          j_ic (pc := 157) D rfl fun D =>
                          j_zret D rt_686 (gy (by decide))) (fun q D =>
                          j_aldn (pc := 134) D rfl rfl rfl fun D =>
                          j_aldn (pc := 135) D rfl rfl rfl fun D =>
                          j_gfc (pc := 136) (a := 602) D rfl rfl (by decide) rfl (s0_602 H) rfl (sf_422_602 H) fun D =>
                          j_ildn (pc := 139) D rfl rfl rfl fun D =>
                          j_al (pc := 140) (a := 621) (e := 10) D rfl rfl rfl (by decide) (s0_621 H) (s1_621 H) ⟨rfl, rfl, rfl⟩ rfl (gy qb1) fun q D =>
                          j_aldn (pc := 141) D rfl rfl rfl fun D =>
                          j_gfc (pc := 142) (a := 602) D rfl rfl (by decide) rfl (s0_602 H) rfl (sf_422_602 H) fun D =>
                          j_ildn (pc := 145) D rfl rfl rfl fun D =>
                          j_al (pc := 146) (a := 621) (e := 10) D rfl rfl rfl (by decide) (s0_621 H) (s1_621 H) ⟨rfl, rfl, rfl⟩ rfl (gy qb2) fun q D =>
                          j_iv (pc := 147) (m := 686) (dd := 469) (a := [(0, h6 10 621 x1.toNat), (0, h6 10 621 x2.toNat)]) (rest := []) D rfl rfl rfl rfl rfl (by decide) (s0_602 H) (by decide +kernel) (fun v10 h9 e1 D =>
                            have T := fj_run_ok _ _ _ _ _ _ H.1 e1
                            have H := shp_st H T
                            j_ifeq (pc := 150) D rfl (fun q =>
                              have D : fk_D 686 [(157, none, .iconst 0, 1, 0, 0, 0), (158, none, .ireturn, 1, 0, 0, 0)] := fq_of2 cd_686 ow_686 cl_686 rfl (pc := 157) (by decide +kernel)
                              j_ic (pc := 157) D rfl fun D =>
                              j_zret D rt_686 (gy (by decide))) (fun q D =>
                              j_ic (pc := 153) D rfl fun D =>
                              have D : fk_D 686 [(154, none, .goto 4, 3, 158, 0, 0)] := fq_of2 cd_686 ow_686 cl_686 rfl (pc := 154) (by decide +kernel)
                              j_goto (pc := 154) D rfl <|
                              have D : fk_D 686 [(158, none, .ireturn, 1, 0, 0, 0)] := fq_of2 cd_686 ow_686 cl_686 rfl (pc := 158) (by decide +kernel)
                              j_zret D rt_686 (gy (by decide)))) (fun q11 h9 e1 =>
                            j_tx (hx_686 _)))) (fun q8 h6 e1 =>
                        j_tx (hx_686 _)))) (fun q5 h3 e1 =>
                    j_tx (hx_686 _)))) (fun q D =>
                j_ic (pc := 83) D rfl fun D =>
                j_zret D rt_686 (gy (by decide)))) (fun q =>
              have D : fk_D 686 [(83, none, .iconst 0, 1, 0, 0, 0), (84, none, .ireturn, 1, 0, 0, 0)] := fq_of2 cd_686 ow_686 cl_686 rfl (pc := 83) (by decide +kernel)
              j_ic (pc := 83) D rfl fun D =>
              j_zret D rt_686 (gy (by decide)))) (fun q =>
            have D : fk_D 686 [(83, none, .iconst 0, 1, 0, 0, 0), (84, none, .ireturn, 1, 0, 0, 0)] := fq_of2 cd_686 ow_686 cl_686 rfl (pc := 83) (by decide +kernel)
            j_ic (pc := 83) D rfl fun D =>
            j_zret D rt_686 (gy (by decide)))) (fun q =>
          have D : fk_D 686 [(83, none, .iconst 0, 1, 0, 0, 0), (84, none, .ireturn, 1, 0, 0, 0)] := fq_of2 cd_686 ow_686 cl_686 rfl (pc := 83) (by decide +kernel)
          j_ic (pc := 83) D rfl fun D =>
          j_zret D rt_686 (gy (by decide)))))
/-! 687 StatuteHouseModel.nested(IIII)I -/
theorem cd_687 : fi_code 687 = prog_69_method_205_code := rfl
theorem hx_687 : ∀ pc, fi_hat 687 pc = none := fun pc => by unfold fi_hat; rw [show fi_hh 687 = [] from rfl]; rfl
theorem rt_687 : fi_ret 687 = some .int := rfl
theorem nl_687 : fi_nl 687 = 11 := rfl
theorem ow_687 : fi_ow 687 = 29 := rfl
theorem cl_687 : fj_cutT.getD 687 [] = [(17, [0, 1, 2, 3, 4, 5, 6]), (45, [0, 1, 2, 3, 4, 5, 6, 7, 8]), (122, [0, 1, 2, 3, 4, 6, 7, 8]), (124, [0, 1, 2, 3, 4, 5, 6, 7, 8])] := rfl
theorem cut_687_17 : fj_cut 687 17 = some [0, 1, 2, 3, 4, 5, 6] := by decide +kernel
noncomputable def c_687_17 (d : Nat) (x1 x2 x3 x4 x5 x6 : Int) (h : fi_H) : fk_R := gG (fj_run d) 687 17 [(0, (4, 602)), (1, (0, x1)), (2, (0, x2)), (3, (0, x3)), (4, (0, x4)), (5, (0, x5)), (6, (0, x6))] [] h
theorem cut_687_45 : fj_cut 687 45 = some [0, 1, 2, 3, 4, 5, 6, 7, 8] := by decide +kernel
noncomputable def c_687_45 (d : Nat) (x1 x2 x3 x4 x5 x6 x7 x8 : Int) (h : fi_H) : fk_R := gG (fj_run d) 687 45 [(0, (4, 602)), (1, (0, x1)), (2, (0, x2)), (3, (0, x3)), (4, (0, x4)), (5, (0, x5)), (6, (0, x6)), (7, (0, x7)), (8, (0, x8))] [] h
theorem cut_687_122 : fj_cut 687 122 = some [0, 1, 2, 3, 4, 6, 7, 8] := by decide +kernel
noncomputable def c_687_122 (d : Nat) (x1 x2 x3 x4 x6 x7 x8 s0 : Int) (h : fi_H) : fk_R := gG (fj_run d) 687 122 [(0, (4, 602)), (1, (0, x1)), (2, (0, x2)), (3, (0, x3)), (4, (0, x4)), (6, (0, x6)), (7, (0, x7)), (8, (0, x8))] [(0, s0)] h
theorem cut_687_124 : fj_cut 687 124 = some [0, 1, 2, 3, 4, 5, 6, 7, 8] := by decide +kernel
noncomputable def c_687_124 (d : Nat) (x1 x2 x3 x4 x5 x6 x7 x8 : Int) (h : fi_H) : fk_R := gG (fj_run d) 687 124 [(0, (4, 602)), (1, (0, x1)), (2, (0, x2)), (3, (0, x3)), (4, (0, x4)), (5, (0, x5)), (6, (0, x6)), (7, (0, x7)), (8, (0, x8))] [] h
theorem e_687_17 (d : Nat) (x1 x2 x3 x4 x5 x6 : Int) {h : fi_H} (H : Shp h) : c_687_17 d x1 x2 x3 x4 x5 x6 h =
  if x6 < h 10 647 12 then
    if 0 ≤ wI (2400 + x6) ∧ wI (2400 + x6) < 3200 then
    c_687_45 d x1 x2 x3 x4 x5 x6 (h 10 646 (wI (2400 + x6)).toNat) 1 h
    else none
  else
    some (.inl (some (0, x5)), h) := by
  unfold c_687_17
  exact
    have D : fk_D 687 [(17, some [0, 1, 2, 3, 4, 5, 6], .iload 6, 2, 0, 0, 0), (19, none, .aload_n 0, 1, 0, 0, 0), (20, none, .getfield 156, 3, 455, 129, 12), (23, none, .bipush 12, 2, 0, 12, 0), (25, none, .iaload, 1, 0, 0, 0), (26, none, .if_icmp .ge 110, 3, 136, 0, 0), (29, none, .aload_n 0, 1, 0, 0, 0), (30, none, .getfield 153, 3, 454, 129, 12), (33, none, .sipush 2400, 3, 0, 2400, 0), (36, none, .iload 6, 2, 0, 0, 0), (38, none, .iadd, 1, 0, 0, 0), (39, none, .iaload, 1, 0, 0, 0), (40, none, .istore 7, 2, 0, 0, 0), (42, none, .iconst 1, 1, 0, 1, 0), (43, none, .istore 8, 2, 0, 0, 0)] := fq_of2 cd_687 ow_687 cl_687 rfl (pc := 17) (by decide +kernel)
    j_ild (pc := 17) D rfl rfl rfl fun D =>
    j_aldn (pc := 19) D rfl rfl rfl fun D =>
    j_gfc (pc := 20) (a := 602) D rfl rfl (by decide) rfl (s0_602 H) rfl (sf_455_602 H) fun D =>
    j_bp (pc := 23) D rfl fun D =>
    j_al (pc := 25) (a := 647) (e := 10) D rfl rfl rfl (by decide) (s0_647 H) (s1_647 H) ⟨rfl, rfl, rfl⟩ rfl (gy (by decide)) fun q D =>
    j_ige (pc := 26) D rfl (fun q D =>
      j_aldn (pc := 29) D rfl rfl rfl fun D =>
      j_gfc (pc := 30) (a := 602) D rfl rfl (by decide) rfl (s0_602 H) rfl (sf_454_602 H) fun D =>
      j_sp (pc := 33) D rfl fun D =>
      j_ild (pc := 36) D rfl rfl rfl fun D =>
      j_iadd (pc := 38) D rfl fun D =>
      j_al (pc := 39) (a := 646) (e := 10) D rfl rfl rfl (by decide) (s0_646 H) (s1_646 H) ⟨rfl, rfl, rfl⟩ rfl gn fun qb1 D =>
      j_ist (pc := 40) (L' := [(7, (0, h 10 646 (wI (2400 + x6)).toNat)), (0, (4, 602)), (1, (0, x1)), (2, (0, x2)), (3, (0, x3)), (4, (0, x4)), (5, (0, x5)), (6, (0, x6))]) D rfl nl_687 rfl rfl fun D =>
      j_ic (pc := 42) D rfl fun D =>
      j_ist (pc := 43) (L' := [(8, (0, 1)), (7, (0, h 10 646 (wI (2400 + x6)).toNat)), (0, (4, 602)), (1, (0, x1)), (2, (0, x2)), (3, (0, x3)), (4, (0, x4)), (5, (0, x5)), (6, (0, x6))]) D rfl nl_687 rfl rfl fun D =>
      fk_jump cut_687_45 rfl rfl) (fun q =>
      have D : fk_D 687 [(136, none, .iload 5, 2, 0, 0, 0), (138, none, .ireturn, 1, 0, 0, 0)] := fq_of2 cd_687 ow_687 cl_687 rfl (pc := 136) (by decide +kernel)
      j_ild (pc := 136) D rfl rfl rfl fun D =>
      j_iret D rt_687)
theorem e_687_45 (d : Nat) (x1 x2 x3 x4 x5 x6 x7 x8 : Int) {h : fi_H} (H : Shp h) : c_687_45 d x1 x2 x3 x4 x5 x6 x7 x8 h =
  if 0 ≤ x7 ∧ x7 < 240 then
  if h 10 638 x7.toNat < x8 then
    c_687_17 d x1 x2 x3 x4 x5 (wI (x6 + 1)) h
  else
    ca_ (fj_run d 609 h [(4, 602), (0, 12), (0, x7), (0, x8), (0, x1), (0, x2), (0, x3)]) 0
      (fun v3 h2 =>
      if v3 = (-1) then
        c_687_124 d x1 x2 x3 x4 x5 x6 x7 x8 h2
      else
        if x5 = 8 then
          c_687_124 d x1 x2 x3 x4 x5 x6 x7 x8 h2
        else
          ca_ (fj_run d 687 h2 [(4, 602), (0, x1), (0, h2 10 635 x7.toNat), (0, x8), (0, wI (x4 + 1))]) 0
            (fun v6 h5 =>
            if x5 < v6 then
              c_687_122 d x1 x2 x3 x4 x6 x7 x8 v6 h5
            else
              c_687_122 d x1 x2 x3 x4 x6 x7 x8 x5 h5)
            (fun q7 h5 => tx_ q7 h5))
      (fun q4 h2 => tx_ q4 h2)
  else none := by
  unfold c_687_45
  exact
    have D : fk_D 687 [(45, some [0, 1, 2, 3, 4, 5, 6, 7, 8], .iload 8, 2, 0, 0, 0), (47, none, .aload_n 0, 1, 0, 0, 0), (48, none, .getfield 125, 3, 443, 129, 12), (51, none, .iload 7, 2, 0, 0, 0), (53, none, .iaload, 1, 0, 0, 0), (54, none, .if_icmp .gt 76, 3, 130, 0, 0), (57, none, .aload_n 0, 1, 0, 0, 0), (58, none, .bipush 12, 2, 0, 12, 0), (60, none, .iload 7, 2, 0, 0, 0), (62, none, .iload 8, 2, 0, 0, 0), (64, none, .iload_n 1, 1, 0, 0, 0), (65, none, .iload_n 2, 1, 0, 0, 0), (66, none, .iload_n 3, 1, 0, 0, 0), (67, none, .invokevirtual 904, 3, 6, 409, 1), (70, none, .istore 9, 2, 0, 0, 0), (72, none, .iload 9, 2, 0, 0, 0), (74, none, .iconst (-1), 1, 0, (-1), 0), (75, none, .if_icmp .eq 49, 3, 124, 0, 0), (78, none, .iload 5, 2, 0, 0, 0), (80, none, .bipush 8, 2, 0, 8, 0)] := fq_of2 cd_687 ow_687 cl_687 rfl (pc := 45) (by decide +kernel)
    j_ild (pc := 45) D rfl rfl rfl fun D =>
    j_aldn (pc := 47) D rfl rfl rfl fun D =>
    j_gfc (pc := 48) (a := 602) D rfl rfl (by decide) rfl (s0_602 H) rfl (sf_443_602 H) fun D =>
    j_ild (pc := 51) D rfl rfl rfl fun D =>
    j_al (pc := 53) (a := 638) (e := 10) D rfl rfl rfl (by decide) (s0_638 H) (s1_638 H) ⟨rfl, rfl, rfl⟩ rfl gn fun qb1 D =>
    j_igt (pc := 54) D rfl (fun q =>
      have D : fk_D 687 [(130, none, .iinc 6 1, 3, 0, 1, 0), (133, none, .goto (-116), 3, 17, 0, 0)] := fq_of2 cd_687 ow_687 cl_687 rfl (pc := 130) (by decide +kernel)
      j_inc (pc := 130) (L' := [(6, (0, wI (x6 + 1))), (0, (4, 602)), (1, (0, x1)), (2, (0, x2)), (3, (0, x3)), (4, (0, x4)), (5, (0, x5)), (7, (0, x7)), (8, (0, x8))]) D rfl rfl rfl (by decide +kernel) rfl fun D =>
      j_goto (pc := 133) D rfl <|
      fk_jump cut_687_17 rfl rfl) (fun q D =>
      j_aldn (pc := 57) D rfl rfl rfl fun D =>
      j_bp (pc := 58) D rfl fun D =>
      j_ild (pc := 60) D rfl rfl rfl fun D =>
      j_ild (pc := 62) D rfl rfl rfl fun D =>
      j_ildn (pc := 64) D rfl rfl rfl fun D =>
      j_ildn (pc := 65) D rfl rfl rfl fun D =>
      j_ildn (pc := 66) D rfl rfl rfl fun D =>
      j_iv (pc := 67) (m := 609) (dd := 409) (a := [(0, 12), (0, x7), (0, x8), (0, x1), (0, x2), (0, x3)]) (rest := []) D rfl rfl rfl rfl rfl (by decide) (s0_602 H) (by decide +kernel) (fun v3 h2 e1 D =>
        have T := fj_run_ok _ _ _ _ _ _ H.1 e1
        have H := shp_st H T
        j_ist (pc := 70) (L' := [(9, (0, v3)), (0, (4, 602)), (1, (0, x1)), (2, (0, x2)), (3, (0, x3)), (4, (0, x4)), (5, (0, x5)), (6, (0, x6)), (7, (0, x7)), (8, (0, x8))]) D rfl nl_687 rfl rfl fun D =>
        j_ild (pc := 72) D rfl rfl rfl fun D =>
        j_ic (pc := 74) D rfl fun D =>
        j_ieq (pc := 75) D rfl (fun q =>
          fk_jump cut_687_124 rfl rfl) (fun q D =>
          j_ild (pc := 78) D rfl rfl rfl fun D =>
          j_bp (pc := 80) D rfl fun D =>
          have D : fk_D 687 [(82, none, .if_icmp .ne 6, 3, 88, 0, 0), (85, none, .goto 39, 3, 124, 0, 0)] := fq_of2 cd_687 ow_687 cl_687 rfl (pc := 82) (by decide +kernel)
          j_ine (pc := 82) D rfl (fun q D =>
            j_goto (pc := 85) D rfl <|
            fk_jump cut_687_124 rfl rfl) (fun q =>
            have D : fk_D 687 [(88, none, .aload_n 0, 1, 0, 0, 0), (89, none, .iload_n 1, 1, 0, 0, 0), (90, none, .aload_n 0, 1, 0, 0, 0), (91, none, .getfield 116, 3, 440, 129, 12), (94, none, .iload 7, 2, 0, 0, 0), (96, none, .iaload, 1, 0, 0, 0), (97, none, .iload 8, 2, 0, 0, 0), (99, none, .iload 4, 2, 0, 0, 0), (101, none, .iconst 1, 1, 0, 1, 0), (102, none, .iadd, 1, 0, 0, 0), (103, none, .invokevirtual 1256, 3, 4, 472, 1), (106, none, .istore 10, 2, 0, 0, 0), (108, none, .iload 10, 2, 0, 0, 0), (110, none, .iload 5, 2, 0, 0, 0), (112, none, .if_icmp .le 8, 3, 120, 0, 0), (115, none, .iload 10, 2, 0, 0, 0), (117, none, .goto 5, 3, 122, 0, 0)] := fq_of2 cd_687 ow_687 cl_687 rfl (pc := 88) (by decide +kernel)
            j_aldn (pc := 88) D rfl rfl rfl fun D =>
            j_ildn (pc := 89) D rfl rfl rfl fun D =>
            j_aldn (pc := 90) D rfl rfl rfl fun D =>
            j_gfc (pc := 91) (a := 602) D rfl rfl (by decide) rfl (s0_602 H) rfl (sf_440_602 H) fun D =>
            j_ild (pc := 94) D rfl rfl rfl fun D =>
            j_al (pc := 96) (a := 635) (e := 10) D rfl rfl rfl (by decide) (s0_635 H) (s1_635 H) ⟨rfl, rfl, rfl⟩ rfl (gy qb1) fun q D =>
            j_ild (pc := 97) D rfl rfl rfl fun D =>
            j_ild (pc := 99) D rfl rfl rfl fun D =>
            j_ic (pc := 101) D rfl fun D =>
            j_iadd (pc := 102) D rfl fun D =>
            j_iv (pc := 103) (m := 687) (dd := 472) (a := [(0, x1), (0, h2 10 635 x7.toNat), (0, x8), (0, wI (x4 + 1))]) (rest := []) D rfl rfl rfl rfl rfl (by decide) (s0_602 H) (by decide +kernel) (fun v6 h5 e1 D =>
              have T := fj_run_ok _ _ _ _ _ _ H.1 e1
              have H := shp_st H T
              j_ist (pc := 106) (L' := [(10, (0, v6)), (9, (0, v3)), (0, (4, 602)), (1, (0, x1)), (2, (0, x2)), (3, (0, x3)), (4, (0, x4)), (5, (0, x5)), (6, (0, x6)), (7, (0, x7)), (8, (0, x8))]) D rfl nl_687 rfl rfl fun D =>
              j_ild (pc := 108) D rfl rfl rfl fun D =>
              j_ild (pc := 110) D rfl rfl rfl fun D =>
              j_ile (pc := 112) D rfl (fun q D =>
                j_ild (pc := 115) D rfl rfl rfl fun D =>
                j_goto (pc := 117) D rfl <|
                fk_jump cut_687_122 rfl rfl) (fun q =>
                have D : fk_D 687 [(120, none, .iload 5, 2, 0, 0, 0)] := fq_of2 cd_687 ow_687 cl_687 rfl (pc := 120) (by decide +kernel)
                j_ild (pc := 120) D rfl rfl rfl fun D =>
                fk_jump cut_687_122 rfl rfl)) (fun q7 h5 e1 =>
              j_tx (hx_687 _))))) (fun q4 h2 e1 =>
        j_tx (hx_687 _)))
theorem e_687_122 (d : Nat) (x1 x2 x3 x4 x6 x7 x8 s0 : Int) {h : fi_H} (H : Shp h) : c_687_122 d x1 x2 x3 x4 x6 x7 x8 s0 h =
  c_687_124 d x1 x2 x3 x4 s0 x6 x7 x8 h := by
  unfold c_687_122
  exact
    have D : fk_D 687 [(122, some [0, 1, 2, 3, 4, 6, 7, 8], .istore 5, 2, 0, 0, 0)] := fq_of2 cd_687 ow_687 cl_687 rfl (pc := 122) (by decide +kernel)
    j_ist (pc := 122) (L' := [(5, (0, s0)), (0, (4, 602)), (1, (0, x1)), (2, (0, x2)), (3, (0, x3)), (4, (0, x4)), (6, (0, x6)), (7, (0, x7)), (8, (0, x8))]) D rfl nl_687 rfl rfl fun D =>
    fk_jump cut_687_124 rfl rfl
theorem e_687_124 (d : Nat) (x1 x2 x3 x4 x5 x6 x7 x8 : Int) {h : fi_H} (H : Shp h) : c_687_124 d x1 x2 x3 x4 x5 x6 x7 x8 h =
  c_687_45 d x1 x2 x3 x4 x5 x6 x7 (wI (x8 + 1)) h := by
  unfold c_687_124
  exact
    have D : fk_D 687 [(124, some [0, 1, 2, 3, 4, 5, 6, 7, 8], .iinc 8 1, 3, 0, 1, 0), (127, none, .goto (-82), 3, 45, 0, 0)] := fq_of2 cd_687 ow_687 cl_687 rfl (pc := 124) (by decide +kernel)
    j_inc (pc := 124) (L' := [(8, (0, wI (x8 + 1))), (0, (4, 602)), (1, (0, x1)), (2, (0, x2)), (3, (0, x3)), (4, (0, x4)), (5, (0, x5)), (6, (0, x6)), (7, (0, x7))]) D rfl rfl rfl (by decide +kernel) rfl fun D =>
    j_goto (pc := 127) D rfl <|
    fk_jump cut_687_45 rfl rfl
theorem m_687 (d : Nat) (x1 x2 x3 x4 : Int) {h : fi_H} (H : Shp h) : fj_run (d + 1) 687 h [(4, 602), (0, x1), (0, x2), (0, x3), (0, x4)] =
  if x4 = 8 then
    some (.inl (some (0, 8)), h)
  else
    c_687_17 d x1 x2 x3 x4 x4 0 h := by
  rw [fj_run_eq d (by decide) h [(4, 602), (0, x1), (0, x2), (0, x3), (0, x4)] (Nat.le_of_ble_eq_true (by rw [nl_687]; rfl))]
  show gG (fj_run d) 687 0 [(0, (4, 602)), (1, (0, x1)), (2, (0, x2)), (3, (0, x3)), (4, (0, x4))] [] h = _
  exact
    have D : fk_D 687 [(0, none, .iload 4, 2, 0, 0, 0), (2, none, .bipush 8, 2, 0, 8, 0), (4, none, .if_icmp .ne 6, 3, 10, 0, 0), (7, none, .bipush 8, 2, 0, 8, 0), (9, none, .ireturn, 1, 0, 0, 0)] := fq_of2 cd_687 ow_687 cl_687 rfl (pc := 0) (by decide +kernel)
    j_ild (pc := 0) D rfl rfl rfl fun D =>
    j_bp (pc := 2) D rfl fun D =>
    j_ine (pc := 4) D rfl (fun q D =>
      j_bp (pc := 7) D rfl fun D =>
      j_iret D rt_687) (fun q =>
      have D : fk_D 687 [(10, none, .iload 4, 2, 0, 0, 0), (12, none, .istore 5, 2, 0, 0, 0), (14, none, .iconst 0, 1, 0, 0, 0), (15, none, .istore 6, 2, 0, 0, 0)] := fq_of2 cd_687 ow_687 cl_687 rfl (pc := 10) (by decide +kernel)
      j_ild (pc := 10) D rfl rfl rfl fun D =>
      j_ist (pc := 12) (L' := [(5, (0, x4)), (0, (4, 602)), (1, (0, x1)), (2, (0, x2)), (3, (0, x3)), (4, (0, x4))]) D rfl nl_687 rfl rfl fun D =>
      j_ic (pc := 14) D rfl fun D =>
      j_ist (pc := 15) (L' := [(6, (0, 0)), (5, (0, x4)), (0, (4, 602)), (1, (0, x1)), (2, (0, x2)), (3, (0, x3)), (4, (0, x4))]) D rfl nl_687 rfl rfl fun D =>
      fk_jump cut_687_17 rfl rfl)
/-! 688 StatuteHouseModel.held(IIII)I -/
theorem cd_688 : fi_code 688 = prog_69_method_206_code := rfl
theorem hx_688 : ∀ pc, fi_hat 688 pc = none := fun pc => by unfold fi_hat; rw [show fi_hh 688 = [] from rfl]; rfl
theorem rt_688 : fi_ret 688 = some .int := rfl
theorem nl_688 : fi_nl 688 = 11 := rfl
theorem ow_688 : fi_ow 688 = 29 := rfl
theorem cl_688 : fj_cutT.getD 688 [] = [(6, [0, 1, 2, 3, 4, 5, 6]), (40, [0, 1, 2, 3, 4, 5, 6, 7, 8]), (143, [0, 1, 2, 3, 4, 6, 7, 8]), (148, [0, 1, 2, 3, 4, 6, 7, 8]), (151, [0, 1, 2, 3, 4, 5, 6, 7, 8]), (157, [0, 1, 2, 3, 4, 5, 6])] := rfl
theorem cut_688_6 : fj_cut 688 6 = some [0, 1, 2, 3, 4, 5, 6] := by decide +kernel
noncomputable def c_688_6 (d : Nat) (x1 x2 x3 x4 x5 x6 : Int) (h : fi_H) : fk_R := gG (fj_run d) 688 6 [(0, (4, 602)), (1, (0, x1)), (2, (0, x2)), (3, (0, x3)), (4, (0, x4)), (5, (0, x5)), (6, (0, x6))] [] h
theorem cut_688_40 : fj_cut 688 40 = some [0, 1, 2, 3, 4, 5, 6, 7, 8] := by decide +kernel
noncomputable def c_688_40 (d : Nat) (x1 x2 x3 x4 x5 x6 x7 x8 : Int) (h : fi_H) : fk_R := gG (fj_run d) 688 40 [(0, (4, 602)), (1, (0, x1)), (2, (0, x2)), (3, (0, x3)), (4, (0, x4)), (5, (0, x5)), (6, (0, x6)), (7, (0, x7)), (8, (0, x8))] [] h
theorem cut_688_143 : fj_cut 688 143 = some [0, 1, 2, 3, 4, 6, 7, 8] := by decide +kernel
noncomputable def c_688_143 (d : Nat) (x1 x2 x3 x4 x6 x7 x8 s0 : Int) (h : fi_H) : fk_R := gG (fj_run d) 688 143 [(0, (4, 602)), (1, (0, x1)), (2, (0, x2)), (3, (0, x3)), (4, (0, x4)), (6, (0, x6)), (7, (0, x7)), (8, (0, x8))] [(0, s0)] h
theorem cut_688_148 : fj_cut 688 148 = some [0, 1, 2, 3, 4, 6, 7, 8] := by decide +kernel
noncomputable def c_688_148 (d : Nat) (x1 x2 x3 x4 x6 x7 x8 s0 s1 : Int) (h : fi_H) : fk_R := gG (fj_run d) 688 148 [(0, (4, 602)), (1, (0, x1)), (2, (0, x2)), (3, (0, x3)), (4, (0, x4)), (6, (0, x6)), (7, (0, x7)), (8, (0, x8))] [(0, s1), (0, s0)] h
theorem cut_688_151 : fj_cut 688 151 = some [0, 1, 2, 3, 4, 5, 6, 7, 8] := by decide +kernel
noncomputable def c_688_151 (d : Nat) (x1 x2 x3 x4 x5 x6 x7 x8 : Int) (h : fi_H) : fk_R := gG (fj_run d) 688 151 [(0, (4, 602)), (1, (0, x1)), (2, (0, x2)), (3, (0, x3)), (4, (0, x4)), (5, (0, x5)), (6, (0, x6)), (7, (0, x7)), (8, (0, x8))] [] h
theorem cut_688_157 : fj_cut 688 157 = some [0, 1, 2, 3, 4, 5, 6] := by decide +kernel
noncomputable def c_688_157 (d : Nat) (x1 x2 x3 x4 x5 x6 : Int) (h : fi_H) : fk_R := gG (fj_run d) 688 157 [(0, (4, 602)), (1, (0, x1)), (2, (0, x2)), (3, (0, x3)), (4, (0, x4)), (5, (0, x5)), (6, (0, x6))] [] h
theorem e_688_6 (d : Nat) (x1 x2 x3 x4 x5 x6 : Int) {h : fi_H} (H : Shp h) : c_688_6 d x1 x2 x3 x4 x5 x6 h =
  if x6 < h 10 647 12 then
    if x5 < 2 then
      if 0 ≤ wI (2400 + x6) ∧ wI (2400 + x6) < 3200 then
      c_688_40 d x1 x2 x3 x4 x5 x6 (h 10 646 (wI (2400 + x6)).toNat) 1 h
      else none
    else
      some (.inl (some (0, x5)), h)
  else
    some (.inl (some (0, x5)), h) := by
  unfold c_688_6
  exact
    have D : fk_D 688 [(6, some [0, 1, 2, 3, 4, 5, 6], .iload 6, 2, 0, 0, 0), (8, none, .aload_n 0, 1, 0, 0, 0), (9, none, .getfield 156, 3, 455, 129, 12), (12, none, .bipush 12, 2, 0, 12, 0), (14, none, .iaload, 1, 0, 0, 0), (15, none, .if_icmp .ge 148, 3, 163, 0, 0), (18, none, .iload 5, 2, 0, 0, 0), (20, none, .iconst 2, 1, 0, 2, 0), (21, none, .if_icmp .ge 142, 3, 163, 0, 0), (24, none, .aload_n 0, 1, 0, 0, 0), (25, none, .getfield 153, 3, 454, 129, 12), (28, none, .sipush 2400, 3, 0, 2400, 0), (31, none, .iload 6, 2, 0, 0, 0), (33, none, .iadd, 1, 0, 0, 0), (34, none, .iaload, 1, 0, 0, 0), (35, none, .istore 7, 2, 0, 0, 0), (37, none, .iconst 1, 1, 0, 1, 0), (38, none, .istore 8, 2, 0, 0, 0)] := fq_of2 cd_688 ow_688 cl_688 rfl (pc := 6) (by decide +kernel)
    j_ild (pc := 6) D rfl rfl rfl fun D =>
    j_aldn (pc := 8) D rfl rfl rfl fun D =>
    j_gfc (pc := 9) (a := 602) D rfl rfl (by decide) rfl (s0_602 H) rfl (sf_455_602 H) fun D =>
    j_bp (pc := 12) D rfl fun D =>
    j_al (pc := 14) (a := 647) (e := 10) D rfl rfl rfl (by decide) (s0_647 H) (s1_647 H) ⟨rfl, rfl, rfl⟩ rfl (gy (by decide)) fun q D =>
    j_ige (pc := 15) D rfl (fun q D =>
      j_ild (pc := 18) D rfl rfl rfl fun D =>
      j_ic (pc := 20) D rfl fun D =>
      j_ige (pc := 21) D rfl (fun q D =>
        j_aldn (pc := 24) D rfl rfl rfl fun D =>
        j_gfc (pc := 25) (a := 602) D rfl rfl (by decide) rfl (s0_602 H) rfl (sf_454_602 H) fun D =>
        j_sp (pc := 28) D rfl fun D =>
        j_ild (pc := 31) D rfl rfl rfl fun D =>
        j_iadd (pc := 33) D rfl fun D =>
        j_al (pc := 34) (a := 646) (e := 10) D rfl rfl rfl (by decide) (s0_646 H) (s1_646 H) ⟨rfl, rfl, rfl⟩ rfl gn fun qb1 D =>
        j_ist (pc := 35) (L' := [(7, (0, h 10 646 (wI (2400 + x6)).toNat)), (0, (4, 602)), (1, (0, x1)), (2, (0, x2)), (3, (0, x3)), (4, (0, x4)), (5, (0, x5)), (6, (0, x6))]) D rfl nl_688 rfl rfl fun D =>
        j_ic (pc := 37) D rfl fun D =>
        j_ist (pc := 38) (L' := [(8, (0, 1)), (7, (0, h 10 646 (wI (2400 + x6)).toNat)), (0, (4, 602)), (1, (0, x1)), (2, (0, x2)), (3, (0, x3)), (4, (0, x4)), (5, (0, x5)), (6, (0, x6))]) D rfl nl_688 rfl rfl fun D =>
        fk_jump cut_688_40 rfl rfl) (fun q =>
        have D : fk_D 688 [(163, none, .iload 5, 2, 0, 0, 0), (165, none, .ireturn, 1, 0, 0, 0)] := fq_of2 cd_688 ow_688 cl_688 rfl (pc := 163) (by decide +kernel)
        j_ild (pc := 163) D rfl rfl rfl fun D =>
        j_iret D rt_688)) (fun q =>
      have D : fk_D 688 [(163, none, .iload 5, 2, 0, 0, 0), (165, none, .ireturn, 1, 0, 0, 0)] := fq_of2 cd_688 ow_688 cl_688 rfl (pc := 163) (by decide +kernel)
      j_ild (pc := 163) D rfl rfl rfl fun D =>
      j_iret D rt_688)
theorem e_688_40 (d : Nat) (x1 x2 x3 x4 x5 x6 x7 x8 : Int) {h : fi_H} (H : Shp h) : c_688_40 d x1 x2 x3 x4 x5 x6 x7 x8 h =
  if 0 ≤ x7 ∧ x7 < 240 then
  if h 10 638 x7.toNat < x8 then
    c_688_157 d x1 x2 x3 x4 x5 x6 h
  else
    if x5 < 2 then
      ca_ (fj_run d 609 h [(4, 602), (0, 12), (0, x7), (0, x8), (0, x1), (0, x2), (0, x3)]) 0
        (fun v3 h2 =>
        if v3 = (-1) then
          c_688_151 d x1 x2 x3 x4 x5 x6 x7 x8 h2
        else
          ca_ (fj_run d 688 h2 [(4, 602), (0, x1), (0, h2 10 635 x7.toNat), (0, x8), (0, x4)]) 0
            (fun v6 h5 =>
            if v6 = 2 then
              some (.inl (some (0, 2)), h5)
            else
              if v6 = 1 then
                c_688_143 d x1 x2 x3 x4 x6 x7 x8 x5 h5
              else
                if 0 ≤ v3 ∧ v3 < 560 then
                if h5 10 627 v3.toNat = (-1) then
                  c_688_143 d x1 x2 x3 x4 x6 x7 x8 x5 h5
                else
                  ca_ (fj_run d 689 h5 [(4, 602), (0, h5 10 627 v3.toNat), (0, x4)]) 0
                    (fun v10 h9 =>
                    if v10 = 0 then
                      c_688_148 d x1 x2 x3 x4 x6 x7 x8 x5 0 h9
                    else
                      c_688_143 d x1 x2 x3 x4 x6 x7 x8 x5 h9)
                    (fun q11 h9 => tx_ q11 h9)
                else none)
            (fun q7 h5 => tx_ q7 h5))
        (fun q4 h2 => tx_ q4 h2)
    else
      c_688_157 d x1 x2 x3 x4 x5 x6 h
  else none := by
  unfold c_688_40
  exact
    have D : fk_D 688 [(40, some [0, 1, 2, 3, 4, 5, 6, 7, 8], .iload 8, 2, 0, 0, 0), (42, none, .aload_n 0, 1, 0, 0, 0), (43, none, .getfield 125, 3, 443, 129, 12), (46, none, .iload 7, 2, 0, 0, 0), (48, none, .iaload, 1, 0, 0, 0), (49, none, .if_icmp .gt 108, 3, 157, 0, 0), (52, none, .iload 5, 2, 0, 0, 0), (54, none, .iconst 2, 1, 0, 2, 0), (55, none, .if_icmp .ge 102, 3, 157, 0, 0), (58, none, .aload_n 0, 1, 0, 0, 0), (59, none, .bipush 12, 2, 0, 12, 0), (61, none, .iload 7, 2, 0, 0, 0), (63, none, .iload 8, 2, 0, 0, 0), (65, none, .iload_n 1, 1, 0, 0, 0), (66, none, .iload_n 2, 1, 0, 0, 0), (67, none, .iload_n 3, 1, 0, 0, 0), (68, none, .invokevirtual 904, 3, 6, 409, 1), (71, none, .istore 9, 2, 0, 0, 0), (73, none, .iload 9, 2, 0, 0, 0), (75, none, .iconst (-1), 1, 0, (-1), 0)] := fq_of2 cd_688 ow_688 cl_688 rfl (pc := 40) (by decide +kernel)
    j_ild (pc := 40) D rfl rfl rfl fun D =>
    j_aldn (pc := 42) D rfl rfl rfl fun D =>
    j_gfc (pc := 43) (a := 602) D rfl rfl (by decide) rfl (s0_602 H) rfl (sf_443_602 H) fun D =>
    j_ild (pc := 46) D rfl rfl rfl fun D =>
    j_al (pc := 48) (a := 638) (e := 10) D rfl rfl rfl (by decide) (s0_638 H) (s1_638 H) ⟨rfl, rfl, rfl⟩ rfl gn fun qb1 D =>
    j_igt (pc := 49) D rfl (fun q =>
      fk_jump cut_688_157 rfl rfl) (fun q D =>
      j_ild (pc := 52) D rfl rfl rfl fun D =>
      j_ic (pc := 54) D rfl fun D =>
      j_ige (pc := 55) D rfl (fun q D =>
        j_aldn (pc := 58) D rfl rfl rfl fun D =>
        j_bp (pc := 59) D rfl fun D =>
        j_ild (pc := 61) D rfl rfl rfl fun D =>
        j_ild (pc := 63) D rfl rfl rfl fun D =>
        j_ildn (pc := 65) D rfl rfl rfl fun D =>
        j_ildn (pc := 66) D rfl rfl rfl fun D =>
        j_ildn (pc := 67) D rfl rfl rfl fun D =>
        j_iv (pc := 68) (m := 609) (dd := 409) (a := [(0, 12), (0, x7), (0, x8), (0, x1), (0, x2), (0, x3)]) (rest := []) D rfl rfl rfl rfl rfl (by decide) (s0_602 H) (by decide +kernel) (fun v3 h2 e1 D =>
          have T := fj_run_ok _ _ _ _ _ _ H.1 e1
          have H := shp_st H T
          j_ist (pc := 71) (L' := [(9, (0, v3)), (0, (4, 602)), (1, (0, x1)), (2, (0, x2)), (3, (0, x3)), (4, (0, x4)), (5, (0, x5)), (6, (0, x6)), (7, (0, x7)), (8, (0, x8))]) D rfl nl_688 rfl rfl fun D =>
          j_ild (pc := 73) D rfl rfl rfl fun D =>
          j_ic (pc := 75) D rfl fun D =>
          have D : fk_D 688 [(76, none, .if_icmp .ne 6, 3, 82, 0, 0), (79, none, .goto 72, 3, 151, 0, 0)] := fq_of2 cd_688 ow_688 cl_688 rfl (pc := 76) (by decide +kernel)
          j_ine (pc := 76) D rfl (fun q D =>
            j_goto (pc := 79) D rfl <|
            fk_jump cut_688_151 rfl rfl) (fun q =>
            have D : fk_D 688 [(82, none, .aload_n 0, 1, 0, 0, 0), (83, none, .iload_n 1, 1, 0, 0, 0), (84, none, .aload_n 0, 1, 0, 0, 0), (85, none, .getfield 116, 3, 440, 129, 12), (88, none, .iload 7, 2, 0, 0, 0), (90, none, .iaload, 1, 0, 0, 0), (91, none, .iload 8, 2, 0, 0, 0), (93, none, .iload 4, 2, 0, 0, 0), (95, none, .invokevirtual 1259, 3, 4, 473, 1), (98, none, .istore 10, 2, 0, 0, 0), (100, none, .iload 10, 2, 0, 0, 0), (102, none, .iconst 2, 1, 0, 2, 0), (103, none, .if_icmp .ne 5, 3, 108, 0, 0), (106, none, .iconst 2, 1, 0, 2, 0), (107, none, .ireturn, 1, 0, 0, 0)] := fq_of2 cd_688 ow_688 cl_688 rfl (pc := 82) (by decide +kernel)
            j_aldn (pc := 82) D rfl rfl rfl fun D =>
            j_ildn (pc := 83) D rfl rfl rfl fun D =>
            j_aldn (pc := 84) D rfl rfl rfl fun D =>
            j_gfc (pc := 85) (a := 602) D rfl rfl (by decide) rfl (s0_602 H) rfl (sf_440_602 H) fun D =>
            j_ild (pc := 88) D rfl rfl rfl fun D =>
            j_al (pc := 90) (a := 635) (e := 10) D rfl rfl rfl (by decide) (s0_635 H) (s1_635 H) ⟨rfl, rfl, rfl⟩ rfl (gy qb1) fun q D =>
            j_ild (pc := 91) D rfl rfl rfl fun D =>
            j_ild (pc := 93) D rfl rfl rfl fun D =>
            j_iv (pc := 95) (m := 688) (dd := 473) (a := [(0, x1), (0, h2 10 635 x7.toNat), (0, x8), (0, x4)]) (rest := []) D rfl rfl rfl rfl rfl (by decide) (s0_602 H) (by decide +kernel) (fun v6 h5 e1 D =>
              have T := fj_run_ok _ _ _ _ _ _ H.1 e1
              have H := shp_st H T
              j_ist (pc := 98) (L' := [(10, (0, v6)), (9, (0, v3)), (0, (4, 602)), (1, (0, x1)), (2, (0, x2)), (3, (0, x3)), (4, (0, x4)), (5, (0, x5)), (6, (0, x6)), (7, (0, x7)), (8, (0, x8))]) D rfl nl_688 rfl rfl fun D =>
              j_ild (pc := 100) D rfl rfl rfl fun D =>
              j_ic (pc := 102) D rfl fun D =>
              j_ine (pc := 103) D rfl (fun q D =>
                j_ic (pc := 106) D rfl fun D =>
                j_iret D rt_688) (fun q =>
                have D : fk_D 688 [(108, none, .iload 5, 2, 0, 0, 0), (110, none, .iload 10, 2, 0, 0, 0), (112, none, .iconst 1, 1, 0, 1, 0), (113, none, .if_icmp .eq 30, 3, 143, 0, 0), (116, none, .aload_n 0, 1, 0, 0, 0), (117, none, .getfield 92, 3, 430, 129, 12), (120, none, .iload 9, 2, 0, 0, 0), (122, none, .iaload, 1, 0, 0, 0), (123, none, .iconst (-1), 1, 0, (-1), 0), (124, none, .if_icmp .eq 19, 3, 143, 0, 0), (127, none, .aload_n 0, 1, 0, 0, 0), (128, none, .aload_n 0, 1, 0, 0, 0), (129, none, .getfield 92, 3, 430, 129, 12), (132, none, .iload 9, 2, 0, 0, 0), (134, none, .iaload, 1, 0, 0, 0), (135, none, .iload 4, 2, 0, 0, 0), (137, none, .invokevirtual 1253, 3, 2, 471, 1), (140, none, .ifCond .eq 7, 3, 147, 0, 0)] := fq_of2 cd_688 ow_688 cl_688 rfl (pc := 108) (by decide +kernel)
                j_ild (pc := 108) D rfl rfl rfl fun D =>
                j_ild (pc := 110) D rfl rfl rfl fun D =>
                j_ic (pc := 112) D rfl fun D =>
                j_ieq (pc := 113) D rfl (fun q =>
                  fk_jump cut_688_143 rfl rfl) (fun q D =>
                  j_aldn (pc := 116) D rfl rfl rfl fun D =>
                  j_gfc (pc := 117) (a := 602) D rfl rfl (by decide) rfl (s0_602 H) rfl (sf_430_602 H) fun D =>
                  j_ild (pc := 120) D rfl rfl rfl fun D =>
                  j_al (pc := 122) (a := 627) (e := 10) D rfl rfl rfl (by decide) (s0_627 H) (s1_627 H) ⟨rfl, rfl, rfl⟩ rfl gn fun qb8 D =>
                  j_ic (pc := 123) D rfl fun D =>
                  j_ieq (pc := 124) D rfl (fun q =>
                    fk_jump cut_688_143 rfl rfl) (fun q D =>
                    j_aldn (pc := 127) D rfl rfl rfl fun D =>
                    j_aldn (pc := 128) D rfl rfl rfl fun D =>
                    j_gfc (pc := 129) (a := 602) D rfl rfl (by decide) rfl (s0_602 H) rfl (sf_430_602 H) fun D =>
                    j_ild (pc := 132) D rfl rfl rfl fun D =>
                    j_al (pc := 134) (a := 627) (e := 10) D rfl rfl rfl (by decide) (s0_627 H) (s1_627 H) ⟨rfl, rfl, rfl⟩ rfl (gy qb8) fun q D =>
                    j_ild (pc := 135) D rfl rfl rfl fun D =>
                    j_iv (pc := 137) (m := 689) (dd := 471) (a := [(0, h5 10 627 v3.toNat), (0, x4)]) (rest := [(0, x5)]) D rfl rfl rfl rfl rfl (by decide) (s0_602 H) (by decide +kernel) (fun v10 h9 e1 D =>
                      have T := fj_run_ok _ _ _ _ _ _ H.1 e1
                      have H := shp_st H T
                      j_ifeq (pc := 140) D rfl (fun q =>
                        have D : fk_D 688 [(147, none, .iconst 0, 1, 0, 0, 0)] := fq_of2 cd_688 ow_688 cl_688 rfl (pc := 147) (by decide +kernel)
                        j_ic (pc := 147) D rfl fun D =>
                        fk_jump cut_688_148 rfl rfl) (fun q D =>
                        fk_jump cut_688_143 rfl rfl)) (fun q11 h9 e1 =>
                      j_tx (hx_688 _)))))) (fun q7 h5 e1 =>
              j_tx (hx_688 _)))) (fun q4 h2 e1 =>
          j_tx (hx_688 _))) (fun q =>
        fk_jump cut_688_157 rfl rfl))
theorem e_688_143 (d : Nat) (x1 x2 x3 x4 x6 x7 x8 s0 : Int) {h : fi_H} (H : Shp h) : c_688_143 d x1 x2 x3 x4 x6 x7 x8 s0 h =
  c_688_148 d x1 x2 x3 x4 x6 x7 x8 s0 1 h := by
  unfold c_688_143
  exact
    have D : fk_D 688 [(143, some [0, 1, 2, 3, 4, 6, 7, 8], .iconst 1, 1, 0, 1, 0), (144, none, .goto 4, 3, 148, 0, 0)] := fq_of2 cd_688 ow_688 cl_688 rfl (pc := 143) (by decide +kernel)
    j_ic (pc := 143) D rfl fun D =>
    j_goto (pc := 144) D rfl <|
    fk_jump cut_688_148 rfl rfl
theorem e_688_148 (d : Nat) (x1 x2 x3 x4 x6 x7 x8 s0 s1 : Int) {h : fi_H} (H : Shp h) : c_688_148 d x1 x2 x3 x4 x6 x7 x8 s0 s1 h =
  c_688_151 d x1 x2 x3 x4 (wI (s0 + s1)) x6 x7 x8 h := by
  unfold c_688_148
  exact
    have D : fk_D 688 [(148, some [0, 1, 2, 3, 4, 6, 7, 8], .iadd, 1, 0, 0, 0), (149, none, .istore 5, 2, 0, 0, 0)] := fq_of2 cd_688 ow_688 cl_688 rfl (pc := 148) (by decide +kernel)
    j_iadd (pc := 148) D rfl fun D =>
    j_ist (pc := 149) (L' := [(5, (0, wI (s0 + s1))), (0, (4, 602)), (1, (0, x1)), (2, (0, x2)), (3, (0, x3)), (4, (0, x4)), (6, (0, x6)), (7, (0, x7)), (8, (0, x8))]) D rfl nl_688 rfl rfl fun D =>
    fk_jump cut_688_151 rfl rfl
theorem e_688_151 (d : Nat) (x1 x2 x3 x4 x5 x6 x7 x8 : Int) {h : fi_H} (H : Shp h) : c_688_151 d x1 x2 x3 x4 x5 x6 x7 x8 h =
  c_688_40 d x1 x2 x3 x4 x5 x6 x7 (wI (x8 + 1)) h := by
  unfold c_688_151
  exact
    have D : fk_D 688 [(151, some [0, 1, 2, 3, 4, 5, 6, 7, 8], .iinc 8 1, 3, 0, 1, 0), (154, none, .goto (-114), 3, 40, 0, 0)] := fq_of2 cd_688 ow_688 cl_688 rfl (pc := 151) (by decide +kernel)
    j_inc (pc := 151) (L' := [(8, (0, wI (x8 + 1))), (0, (4, 602)), (1, (0, x1)), (2, (0, x2)), (3, (0, x3)), (4, (0, x4)), (5, (0, x5)), (6, (0, x6)), (7, (0, x7))]) D rfl rfl rfl (by decide +kernel) rfl fun D =>
    j_goto (pc := 154) D rfl <|
    fk_jump cut_688_40 rfl rfl
theorem e_688_157 (d : Nat) (x1 x2 x3 x4 x5 x6 : Int) {h : fi_H} (H : Shp h) : c_688_157 d x1 x2 x3 x4 x5 x6 h =
  c_688_6 d x1 x2 x3 x4 x5 (wI (x6 + 1)) h := by
  unfold c_688_157
  exact
    have D : fk_D 688 [(157, some [0, 1, 2, 3, 4, 5, 6], .iinc 6 1, 3, 0, 1, 0), (160, none, .goto (-154), 3, 6, 0, 0)] := fq_of2 cd_688 ow_688 cl_688 rfl (pc := 157) (by decide +kernel)
    j_inc (pc := 157) (L' := [(6, (0, wI (x6 + 1))), (0, (4, 602)), (1, (0, x1)), (2, (0, x2)), (3, (0, x3)), (4, (0, x4)), (5, (0, x5))]) D rfl rfl rfl (by decide +kernel) rfl fun D =>
    j_goto (pc := 160) D rfl <|
    fk_jump cut_688_6 rfl rfl
theorem m_688 (d : Nat) (x1 x2 x3 x4 : Int) {h : fi_H} (H : Shp h) : fj_run (d + 1) 688 h [(4, 602), (0, x1), (0, x2), (0, x3), (0, x4)] =
  c_688_6 d x1 x2 x3 x4 0 0 h := by
  rw [fj_run_eq d (by decide) h [(4, 602), (0, x1), (0, x2), (0, x3), (0, x4)] (Nat.le_of_ble_eq_true (by rw [nl_688]; rfl))]
  show gG (fj_run d) 688 0 [(0, (4, 602)), (1, (0, x1)), (2, (0, x2)), (3, (0, x3)), (4, (0, x4))] [] h = _
  exact
    have D : fk_D 688 [(0, none, .iconst 0, 1, 0, 0, 0), (1, none, .istore 5, 2, 0, 0, 0), (3, none, .iconst 0, 1, 0, 0, 0), (4, none, .istore 6, 2, 0, 0, 0)] := fq_of2 cd_688 ow_688 cl_688 rfl (pc := 0) (by decide +kernel)
    j_ic (pc := 0) D rfl fun D =>
    j_ist (pc := 1) (L' := [(5, (0, 0)), (0, (4, 602)), (1, (0, x1)), (2, (0, x2)), (3, (0, x3)), (4, (0, x4))]) D rfl nl_688 rfl rfl fun D =>
    j_ic (pc := 3) D rfl fun D =>
    j_ist (pc := 4) (L' := [(6, (0, 0)), (5, (0, 0)), (0, (4, 602)), (1, (0, x1)), (2, (0, x2)), (3, (0, x3)), (4, (0, x4))]) D rfl nl_688 rfl rfl fun D =>
    fk_jump cut_688_6 rfl rfl
/-! 689 StatuteHouseModel.isSo(II)Z -/
theorem cd_689 : fi_code 689 = prog_69_method_204_code := rfl
theorem hx_689 : ∀ pc, fi_hat 689 pc = none := fun pc => by unfold fi_hat; rw [show fi_hh 689 = [] from rfl]; rfl
theorem rt_689 : fi_ret 689 = some .boolean := rfl
theorem nl_689 : fi_nl 689 = 4 := rfl
theorem ow_689 : fi_ow 689 = 29 := rfl
theorem cl_689 : fj_cutT.getD 689 [] = [(120, [0, 1, 2, 3])] := rfl
theorem cut_689_120 : fj_cut 689 120 = some [0, 1, 2, 3] := by decide +kernel
noncomputable def c_689_120 (d : Nat) (x1 x2 x3 : Int) (h : fi_H) : fk_R := gG (fj_run d) 689 120 [(0, (4, 602)), (1, (0, x1)), (2, (0, x2)), (3, (0, x3))] [] h
theorem e_689_120 (d : Nat) (x1 x2 x3 : Int) {h : fi_H} (H : Shp h) : c_689_120 d x1 x2 x3 h =
  if 0 ≤ x3 ∧ x3 < 9 then
  ca_ (fj_run d 686 h [(4, 602), (0, h 10 710 x3.toNat), (0, x1)]) 0
    (fun v3 h2 =>
    if v3 = 0 then
      c_689_120 d x1 x2 (wI (x3 + 1)) h2
    else
      if ia_ (sr_ x2 x3) 1 = 1 then
        some (.inl (some (0, 1)), h2)
      else
        some (.inl (some (0, 0)), h2))
    (fun q4 h2 => tx_ q4 h2)
  else none := by
  unfold c_689_120
  exact
    have D : fk_D 689 [(120, some [0, 1, 2, 3], .aload_n 0, 1, 0, 0, 0), (121, none, .aload_n 0, 1, 0, 0, 0), (122, none, .getfield 386, 3, 557, 129, 12), (125, none, .iload_n 3, 1, 0, 0, 0), (126, none, .iaload, 1, 0, 0, 0), (127, none, .iload_n 1, 1, 0, 0, 0), (128, none, .invokevirtual 1244, 3, 2, 469, 1), (131, none, .ifCond .ne 9, 3, 140, 0, 0), (134, none, .iinc 3 1, 3, 0, 1, 0), (137, none, .goto (-17), 3, 120, 0, 0)] := fq_of2 cd_689 ow_689 cl_689 rfl (pc := 120) (by decide +kernel)
    j_aldn (pc := 120) D rfl rfl rfl fun D =>
    j_aldn (pc := 121) D rfl rfl rfl fun D =>
    j_gfc (pc := 122) (a := 602) D rfl rfl (by decide) rfl (s0_602 H) rfl (sf_557_602 H) fun D =>
    j_ildn (pc := 125) D rfl rfl rfl fun D =>
    j_al (pc := 126) (a := 710) (e := 10) D rfl rfl rfl (by decide) (s0_710 H) (s1_710 H) ⟨rfl, rfl, rfl⟩ rfl gn fun qb1 D =>
    j_ildn (pc := 127) D rfl rfl rfl fun D =>
    j_iv (pc := 128) (m := 686) (dd := 469) (a := [(0, h 10 710 x3.toNat), (0, x1)]) (rest := []) D rfl rfl rfl rfl rfl (by decide) (s0_602 H) (by decide +kernel) (fun v3 h2 e1 D =>
      have T := fj_run_ok _ _ _ _ _ _ H.1 e1
      have H := shp_st H T
      j_ifne (pc := 131) D rfl (fun q D =>
        j_inc (pc := 134) (L' := [(3, (0, wI (x3 + 1))), (0, (4, 602)), (1, (0, x1)), (2, (0, x2))]) D rfl rfl rfl (by decide +kernel) rfl fun D =>
        j_goto (pc := 137) D rfl <|
        fk_jump cut_689_120 rfl rfl) (fun q =>
        have D : fk_D 689 [(140, none, .iload_n 2, 1, 0, 0, 0), (141, none, .iload_n 3, 1, 0, 0, 0), (142, none, .ishr, 1, 0, 0, 0), (143, none, .iconst 1, 1, 0, 1, 0), (144, none, .iand, 1, 0, 0, 0), (145, none, .iconst 1, 1, 0, 1, 0), (146, none, .if_icmp .ne 7, 3, 153, 0, 0), (149, none, .iconst 1, 1, 0, 1, 0), (150, none, .goto 4, 3, 154, 0, 0)] := fq_of2 cd_689 ow_689 cl_689 rfl (pc := 140) (by decide +kernel)
        j_ildn (pc := 140) D rfl rfl rfl fun D =>
        j_ildn (pc := 141) D rfl rfl rfl fun D =>
        j_ishr (pc := 142) D rfl fun D =>
        j_ic (pc := 143) D rfl fun D =>
        j_iand (pc := 144) D rfl fun D =>
        j_ic (pc := 145) D rfl fun D =>
        j_ine (pc := 146) D rfl (fun q D =>
          j_ic (pc := 149) D rfl fun D =>
          j_goto (pc := 150) D rfl <|
          have D : fk_D 689 [(154, none, .ireturn, 1, 0, 0, 0)] := fq_of2 cd_689 ow_689 cl_689 rfl (pc := 154) (by decide +kernel)
          j_zret D rt_689 (gy (by decide))) (fun q =>
          have D : fk_D 689 [(153, none, .iconst 0, 1, 0, 0, 0), (154, none, .ireturn, 1, 0, 0, 0)] := fq_of2 cd_689 ow_689 cl_689 rfl (pc := 153) (by decide +kernel)
          j_ic (pc := 153) D rfl fun D =>
          j_zret D rt_689 (gy (by decide))))) (fun q4 h2 e1 =>
      j_tx (hx_689 _))
theorem m_689 (d : Nat) (x1 x2 : Int) {h : fi_H} (H : Shp h) : fj_run (d + 1) 689 h [(4, 602), (0, x1), (0, x2)] =
  if 0 ≤ x1 ∧ x1 < 9300 then
  if h 10 617 x1.toNat = 1 then
    ca_ (fj_run d 689 h [(4, 602), (0, h 10 619 x1.toNat), (0, x2)]) 0
      (fun v3 h2 =>
      if v3 = 0 then
        ca_ (fj_run d 689 h2 [(4, 602), (0, h2 10 620 x1.toNat), (0, x2)]) 0
          (fun v6 h5 =>
          if v6 = 0 then
            some (.inl (some (0, 0)), h5)
          else
            some (.inl (some (0, 1)), h5))
          (fun q7 h5 => tx_ q7 h5)
      else
        some (.inl (some (0, 1)), h2))
      (fun q4 h2 => tx_ q4 h2)
  else
    if h 10 617 x1.toNat = 2 then
      ca_ (fj_run d 689 h [(4, 602), (0, h 10 619 x1.toNat), (0, x2)]) 0
        (fun v9 h8 =>
        if v9 = 0 then
          some (.inl (some (0, 0)), h8)
        else
          ca_ (fj_run d 689 h8 [(4, 602), (0, h8 10 620 x1.toNat), (0, x2)]) 0
            (fun v12 h11 =>
            if v12 = 0 then
              some (.inl (some (0, 0)), h11)
            else
              some (.inl (some (0, 1)), h11))
            (fun q13 h11 => tx_ q13 h11))
        (fun q10 h8 => tx_ q10 h8)
    else
      if h 10 617 x1.toNat = 3 then
        ca_ (fj_run d 689 h [(4, 602), (0, h 10 619 x1.toNat), (0, x2)]) 0
          (fun v15 h14 =>
          if v15 = 0 then
            some (.inl (some (0, 1)), h14)
          else
            some (.inl (some (0, 0)), h14))
          (fun q16 h14 => tx_ q16 h14)
      else
        c_689_120 d x1 x2 0 h
  else none := by
  rw [fj_run_eq d (by decide) h [(4, 602), (0, x1), (0, x2)] (Nat.le_of_ble_eq_true (by rw [nl_689]; rfl))]
  show gG (fj_run d) 689 0 [(0, (4, 602)), (1, (0, x1)), (2, (0, x2))] [] h = _
  exact
    have D : fk_D 689 [(0, none, .aload_n 0, 1, 0, 0, 0), (1, none, .getfield 62, 3, 418, 129, 12), (4, none, .iload_n 1, 1, 0, 0, 0), (5, none, .iaload, 1, 0, 0, 0), (6, none, .iconst 1, 1, 0, 1, 0), (7, none, .if_icmp .ne 37, 3, 44, 0, 0), (10, none, .aload_n 0, 1, 0, 0, 0), (11, none, .aload_n 0, 1, 0, 0, 0), (12, none, .getfield 68, 3, 420, 129, 12), (15, none, .iload_n 1, 1, 0, 0, 0), (16, none, .iaload, 1, 0, 0, 0), (17, none, .iload_n 2, 1, 0, 0, 0), (18, none, .invokevirtual 1253, 3, 2, 471, 1), (21, none, .ifCond .ne 17, 3, 38, 0, 0), (24, none, .aload_n 0, 1, 0, 0, 0), (25, none, .aload_n 0, 1, 0, 0, 0), (26, none, .getfield 71, 3, 421, 129, 12), (29, none, .iload_n 1, 1, 0, 0, 0), (30, none, .iaload, 1, 0, 0, 0), (31, none, .iload_n 2, 1, 0, 0, 0)] := fq_of2 cd_689 ow_689 cl_689 rfl (pc := 0) (by decide +kernel)
    j_aldn (pc := 0) D rfl rfl rfl fun D =>
    j_gfc (pc := 1) (a := 602) D rfl rfl (by decide) rfl (s0_602 H) rfl (sf_418_602 H) fun D =>
    j_ildn (pc := 4) D rfl rfl rfl fun D =>
    j_al (pc := 5) (a := 617) (e := 10) D rfl rfl rfl (by decide) (s0_617 H) (s1_617 H) ⟨rfl, rfl, rfl⟩ rfl gn fun qb1 D =>
    j_ic (pc := 6) D rfl fun D =>
    j_ine (pc := 7) D rfl (fun q D =>
      j_aldn (pc := 10) D rfl rfl rfl fun D =>
      j_aldn (pc := 11) D rfl rfl rfl fun D =>
      j_gfc (pc := 12) (a := 602) D rfl rfl (by decide) rfl (s0_602 H) rfl (sf_420_602 H) fun D =>
      j_ildn (pc := 15) D rfl rfl rfl fun D =>
      j_al (pc := 16) (a := 619) (e := 10) D rfl rfl rfl (by decide) (s0_619 H) (s1_619 H) ⟨rfl, rfl, rfl⟩ rfl (gy qb1) fun q D =>
      j_ildn (pc := 17) D rfl rfl rfl fun D =>
      j_iv (pc := 18) (m := 689) (dd := 471) (a := [(0, h 10 619 x1.toNat), (0, x2)]) (rest := []) D rfl rfl rfl rfl rfl (by decide) (s0_602 H) (by decide +kernel) (fun v3 h2 e1 D =>
        have T := fj_run_ok _ _ _ _ _ _ H.1 e1
        have H := shp_st H T
        j_ifne (pc := 21) D rfl (fun q D =>
          j_aldn (pc := 24) D rfl rfl rfl fun D =>
          j_aldn (pc := 25) D rfl rfl rfl fun D =>
          j_gfc (pc := 26) (a := 602) D rfl rfl (by decide) rfl (s0_602 H) rfl (sf_421_602 H) fun D =>
          j_ildn (pc := 29) D rfl rfl rfl fun D =>
          j_al (pc := 30) (a := 620) (e := 10) D rfl rfl rfl (by decide) (s0_620 H) (s1_620 H) ⟨rfl, rfl, rfl⟩ rfl (gy qb1) fun q D =>
          j_ildn (pc := 31) D rfl rfl rfl fun D =>
          have D : fk_D 689 [(32, none, .invokevirtual 1253, 3, 2, 471, 1), (35, none, .ifCond .eq 7, 3, 42, 0, 0), (38, none, .iconst 1, 1, 0, 1, 0), (39, none, .goto 4, 3, 43, 0, 0)] := fq_of2 cd_689 ow_689 cl_689 rfl (pc := 32) (by decide +kernel)
          j_iv (pc := 32) (m := 689) (dd := 471) (a := [(0, h2 10 620 x1.toNat), (0, x2)]) (rest := []) D rfl rfl rfl rfl rfl (by decide) (s0_602 H) (by decide +kernel) (fun v6 h5 e1 D =>
            have T := fj_run_ok _ _ _ _ _ _ H.1 e1
            have H := shp_st H T
            j_ifeq (pc := 35) D rfl (fun q =>
              have D : fk_D 689 [(42, none, .iconst 0, 1, 0, 0, 0), (43, none, .ireturn, 1, 0, 0, 0)] := fq_of2 cd_689 ow_689 cl_689 rfl (pc := 42) (by decide +kernel)
              j_ic (pc := 42) D rfl fun D =>
              j_zret D rt_689 (gy (by decide))) (fun q D =>
              j_ic (pc := 38) D rfl fun D =>
              j_goto (pc := 39) D rfl <|
              have D : fk_D 689 [(43, none, .ireturn, 1, 0, 0, 0)] := fq_of2 cd_689 ow_689 cl_689 rfl (pc := 43) (by decide +kernel)
              j_zret D rt_689 (gy (by decide)))) (fun q7 h5 e1 =>
            j_tx (hx_689 _))) (fun q =>
          have D : fk_D 689 [(38, none, .iconst 1, 1, 0, 1, 0), (39, none, .goto 4, 3, 43, 0, 0)] := fq_of2 cd_689 ow_689 cl_689 rfl (pc := 38) (by decide +kernel)
          j_ic (pc := 38) D rfl fun D =>
          j_goto (pc := 39) D rfl <|
          have D : fk_D 689 [(43, none, .ireturn, 1, 0, 0, 0)] := fq_of2 cd_689 ow_689 cl_689 rfl (pc := 43) (by decide +kernel)
          j_zret D rt_689 (gy (by decide)))) (fun q4 h2 e1 =>
        j_tx (hx_689 _))) (fun q =>
      have D : fk_D 689 [(44, none, .aload_n 0, 1, 0, 0, 0), (45, none, .getfield 62, 3, 418, 129, 12), (48, none, .iload_n 1, 1, 0, 0, 0), (49, none, .iaload, 1, 0, 0, 0), (50, none, .iconst 2, 1, 0, 2, 0), (51, none, .if_icmp .ne 37, 3, 88, 0, 0), (54, none, .aload_n 0, 1, 0, 0, 0), (55, none, .aload_n 0, 1, 0, 0, 0), (56, none, .getfield 68, 3, 420, 129, 12), (59, none, .iload_n 1, 1, 0, 0, 0), (60, none, .iaload, 1, 0, 0, 0), (61, none, .iload_n 2, 1, 0, 0, 0), (62, none, .invokevirtual 1253, 3, 2, 471, 1), (65, none, .ifCond .eq 21, 3, 86, 0, 0), (68, none, .aload_n 0, 1, 0, 0, 0), (69, none, .aload_n 0, 1, 0, 0, 0), (70, none, .getfield 71, 3, 421, 129, 12), (73, none, .iload_n 1, 1, 0, 0, 0), (74, none, .iaload, 1, 0, 0, 0), (75, none, .iload_n 2, 1, 0, 0, 0)] := fq_of2 cd_689 ow_689 cl_689 rfl (pc := 44) (by decide +kernel)
      j_aldn (pc := 44) D rfl rfl rfl fun D =>
      j_gfc (pc := 45) (a := 602) D rfl rfl (by decide) rfl (s0_602 H) rfl (sf_418_602 H) fun D =>
      j_ildn (pc := 48) D rfl rfl rfl fun D =>
      j_al (pc := 49) (a := 617) (e := 10) D rfl rfl rfl (by decide) (s0_617 H) (s1_617 H) ⟨rfl, rfl, rfl⟩ rfl (gy qb1) fun q D =>
      j_ic (pc := 50) D rfl fun D =>
      j_ine (pc := 51) D rfl (fun q D =>
        j_aldn (pc := 54) D rfl rfl rfl fun D =>
        j_aldn (pc := 55) D rfl rfl rfl fun D =>
        j_gfc (pc := 56) (a := 602) D rfl rfl (by decide) rfl (s0_602 H) rfl (sf_420_602 H) fun D =>
        j_ildn (pc := 59) D rfl rfl rfl fun D =>
        j_al (pc := 60) (a := 619) (e := 10) D rfl rfl rfl (by decide) (s0_619 H) (s1_619 H) ⟨rfl, rfl, rfl⟩ rfl (gy qb1) fun q D =>
        j_ildn (pc := 61) D rfl rfl rfl fun D =>
        j_iv (pc := 62) (m := 689) (dd := 471) (a := [(0, h 10 619 x1.toNat), (0, x2)]) (rest := []) D rfl rfl rfl rfl rfl (by decide) (s0_602 H) (by decide +kernel) (fun v9 h8 e1 D =>
          have T := fj_run_ok _ _ _ _ _ _ H.1 e1
          have H := shp_st H T
          j_ifeq (pc := 65) D rfl (fun q =>
            have D : fk_D 689 [(86, none, .iconst 0, 1, 0, 0, 0), (87, none, .ireturn, 1, 0, 0, 0)] := fq_of2 cd_689 ow_689 cl_689 rfl (pc := 86) (by decide +kernel)
            j_ic (pc := 86) D rfl fun D =>
            j_zret D rt_689 (gy (by decide))) (fun q D =>
            j_aldn (pc := 68) D rfl rfl rfl fun D =>
            j_aldn (pc := 69) D rfl rfl rfl fun D =>
            j_gfc (pc := 70) (a := 602) D rfl rfl (by decide) rfl (s0_602 H) rfl (sf_421_602 H) fun D =>
            j_ildn (pc := 73) D rfl rfl rfl fun D =>
            j_al (pc := 74) (a := 620) (e := 10) D rfl rfl rfl (by decide) (s0_620 H) (s1_620 H) ⟨rfl, rfl, rfl⟩ rfl (gy qb1) fun q D =>
            j_ildn (pc := 75) D rfl rfl rfl fun D =>
            have D : fk_D 689 [(76, none, .invokevirtual 1253, 3, 2, 471, 1), (79, none, .ifCond .eq 7, 3, 86, 0, 0), (82, none, .iconst 1, 1, 0, 1, 0), (83, none, .goto 4, 3, 87, 0, 0)] := fq_of2 cd_689 ow_689 cl_689 rfl (pc := 76) (by decide +kernel)
            j_iv (pc := 76) (m := 689) (dd := 471) (a := [(0, h8 10 620 x1.toNat), (0, x2)]) (rest := []) D rfl rfl rfl rfl rfl (by decide) (s0_602 H) (by decide +kernel) (fun v12 h11 e1 D =>
              have T := fj_run_ok _ _ _ _ _ _ H.1 e1
              have H := shp_st H T
              j_ifeq (pc := 79) D rfl (fun q =>
                have D : fk_D 689 [(86, none, .iconst 0, 1, 0, 0, 0), (87, none, .ireturn, 1, 0, 0, 0)] := fq_of2 cd_689 ow_689 cl_689 rfl (pc := 86) (by decide +kernel)
                j_ic (pc := 86) D rfl fun D =>
                j_zret D rt_689 (gy (by decide))) (fun q D =>
                j_ic (pc := 82) D rfl fun D =>
                j_goto (pc := 83) D rfl <|
                have D : fk_D 689 [(87, none, .ireturn, 1, 0, 0, 0)] := fq_of2 cd_689 ow_689 cl_689 rfl (pc := 87) (by decide +kernel)
                j_zret D rt_689 (gy (by decide)))) (fun q13 h11 e1 =>
              j_tx (hx_689 _)))) (fun q10 h8 e1 =>
          j_tx (hx_689 _))) (fun q =>
        have D : fk_D 689 [(88, none, .aload_n 0, 1, 0, 0, 0), (89, none, .getfield 62, 3, 418, 129, 12), (92, none, .iload_n 1, 1, 0, 0, 0), (93, none, .iaload, 1, 0, 0, 0), (94, none, .iconst 3, 1, 0, 3, 0), (95, none, .if_icmp .ne 23, 3, 118, 0, 0), (98, none, .aload_n 0, 1, 0, 0, 0), (99, none, .aload_n 0, 1, 0, 0, 0), (100, none, .getfield 68, 3, 420, 129, 12), (103, none, .iload_n 1, 1, 0, 0, 0), (104, none, .iaload, 1, 0, 0, 0), (105, none, .iload_n 2, 1, 0, 0, 0), (106, none, .invokevirtual 1253, 3, 2, 471, 1), (109, none, .ifCond .ne 7, 3, 116, 0, 0), (112, none, .iconst 1, 1, 0, 1, 0), (113, none, .goto 4, 3, 117, 0, 0)] := fq_of2 cd_689 ow_689 cl_689 rfl (pc := 88) (by decide +kernel)
        j_aldn (pc := 88) D rfl rfl rfl fun D =>
        j_gfc (pc := 89) (a := 602) D rfl rfl (by decide) rfl (s0_602 H) rfl (sf_418_602 H) fun D =>
        j_ildn (pc := 92) D rfl rfl rfl fun D =>
        j_al (pc := 93) (a := 617) (e := 10) D rfl rfl rfl (by decide) (s0_617 H) (s1_617 H) ⟨rfl, rfl, rfl⟩ rfl (gy qb1) fun q D =>
        j_ic (pc := 94) D rfl fun D =>
        j_ine (pc := 95) D rfl (fun q D =>
          j_aldn (pc := 98) D rfl rfl rfl fun D =>
          j_aldn (pc := 99) D rfl rfl rfl fun D =>
          j_gfc (pc := 100) (a := 602) D rfl rfl (by decide) rfl (s0_602 H) rfl (sf_420_602 H) fun D =>
          j_ildn (pc := 103) D rfl rfl rfl fun D =>
          j_al (pc := 104) (a := 619) (e := 10) D rfl rfl rfl (by decide) (s0_619 H) (s1_619 H) ⟨rfl, rfl, rfl⟩ rfl (gy qb1) fun q D =>
          j_ildn (pc := 105) D rfl rfl rfl fun D =>
          j_iv (pc := 106) (m := 689) (dd := 471) (a := [(0, h 10 619 x1.toNat), (0, x2)]) (rest := []) D rfl rfl rfl rfl rfl (by decide) (s0_602 H) (by decide +kernel) (fun v15 h14 e1 D =>
            have T := fj_run_ok _ _ _ _ _ _ H.1 e1
            have H := shp_st H T
            j_ifne (pc := 109) D rfl (fun q D =>
              j_ic (pc := 112) D rfl fun D =>
              j_goto (pc := 113) D rfl <|
              have D : fk_D 689 [(117, none, .ireturn, 1, 0, 0, 0)] := fq_of2 cd_689 ow_689 cl_689 rfl (pc := 117) (by decide +kernel)
              j_zret D rt_689 (gy (by decide))) (fun q =>
              have D : fk_D 689 [(116, none, .iconst 0, 1, 0, 0, 0), (117, none, .ireturn, 1, 0, 0, 0)] := fq_of2 cd_689 ow_689 cl_689 rfl (pc := 116) (by decide +kernel)
              j_ic (pc := 116) D rfl fun D =>
              j_zret D rt_689 (gy (by decide)))) (fun q16 h14 e1 =>
            j_tx (hx_689 _))) (fun q =>
          have D : fk_D 689 [(118, none, .iconst 0, 1, 0, 0, 0), (119, none, .istore_n 3, 1, 0, 0, 0)] := fq_of2 cd_689 ow_689 cl_689 rfl (pc := 118) (by decide +kernel)
          j_ic (pc := 118) D rfl fun D =>
          j_istn (pc := 119) (L' := [(3, (0, 0)), (0, (4, 602)), (1, (0, x1)), (2, (0, x2))]) D rfl nl_689 rfl rfl fun D =>
          fk_jump cut_689_120 rfl rfl)))
/-! 690 StatuteHouseModel.gap(I)I -/
theorem cd_690 : fi_code 690 = prog_69_method_208_code := rfl
theorem hx_690 : ∀ pc, fi_hat 690 pc = none := fun pc => by unfold fi_hat; rw [show fi_hh 690 = [] from rfl]; rfl
theorem rt_690 : fi_ret 690 = some .int := rfl
theorem nl_690 : fi_nl 690 = 2 := rfl
theorem ow_690 : fi_ow 690 = 29 := rfl
theorem cl_690 : fj_cutT.getD 690 [] = [] := rfl
theorem m_690 (d : Nat) (x1 : Int) {h : fi_H} (H : Shp h) : fj_run (d + 1) 690 h [(4, 602), (0, x1)] =
  if h 560 602 0 = (-1) then
    some (.inl (some (0, (-1))), h)
  else
    if x1 = 0 then
      some (.inl (some (0, h 564 602 0)), h)
    else if x1 = 1 then
      some (.inl (some (0, h 560 602 0)), h)
    else if x1 = 2 then
      some (.inl (some (0, h 561 602 0)), h)
    else if x1 = 3 then
      some (.inl (some (0, h 562 602 0)), h)
    else if x1 = 4 then
      some (.inl (some (0, h 563 602 0)), h)
    else 
      some (.inl (some (0, (-1))), h) := by
  rw [fj_run_eq d (by decide) h [(4, 602), (0, x1)] (Nat.le_of_ble_eq_true (by rw [nl_690]; rfl))]
  show gG (fj_run d) 690 0 [(0, (4, 602)), (1, (0, x1))] [] h = _
  exact
    have D : fk_D 690 [(0, none, .aload_n 0, 1, 0, 0, 0), (1, none, .getfield 389, 3, 560, 129, 10), (4, none, .iconst (-1), 1, 0, (-1), 0), (5, none, .if_icmp .ne 5, 3, 10, 0, 0), (8, none, .iconst (-1), 1, 0, (-1), 0), (9, none, .ireturn, 1, 0, 0, 0)] := fq_of2 cd_690 ow_690 cl_690 rfl (pc := 0) (by decide +kernel)
    j_aldn (pc := 0) D rfl rfl rfl fun D =>
    j_gf (pc := 1) (a := 602) D rfl rfl (by decide) rfl (s0_602 H) rfl fun D =>
    j_ic (pc := 4) D rfl fun D =>
    j_ine (pc := 5) D rfl (fun q D =>
      j_ic (pc := 8) D rfl fun D =>
      j_iret D rt_690) (fun q =>
      have D : fk_D 690 [(10, none, .iload_n 1, 1, 0, 0, 0), (11, none, .tableswitch 58 0 4 #[33, 38, 43, 48, 53], 33, 0, 0, 0)] := fq_of3 cd_690 ow_690 cl_690 rfl (pc := 10) (by decide +kernel)
      j_ildn (pc := 10) D rfl rfl rfl fun D =>
      have N : fk_ni (x1) [] := trivial
      j_tc (pc := 11) 0 (t := 44) D N rfl (by decide +kernel) (fun q =>
        have D : fk_D 690 [(44, none, .aload_n 0, 1, 0, 0, 0), (45, none, .getfield 1262, 3, 564, 129, 10), (48, none, .ireturn, 1, 0, 0, 0)] := fq_of2 cd_690 ow_690 cl_690 rfl (pc := 44) (by decide +kernel)
        j_aldn (pc := 44) D rfl rfl rfl fun D =>
        j_gf (pc := 45) (a := 602) D rfl rfl (by decide) rfl (s0_602 H) rfl fun D =>
        j_iret D rt_690) (fun N =>
        j_tc 1 (t := 49) D N rfl (by decide +kernel) (fun q =>
          have D : fk_D 690 [(49, none, .aload_n 0, 1, 0, 0, 0), (50, none, .getfield 389, 3, 560, 129, 10), (53, none, .ireturn, 1, 0, 0, 0)] := fq_of2 cd_690 ow_690 cl_690 rfl (pc := 49) (by decide +kernel)
          j_aldn (pc := 49) D rfl rfl rfl fun D =>
          j_gf (pc := 50) (a := 602) D rfl rfl (by decide) rfl (s0_602 H) rfl fun D =>
          j_iret D rt_690) (fun N =>
          j_tc 2 (t := 54) D N rfl (by decide +kernel) (fun q =>
            have D : fk_D 690 [(54, none, .aload_n 0, 1, 0, 0, 0), (55, none, .getfield 1265, 3, 561, 129, 10), (58, none, .ireturn, 1, 0, 0, 0)] := fq_of2 cd_690 ow_690 cl_690 rfl (pc := 54) (by decide +kernel)
            j_aldn (pc := 54) D rfl rfl rfl fun D =>
            j_gf (pc := 55) (a := 602) D rfl rfl (by decide) rfl (s0_602 H) rfl fun D =>
            j_iret D rt_690) (fun N =>
            j_tc 3 (t := 59) D N rfl (by decide +kernel) (fun q =>
              have D : fk_D 690 [(59, none, .aload_n 0, 1, 0, 0, 0), (60, none, .getfield 392, 3, 562, 129, 10), (63, none, .ireturn, 1, 0, 0, 0)] := fq_of2 cd_690 ow_690 cl_690 rfl (pc := 59) (by decide +kernel)
              j_aldn (pc := 59) D rfl rfl rfl fun D =>
              j_gf (pc := 60) (a := 602) D rfl rfl (by decide) rfl (s0_602 H) rfl fun D =>
              j_iret D rt_690) (fun N =>
              j_tc 4 (t := 64) D N rfl (by decide +kernel) (fun q =>
                have D : fk_D 690 [(64, none, .aload_n 0, 1, 0, 0, 0), (65, none, .getfield 395, 3, 563, 129, 10), (68, none, .ireturn, 1, 0, 0, 0)] := fq_of2 cd_690 ow_690 cl_690 rfl (pc := 64) (by decide +kernel)
                j_aldn (pc := 64) D rfl rfl rfl fun D =>
                j_gf (pc := 65) (a := 602) D rfl rfl (by decide) rfl (s0_602 H) rfl fun D =>
                j_iret D rt_690) (fun N =>
                j_td (t := 69) D N rfl (by decide +kernel) (by decide +kernel) <|
                have D : fk_D 690 [(69, none, .iconst (-1), 1, 0, (-1), 0), (70, none, .ireturn, 1, 0, 0, 0)] := fq_of2 cd_690 ow_690 cl_690 rfl (pc := 69) (by decide +kernel)
                j_ic (pc := 69) D rfl fun D =>
                j_iret D rt_690))))))
/-! 691 StatuteHouseModel.ring(II)I -/
theorem cd_691 : fi_code 691 = prog_69_method_210_code := rfl
theorem hx_691 : ∀ pc, fi_hat 691 pc = none := fun pc => by unfold fi_hat; rw [show fi_hh 691 = [] from rfl]; rfl
theorem rt_691 : fi_ret 691 = some .int := rfl
theorem nl_691 : fi_nl 691 = 7 := rfl
theorem ow_691 : fi_ow 691 = 29 := rfl
theorem cl_691 : fj_cutT.getD 691 [] = [(33, [0, 3]), (55, [0, 3]), (81, [0, 3, 4, 5]), (160, [0, 3, 4, 5]), (174, [0, 3]), (183, [0, 3, 4]), (193, [0, 3, 4, 5]), (258, [0, 3, 4, 5]), (262, [0, 3, 4, 5]), (263, [0, 3, 4, 5]), (284, [0, 3])] := rfl
theorem cut_691_33 : fj_cut 691 33 = some [0, 3] := by decide +kernel
noncomputable def c_691_33 (d : Nat) (x3 : Int) (h : fi_H) : fk_R := gG (fj_run d) 691 33 [(0, (4, 602)), (3, (0, x3))] [] h
theorem cut_691_55 : fj_cut 691 55 = some [0, 3] := by decide +kernel
noncomputable def c_691_55 (d : Nat) (x3 : Int) (h : fi_H) : fk_R := gG (fj_run d) 691 55 [(0, (4, 602)), (3, (0, x3))] [] h
theorem cut_691_81 : fj_cut 691 81 = some [0, 3, 4, 5] := by decide +kernel
noncomputable def c_691_81 (d : Nat) (x3 x4 x5 : Int) (h : fi_H) : fk_R := gG (fj_run d) 691 81 [(0, (4, 602)), (3, (0, x3)), (4, (0, x4)), (5, (0, x5))] [] h
theorem cut_691_160 : fj_cut 691 160 = some [0, 3, 4, 5] := by decide +kernel
noncomputable def c_691_160 (d : Nat) (x3 x4 x5 : Int) (h : fi_H) : fk_R := gG (fj_run d) 691 160 [(0, (4, 602)), (3, (0, x3)), (4, (0, x4)), (5, (0, x5))] [] h
theorem cut_691_174 : fj_cut 691 174 = some [0, 3] := by decide +kernel
noncomputable def c_691_174 (d : Nat) (x3 : Int) (h : fi_H) : fk_R := gG (fj_run d) 691 174 [(0, (4, 602)), (3, (0, x3))] [] h
theorem cut_691_183 : fj_cut 691 183 = some [0, 3, 4] := by decide +kernel
noncomputable def c_691_183 (d : Nat) (x3 x4 : Int) (h : fi_H) : fk_R := gG (fj_run d) 691 183 [(0, (4, 602)), (3, (0, x3)), (4, (0, x4))] [] h
theorem cut_691_193 : fj_cut 691 193 = some [0, 3, 4, 5] := by decide +kernel
noncomputable def c_691_193 (d : Nat) (x3 x4 x5 : Int) (h : fi_H) : fk_R := gG (fj_run d) 691 193 [(0, (4, 602)), (3, (0, x3)), (4, (0, x4)), (5, (0, x5))] [] h
theorem cut_691_258 : fj_cut 691 258 = some [0, 3, 4, 5] := by decide +kernel
noncomputable def c_691_258 (d : Nat) (x3 x4 x5 s0 s1 : Int) (h : fi_H) : fk_R := gG (fj_run d) 691 258 [(0, (4, 602)), (3, (0, x3)), (4, (0, x4)), (5, (0, x5))] [(0, s1), (4, s0)] h
theorem cut_691_262 : fj_cut 691 262 = some [0, 3, 4, 5] := by decide +kernel
noncomputable def c_691_262 (d : Nat) (x3 x4 x5 s0 s1 : Int) (h : fi_H) : fk_R := gG (fj_run d) 691 262 [(0, (4, 602)), (3, (0, x3)), (4, (0, x4)), (5, (0, x5))] [(0, s1), (4, s0)] h
theorem cut_691_263 : fj_cut 691 263 = some [0, 3, 4, 5] := by decide +kernel
noncomputable def c_691_263 (d : Nat) (x3 x4 x5 s0 s1 s2 : Int) (h : fi_H) : fk_R := gG (fj_run d) 691 263 [(0, (4, 602)), (3, (0, x3)), (4, (0, x4)), (5, (0, x5))] [(0, s2), (0, s1), (4, s0)] h
theorem cut_691_284 : fj_cut 691 284 = some [0, 3] := by decide +kernel
noncomputable def c_691_284 (d : Nat) (x3 : Int) (h : fi_H) : fk_R := gG (fj_run d) 691 284 [(0, (4, 602)), (3, (0, x3))] [] h
theorem e_691_33 (d : Nat) (x3 : Int) {h : fi_H} (H : Shp h) : c_691_33 d x3 h =
  if x3 < 1600 then
    if 0 ≤ x3 ∧ x3 < 1600 then
    lt_ (fi_upd h 4 711 x3.toNat 0) fun h1 =>
    c_691_33 d (wI (x3 + 1)) h1
    else none
  else
    c_691_55 d 0 h := by
  unfold c_691_33
  exact
    have D : fk_D 691 [(33, some [0, 3], .iload_n 3, 1, 0, 0, 0), (34, none, .sipush 1600, 3, 0, 1600, 0), (37, none, .if_icmp .ge 16, 3, 53, 0, 0), (40, none, .aload_n 0, 1, 0, 0, 0), (41, none, .getfield 398, 3, 565, 129, 12), (44, none, .iload_n 3, 1, 0, 0, 0), (45, none, .iconst 0, 1, 0, 0, 0), (46, none, .bastore, 1, 0, 0, 0), (47, none, .iinc 3 1, 3, 0, 1, 0), (50, none, .goto (-17), 3, 33, 0, 0)] := fq_of2 cd_691 ow_691 cl_691 rfl (pc := 33) (by decide +kernel)
    j_ildn (pc := 33) D rfl rfl rfl fun D =>
    j_sp (pc := 34) D rfl fun D =>
    j_ige (pc := 37) D rfl (fun q D =>
      j_aldn (pc := 40) D rfl rfl rfl fun D =>
      j_gfc (pc := 41) (a := 602) D rfl rfl (by decide) rfl (s0_602 H) rfl (sf_565_602 H) fun D =>
      j_ildn (pc := 44) D rfl rfl rfl fun D =>
      j_ic (pc := 45) D rfl fun D =>
      j_as (pc := 46) (a := 711) (e := 4) D rfl ⟨rfl, rfl⟩ rfl (by decide) (s0_711 H) (s1_711 H) ⟨rfl, rfl, rfl⟩ rfl gn (gy (by decide)) fun h1 eh1 S qb2 D =>
      have T := fj_hs_ok H.1 S
      have H := shp_st H T
      j_inc (pc := 47) (L' := [(3, (0, wI (x3 + 1))), (0, (4, 602))]) D rfl rfl rfl (by decide +kernel) rfl fun D =>
      j_goto (pc := 50) D rfl <|
      fk_jump cut_691_33 rfl rfl) (fun q =>
      have D : fk_D 691 [(53, none, .iconst 0, 1, 0, 0, 0), (54, none, .istore_n 3, 1, 0, 0, 0)] := fq_of2 cd_691 ow_691 cl_691 rfl (pc := 53) (by decide +kernel)
      j_ic (pc := 53) D rfl fun D =>
      j_istn (pc := 54) (L' := [(3, (0, 0)), (0, (4, 602))]) D rfl nl_691 rfl rfl fun D =>
      fk_jump cut_691_55 rfl rfl)
theorem e_691_55 (d : Nat) (x3 : Int) {h : fi_H} (H : Shp h) : c_691_55 d x3 h =
  if x3 < h 10 647 12 then
    if 0 ≤ wI (2400 + x3) ∧ wI (2400 + x3) < 3200 then
    c_691_81 d x3 (h 10 646 (wI (2400 + x3)).toNat) 1 h
    else none
  else
    c_691_174 d 0 h := by
  unfold c_691_55
  exact
    have D : fk_D 691 [(55, some [0, 3], .iload_n 3, 1, 0, 0, 0), (56, none, .aload_n 0, 1, 0, 0, 0), (57, none, .getfield 156, 3, 455, 129, 12), (60, none, .bipush 12, 2, 0, 12, 0), (62, none, .iaload, 1, 0, 0, 0), (63, none, .if_icmp .ge 109, 3, 172, 0, 0), (66, none, .aload_n 0, 1, 0, 0, 0), (67, none, .getfield 153, 3, 454, 129, 12), (70, none, .sipush 2400, 3, 0, 2400, 0), (73, none, .iload_n 3, 1, 0, 0, 0), (74, none, .iadd, 1, 0, 0, 0), (75, none, .iaload, 1, 0, 0, 0), (76, none, .istore 4, 2, 0, 0, 0), (78, none, .iconst 1, 1, 0, 1, 0), (79, none, .istore 5, 2, 0, 0, 0)] := fq_of2 cd_691 ow_691 cl_691 rfl (pc := 55) (by decide +kernel)
    j_ildn (pc := 55) D rfl rfl rfl fun D =>
    j_aldn (pc := 56) D rfl rfl rfl fun D =>
    j_gfc (pc := 57) (a := 602) D rfl rfl (by decide) rfl (s0_602 H) rfl (sf_455_602 H) fun D =>
    j_bp (pc := 60) D rfl fun D =>
    j_al (pc := 62) (a := 647) (e := 10) D rfl rfl rfl (by decide) (s0_647 H) (s1_647 H) ⟨rfl, rfl, rfl⟩ rfl (gy (by decide)) fun q D =>
    j_ige (pc := 63) D rfl (fun q D =>
      j_aldn (pc := 66) D rfl rfl rfl fun D =>
      j_gfc (pc := 67) (a := 602) D rfl rfl (by decide) rfl (s0_602 H) rfl (sf_454_602 H) fun D =>
      j_sp (pc := 70) D rfl fun D =>
      j_ildn (pc := 73) D rfl rfl rfl fun D =>
      j_iadd (pc := 74) D rfl fun D =>
      j_al (pc := 75) (a := 646) (e := 10) D rfl rfl rfl (by decide) (s0_646 H) (s1_646 H) ⟨rfl, rfl, rfl⟩ rfl gn fun qb1 D =>
      j_ist (pc := 76) (L' := [(4, (0, h 10 646 (wI (2400 + x3)).toNat)), (0, (4, 602)), (3, (0, x3))]) D rfl nl_691 rfl rfl fun D =>
      j_ic (pc := 78) D rfl fun D =>
      j_ist (pc := 79) (L' := [(5, (0, 1)), (4, (0, h 10 646 (wI (2400 + x3)).toNat)), (0, (4, 602)), (3, (0, x3))]) D rfl nl_691 rfl rfl fun D =>
      fk_jump cut_691_81 rfl rfl) (fun q =>
      have D : fk_D 691 [(172, none, .iconst 0, 1, 0, 0, 0), (173, none, .istore_n 3, 1, 0, 0, 0)] := fq_of2 cd_691 ow_691 cl_691 rfl (pc := 172) (by decide +kernel)
      j_ic (pc := 172) D rfl fun D =>
      j_istn (pc := 173) (L' := [(3, (0, 0)), (0, (4, 602))]) D rfl nl_691 rfl rfl fun D =>
      fk_jump cut_691_174 rfl rfl)
theorem e_691_81 (d : Nat) (x3 x4 x5 : Int) {h : fi_H} (H : Shp h) : c_691_81 d x3 x4 x5 h =
  if 0 ≤ x4 ∧ x4 < 240 then
  if h 10 638 x4.toNat < x5 then
    c_691_55 d (wI (x3 + 1)) h
  else
    ca_ (fj_run d 610 h [(4, 602), (0, 12), (0, x4), (0, x5)]) 0
      (fun v3 h2 =>
      if v3 = (-1) then
        c_691_160 d x3 x4 x5 h2
      else
        if 0 ≤ v3 ∧ v3 < 560 then
        if h2 4 630 v3.toNat = 0 then
          cv_ (fj_run d 692 h2 [(4, 602), (0, h2 10 625 v3.toNat), (0, h2 10 626 v3.toNat)])
            (fun h6 =>
            cv_ (fj_run d 692 h6 [(4, 602), (0, h6 10 625 v3.toNat), (0, h6 10 627 v3.toNat)])
              (fun h9 =>
              c_691_160 d x3 x4 x5 h9)
              (fun q11 h9 => tx_ q11 h9))
            (fun q8 h6 => tx_ q8 h6)
        else
          c_691_160 d x3 x4 x5 h2
        else none)
      (fun q4 h2 => tx_ q4 h2)
  else none := by
  unfold c_691_81
  exact
    have D : fk_D 691 [(81, some [0, 3, 4, 5], .iload 5, 2, 0, 0, 0), (83, none, .aload_n 0, 1, 0, 0, 0), (84, none, .getfield 125, 3, 443, 129, 12), (87, none, .iload 4, 2, 0, 0, 0), (89, none, .iaload, 1, 0, 0, 0), (90, none, .if_icmp .gt 76, 3, 166, 0, 0), (93, none, .aload_n 0, 1, 0, 0, 0), (94, none, .bipush 12, 2, 0, 12, 0), (96, none, .iload 4, 2, 0, 0, 0), (98, none, .iload 5, 2, 0, 0, 0), (100, none, .invokevirtual 836, 3, 3, 402, 1), (103, none, .istore 6, 2, 0, 0, 0), (105, none, .iload 6, 2, 0, 0, 0), (107, none, .iconst (-1), 1, 0, (-1), 0), (108, none, .if_icmp .eq 52, 3, 160, 0, 0), (111, none, .aload_n 0, 1, 0, 0, 0), (112, none, .getfield 101, 3, 433, 129, 12), (115, none, .iload 6, 2, 0, 0, 0), (117, none, .baload, 1, 0, 0, 0), (118, none, .ifCond .eq 6, 3, 124, 0, 0)] := fq_of2 cd_691 ow_691 cl_691 rfl (pc := 81) (by decide +kernel)
    j_ild (pc := 81) D rfl rfl rfl fun D =>
    j_aldn (pc := 83) D rfl rfl rfl fun D =>
    j_gfc (pc := 84) (a := 602) D rfl rfl (by decide) rfl (s0_602 H) rfl (sf_443_602 H) fun D =>
    j_ild (pc := 87) D rfl rfl rfl fun D =>
    j_al (pc := 89) (a := 638) (e := 10) D rfl rfl rfl (by decide) (s0_638 H) (s1_638 H) ⟨rfl, rfl, rfl⟩ rfl gn fun qb1 D =>
    j_igt (pc := 90) D rfl (fun q =>
      have D : fk_D 691 [(166, none, .iinc 3 1, 3, 0, 1, 0), (169, none, .goto (-114), 3, 55, 0, 0)] := fq_of2 cd_691 ow_691 cl_691 rfl (pc := 166) (by decide +kernel)
      j_inc (pc := 166) (L' := [(3, (0, wI (x3 + 1))), (0, (4, 602)), (4, (0, x4)), (5, (0, x5))]) D rfl rfl rfl (by decide +kernel) rfl fun D =>
      j_goto (pc := 169) D rfl <|
      fk_jump cut_691_55 rfl rfl) (fun q D =>
      j_aldn (pc := 93) D rfl rfl rfl fun D =>
      j_bp (pc := 94) D rfl fun D =>
      j_ild (pc := 96) D rfl rfl rfl fun D =>
      j_ild (pc := 98) D rfl rfl rfl fun D =>
      j_iv (pc := 100) (m := 610) (dd := 402) (a := [(0, 12), (0, x4), (0, x5)]) (rest := []) D rfl rfl rfl rfl rfl (by decide) (s0_602 H) (by decide +kernel) (fun v3 h2 e1 D =>
        have T := fj_run_ok _ _ _ _ _ _ H.1 e1
        have H := shp_st H T
        j_ist (pc := 103) (L' := [(6, (0, v3)), (0, (4, 602)), (3, (0, x3)), (4, (0, x4)), (5, (0, x5))]) D rfl nl_691 rfl rfl fun D =>
        j_ild (pc := 105) D rfl rfl rfl fun D =>
        j_ic (pc := 107) D rfl fun D =>
        j_ieq (pc := 108) D rfl (fun q =>
          fk_jump cut_691_160 rfl rfl) (fun q D =>
          j_aldn (pc := 111) D rfl rfl rfl fun D =>
          j_gfc (pc := 112) (a := 602) D rfl rfl (by decide) rfl (s0_602 H) rfl (sf_433_602 H) fun D =>
          j_ild (pc := 115) D rfl rfl rfl fun D =>
          j_al (pc := 117) (a := 630) (e := 4) D rfl rfl rfl (by decide) (s0_630 H) (s1_630 H) ⟨rfl, rfl, rfl⟩ rfl gn fun qb5 D =>
          j_ifeq (pc := 118) D rfl (fun q =>
            have D : fk_D 691 [(124, none, .aload_n 0, 1, 0, 0, 0), (125, none, .aload_n 0, 1, 0, 0, 0), (126, none, .getfield 86, 3, 428, 129, 12), (129, none, .iload 6, 2, 0, 0, 0), (131, none, .iaload, 1, 0, 0, 0), (132, none, .aload_n 0, 1, 0, 0, 0), (133, none, .getfield 89, 3, 429, 129, 12), (136, none, .iload 6, 2, 0, 0, 0), (138, none, .iaload, 1, 0, 0, 0), (139, none, .invokevirtual 1268, 3, 2, 474, 0), (142, none, .aload_n 0, 1, 0, 0, 0), (143, none, .aload_n 0, 1, 0, 0, 0), (144, none, .getfield 86, 3, 428, 129, 12), (147, none, .iload 6, 2, 0, 0, 0), (149, none, .iaload, 1, 0, 0, 0), (150, none, .aload_n 0, 1, 0, 0, 0), (151, none, .getfield 92, 3, 430, 129, 12), (154, none, .iload 6, 2, 0, 0, 0), (156, none, .iaload, 1, 0, 0, 0), (157, none, .invokevirtual 1268, 3, 2, 474, 0)] := fq_of2 cd_691 ow_691 cl_691 rfl (pc := 124) (by decide +kernel)
            j_aldn (pc := 124) D rfl rfl rfl fun D =>
            j_aldn (pc := 125) D rfl rfl rfl fun D =>
            j_gfc (pc := 126) (a := 602) D rfl rfl (by decide) rfl (s0_602 H) rfl (sf_428_602 H) fun D =>
            j_ild (pc := 129) D rfl rfl rfl fun D =>
            j_al (pc := 131) (a := 625) (e := 10) D rfl rfl rfl (by decide) (s0_625 H) (s1_625 H) ⟨rfl, rfl, rfl⟩ rfl (gy qb5) fun q D =>
            j_aldn (pc := 132) D rfl rfl rfl fun D =>
            j_gfc (pc := 133) (a := 602) D rfl rfl (by decide) rfl (s0_602 H) rfl (sf_429_602 H) fun D =>
            j_ild (pc := 136) D rfl rfl rfl fun D =>
            j_al (pc := 138) (a := 626) (e := 10) D rfl rfl rfl (by decide) (s0_626 H) (s1_626 H) ⟨rfl, rfl, rfl⟩ rfl (gy qb5) fun q D =>
            j_ivv (pc := 139) (m := 692) (dd := 474) (a := [(0, h2 10 625 v3.toNat), (0, h2 10 626 v3.toNat)]) (rest := []) D rfl rfl rfl rfl rfl (by decide) (s0_602 H) (by decide +kernel) (fun h6 e1 D =>
              have T := fj_run_ok _ _ _ _ _ _ H.1 e1
              have H := shp_st H T
              j_aldn (pc := 142) D rfl rfl rfl fun D =>
              j_aldn (pc := 143) D rfl rfl rfl fun D =>
              j_gfc (pc := 144) (a := 602) D rfl rfl (by decide) rfl (s0_602 H) rfl (sf_428_602 H) fun D =>
              j_ild (pc := 147) D rfl rfl rfl fun D =>
              j_al (pc := 149) (a := 625) (e := 10) D rfl rfl rfl (by decide) (s0_625 H) (s1_625 H) ⟨rfl, rfl, rfl⟩ rfl (gy qb5) fun q D =>
              j_aldn (pc := 150) D rfl rfl rfl fun D =>
              j_gfc (pc := 151) (a := 602) D rfl rfl (by decide) rfl (s0_602 H) rfl (sf_430_602 H) fun D =>
              j_ild (pc := 154) D rfl rfl rfl fun D =>
              j_al (pc := 156) (a := 627) (e := 10) D rfl rfl rfl (by decide) (s0_627 H) (s1_627 H) ⟨rfl, rfl, rfl⟩ rfl (gy qb5) fun q D =>
              j_ivv (pc := 157) (m := 692) (dd := 474) (a := [(0, h6 10 625 v3.toNat), (0, h6 10 627 v3.toNat)]) (rest := []) D rfl rfl rfl rfl rfl (by decide) (s0_602 H) (by decide +kernel) (fun h9 e1 D =>
                have T := fj_run_ok _ _ _ _ _ _ H.1 e1
                have H := shp_st H T
                fk_jump cut_691_160 rfl rfl) (fun q11 h9 e1 =>
                j_tx (hx_691 _))) (fun q8 h6 e1 =>
              j_tx (hx_691 _))) (fun q D =>
            have D : fk_D 691 [(121, none, .goto 39, 3, 160, 0, 0)] := fq_of2 cd_691 ow_691 cl_691 rfl (pc := 121) (by decide +kernel)
            j_goto (pc := 121) D rfl <|
            fk_jump cut_691_160 rfl rfl))) (fun q4 h2 e1 =>
        j_tx (hx_691 _)))
theorem e_691_160 (d : Nat) (x3 x4 x5 : Int) {h : fi_H} (H : Shp h) : c_691_160 d x3 x4 x5 h =
  c_691_81 d x3 x4 (wI (x5 + 1)) h := by
  unfold c_691_160
  exact
    have D : fk_D 691 [(160, some [0, 3, 4, 5], .iinc 5 1, 3, 0, 1, 0), (163, none, .goto (-82), 3, 81, 0, 0)] := fq_of2 cd_691 ow_691 cl_691 rfl (pc := 160) (by decide +kernel)
    j_inc (pc := 160) (L' := [(5, (0, wI (x5 + 1))), (0, (4, 602)), (3, (0, x3)), (4, (0, x4))]) D rfl rfl rfl (by decide +kernel) rfl fun D =>
    j_goto (pc := 163) D rfl <|
    fk_jump cut_691_81 rfl rfl
theorem e_691_174 (d : Nat) (x3 : Int) {h : fi_H} (H : Shp h) : c_691_174 d x3 h =
  if x3 < 40 then
    c_691_183 d x3 0 h
  else
    c_691_284 d 0 h := by
  unfold c_691_174
  exact
    have D : fk_D 691 [(174, some [0, 3], .iload_n 3, 1, 0, 0, 0), (175, none, .bipush 40, 2, 0, 40, 0), (177, none, .if_icmp .ge 105, 3, 282, 0, 0), (180, none, .iconst 0, 1, 0, 0, 0), (181, none, .istore 4, 2, 0, 0, 0)] := fq_of2 cd_691 ow_691 cl_691 rfl (pc := 174) (by decide +kernel)
    j_ildn (pc := 174) D rfl rfl rfl fun D =>
    j_bp (pc := 175) D rfl fun D =>
    j_ige (pc := 177) D rfl (fun q D =>
      j_ic (pc := 180) D rfl fun D =>
      j_ist (pc := 181) (L' := [(4, (0, 0)), (0, (4, 602)), (3, (0, x3))]) D rfl nl_691 rfl rfl fun D =>
      fk_jump cut_691_183 rfl rfl) (fun q =>
      have D : fk_D 691 [(282, none, .iconst 0, 1, 0, 0, 0), (283, none, .istore_n 3, 1, 0, 0, 0)] := fq_of2 cd_691 ow_691 cl_691 rfl (pc := 282) (by decide +kernel)
      j_ic (pc := 282) D rfl fun D =>
      j_istn (pc := 283) (L' := [(3, (0, 0)), (0, (4, 602))]) D rfl nl_691 rfl rfl fun D =>
      fk_jump cut_691_284 rfl rfl)
theorem e_691_183 (d : Nat) (x3 x4 : Int) {h : fi_H} (H : Shp h) : c_691_183 d x3 x4 h =
  if x4 < 40 then
    c_691_193 d x3 x4 0 h
  else
    c_691_174 d (wI (x3 + 1)) h := by
  unfold c_691_183
  exact
    have D : fk_D 691 [(183, some [0, 3, 4], .iload 4, 2, 0, 0, 0), (185, none, .bipush 40, 2, 0, 40, 0), (187, none, .if_icmp .ge 89, 3, 276, 0, 0), (190, none, .iconst 0, 1, 0, 0, 0), (191, none, .istore 5, 2, 0, 0, 0)] := fq_of2 cd_691 ow_691 cl_691 rfl (pc := 183) (by decide +kernel)
    j_ild (pc := 183) D rfl rfl rfl fun D =>
    j_bp (pc := 185) D rfl fun D =>
    j_ige (pc := 187) D rfl (fun q D =>
      j_ic (pc := 190) D rfl fun D =>
      j_ist (pc := 191) (L' := [(5, (0, 0)), (0, (4, 602)), (3, (0, x3)), (4, (0, x4))]) D rfl nl_691 rfl rfl fun D =>
      fk_jump cut_691_193 rfl rfl) (fun q =>
      have D : fk_D 691 [(276, none, .iinc 3 1, 3, 0, 1, 0), (279, none, .goto (-105), 3, 174, 0, 0)] := fq_of2 cd_691 ow_691 cl_691 rfl (pc := 276) (by decide +kernel)
      j_inc (pc := 276) (L' := [(3, (0, wI (x3 + 1))), (0, (4, 602)), (4, (0, x4))]) D rfl rfl rfl (by decide +kernel) rfl fun D =>
      j_goto (pc := 279) D rfl <|
      fk_jump cut_691_174 rfl rfl)
theorem e_691_193 (d : Nat) (x3 x4 x5 : Int) {h : fi_H} (H : Shp h) : c_691_193 d x3 x4 x5 h =
  if x5 < 40 then
    if 0 ≤ wI ((wI (40 * x4)) + x5) ∧ wI ((wI (40 * x4)) + x5) < 1600 then
    if h 4 711 (wI ((wI (40 * x4)) + x5)).toNat = 0 then
      if 0 ≤ wI ((wI (40 * x4)) + x3) ∧ wI ((wI (40 * x4)) + x3) < 1600 then
      if h 4 711 (wI ((wI (40 * x4)) + x3)).toNat = 0 then
        c_691_262 d x3 x4 x5 711 (wI ((wI (40 * x4)) + x5)) h
      else
        if 0 ≤ wI ((wI (40 * x3)) + x5) ∧ wI ((wI (40 * x3)) + x5) < 1600 then
        if h 4 711 (wI ((wI (40 * x3)) + x5)).toNat = 0 then
          c_691_262 d x3 x4 x5 711 (wI ((wI (40 * x4)) + x5)) h
        else
          c_691_258 d x3 x4 x5 711 (wI ((wI (40 * x4)) + x5)) h
        else none
      else none
    else
      c_691_258 d x3 x4 x5 711 (wI ((wI (40 * x4)) + x5)) h
    else none
  else
    c_691_183 d x3 (wI (x4 + 1)) h := by
  unfold c_691_193
  exact
    have D : fk_D 691 [(193, some [0, 3, 4, 5], .iload 5, 2, 0, 0, 0), (195, none, .bipush 40, 2, 0, 40, 0), (197, none, .if_icmp .ge 73, 3, 270, 0, 0), (200, none, .aload_n 0, 1, 0, 0, 0), (201, none, .getfield 398, 3, 565, 129, 12), (204, none, .bipush 40, 2, 0, 40, 0), (206, none, .iload 4, 2, 0, 0, 0), (208, none, .imul, 1, 0, 0, 0), (209, none, .iload 5, 2, 0, 0, 0), (211, none, .iadd, 1, 0, 0, 0), (212, none, .aload_n 0, 1, 0, 0, 0), (213, none, .getfield 398, 3, 565, 129, 12), (216, none, .bipush 40, 2, 0, 40, 0), (218, none, .iload 4, 2, 0, 0, 0), (220, none, .imul, 1, 0, 0, 0), (221, none, .iload 5, 2, 0, 0, 0), (223, none, .iadd, 1, 0, 0, 0), (224, none, .baload, 1, 0, 0, 0), (225, none, .ifCond .ne 33, 3, 258, 0, 0), (228, none, .aload_n 0, 1, 0, 0, 0)] := fq_of2 cd_691 ow_691 cl_691 rfl (pc := 193) (by decide +kernel)
    j_ild (pc := 193) D rfl rfl rfl fun D =>
    j_bp (pc := 195) D rfl fun D =>
    j_ige (pc := 197) D rfl (fun q D =>
      j_aldn (pc := 200) D rfl rfl rfl fun D =>
      j_gfc (pc := 201) (a := 602) D rfl rfl (by decide) rfl (s0_602 H) rfl (sf_565_602 H) fun D =>
      j_bp (pc := 204) D rfl fun D =>
      j_ild (pc := 206) D rfl rfl rfl fun D =>
      j_imul (pc := 208) D rfl fun D =>
      j_ild (pc := 209) D rfl rfl rfl fun D =>
      j_iadd (pc := 211) D rfl fun D =>
      j_aldn (pc := 212) D rfl rfl rfl fun D =>
      j_gfc (pc := 213) (a := 602) D rfl rfl (by decide) rfl (s0_602 H) rfl (sf_565_602 H) fun D =>
      j_bp (pc := 216) D rfl fun D =>
      j_ild (pc := 218) D rfl rfl rfl fun D =>
      j_imul (pc := 220) D rfl fun D =>
      j_ild (pc := 221) D rfl rfl rfl fun D =>
      j_iadd (pc := 223) D rfl fun D =>
      j_al (pc := 224) (a := 711) (e := 4) D rfl rfl rfl (by decide) (s0_711 H) (s1_711 H) ⟨rfl, rfl, rfl⟩ rfl gn fun qb1 D =>
      j_ifne (pc := 225) D rfl (fun q D =>
        j_aldn (pc := 228) D rfl rfl rfl fun D =>
        have D : fk_D 691 [(229, none, .getfield 398, 3, 565, 129, 12), (232, none, .bipush 40, 2, 0, 40, 0), (234, none, .iload 4, 2, 0, 0, 0), (236, none, .imul, 1, 0, 0, 0), (237, none, .iload_n 3, 1, 0, 0, 0), (238, none, .iadd, 1, 0, 0, 0), (239, none, .baload, 1, 0, 0, 0), (240, none, .ifCond .eq 22, 3, 262, 0, 0), (243, none, .aload_n 0, 1, 0, 0, 0), (244, none, .getfield 398, 3, 565, 129, 12), (247, none, .bipush 40, 2, 0, 40, 0), (249, none, .iload_n 3, 1, 0, 0, 0), (250, none, .imul, 1, 0, 0, 0), (251, none, .iload 5, 2, 0, 0, 0), (253, none, .iadd, 1, 0, 0, 0), (254, none, .baload, 1, 0, 0, 0), (255, none, .ifCond .eq 7, 3, 262, 0, 0)] := fq_of2 cd_691 ow_691 cl_691 rfl (pc := 229) (by decide +kernel)
        j_gfc (pc := 229) (a := 602) D rfl rfl (by decide) rfl (s0_602 H) rfl (sf_565_602 H) fun D =>
        j_bp (pc := 232) D rfl fun D =>
        j_ild (pc := 234) D rfl rfl rfl fun D =>
        j_imul (pc := 236) D rfl fun D =>
        j_ildn (pc := 237) D rfl rfl rfl fun D =>
        j_iadd (pc := 238) D rfl fun D =>
        j_al (pc := 239) (a := 711) (e := 4) D rfl rfl rfl (by decide) (s0_711 H) (s1_711 H) ⟨rfl, rfl, rfl⟩ rfl gn fun qb2 D =>
        j_ifeq (pc := 240) D rfl (fun q =>
          fk_jump cut_691_262 rfl rfl) (fun q D =>
          j_aldn (pc := 243) D rfl rfl rfl fun D =>
          j_gfc (pc := 244) (a := 602) D rfl rfl (by decide) rfl (s0_602 H) rfl (sf_565_602 H) fun D =>
          j_bp (pc := 247) D rfl fun D =>
          j_ildn (pc := 249) D rfl rfl rfl fun D =>
          j_imul (pc := 250) D rfl fun D =>
          j_ild (pc := 251) D rfl rfl rfl fun D =>
          j_iadd (pc := 253) D rfl fun D =>
          j_al (pc := 254) (a := 711) (e := 4) D rfl rfl rfl (by decide) (s0_711 H) (s1_711 H) ⟨rfl, rfl, rfl⟩ rfl gn fun qb3 D =>
          j_ifeq (pc := 255) D rfl (fun q =>
            fk_jump cut_691_262 rfl rfl) (fun q D =>
            fk_jump cut_691_258 rfl rfl))) (fun q =>
        fk_jump cut_691_258 rfl rfl)) (fun q =>
      have D : fk_D 691 [(270, none, .iinc 4 1, 3, 0, 1, 0), (273, none, .goto (-90), 3, 183, 0, 0)] := fq_of2 cd_691 ow_691 cl_691 rfl (pc := 270) (by decide +kernel)
      j_inc (pc := 270) (L' := [(4, (0, wI (x4 + 1))), (0, (4, 602)), (3, (0, x3)), (5, (0, x5))]) D rfl rfl rfl (by decide +kernel) rfl fun D =>
      j_goto (pc := 273) D rfl <|
      fk_jump cut_691_183 rfl rfl)
theorem e_691_258 (d : Nat) (x3 x4 x5 s0 s1 : Int) {h : fi_H} (H : Shp h) : c_691_258 d x3 x4 x5 s0 s1 h =
  c_691_263 d x3 x4 x5 s0 s1 1 h := by
  unfold c_691_258
  exact
    have D : fk_D 691 [(258, some [0, 3, 4, 5], .iconst 1, 1, 0, 1, 0), (259, none, .goto 4, 3, 263, 0, 0)] := fq_of2 cd_691 ow_691 cl_691 rfl (pc := 258) (by decide +kernel)
    j_ic (pc := 258) D rfl fun D =>
    j_goto (pc := 259) D rfl <|
    fk_jump cut_691_263 rfl rfl
theorem e_691_262 (d : Nat) (x3 x4 x5 s0 s1 : Int) {h : fi_H} (H : Shp h) : c_691_262 d x3 x4 x5 s0 s1 h =
  c_691_263 d x3 x4 x5 s0 s1 0 h := by
  unfold c_691_262
  exact
    have D : fk_D 691 [(262, some [0, 3, 4, 5], .iconst 0, 1, 0, 0, 0)] := fq_of2 cd_691 ow_691 cl_691 rfl (pc := 262) (by decide +kernel)
    j_ic (pc := 262) D rfl fun D =>
    fk_jump cut_691_263 rfl rfl
theorem e_691_263 (d : Nat) (x3 x4 x5 s0 s1 s2 : Int) {h : fi_H} (H : Shp h) : c_691_263 d x3 x4 x5 s0 s1 s2 h =
  if 302 < s0 ∧ fi_et 1 (h 0 s0.toNat 0) ≠ 0 then
  if 0 ≤ s1 ∧ s1 < h 1 s0.toNat 0 then
  if fi_rg (fi_et 1 (h 0 s0.toNat 0)) s2 = true then
  lt_ (fi_upd h (fi_et 1 (h 0 s0.toNat 0)) s0.toNat s1.toNat s2) fun h1 =>
  c_691_193 d x3 x4 (wI (x5 + 1)) h1
  else none
  else none
  else none := by
  unfold c_691_263
  exact
    have D : fk_D 691 [(263, some [0, 3, 4, 5], .bastore, 1, 0, 0, 0), (264, none, .iinc 5 1, 3, 0, 1, 0), (267, none, .goto (-74), 3, 193, 0, 0)] := fq_of2 cd_691 ow_691 cl_691 rfl (pc := 263) (by decide +kernel)
    j_asub (pc := 263) D rfl rfl gn gn gn fun h1 eh1 S q q2 D =>
    have T := fj_hs_ok H.1 S
    have H := shp_st H T
    j_inc (pc := 264) (L' := [(5, (0, wI (x5 + 1))), (0, (4, 602)), (3, (0, x3)), (4, (0, x4))]) D rfl rfl rfl (by decide +kernel) rfl fun D =>
    j_goto (pc := 267) D rfl <|
    fk_jump cut_691_193 rfl rfl
theorem e_691_284 (d : Nat) (x3 : Int) {h : fi_H} (H : Shp h) : c_691_284 d x3 h =
  if x3 < h 413 602 0 then
    if 0 ≤ wI (41 * x3) ∧ wI (41 * x3) < 1600 then
    if h 4 711 (wI (41 * x3)).toNat = 0 then
      c_691_284 d (wI (x3 + 1)) h
    else
      some (.inl (some (0, x3)), h)
    else none
  else
    some (.inl (some (0, (-1))), h) := by
  unfold c_691_284
  exact
    have D : fk_D 691 [(284, some [0, 3], .iload_n 3, 1, 0, 0, 0), (285, none, .aload_n 0, 1, 0, 0, 0), (286, none, .getfield 579, 3, 413, 129, 10), (289, none, .if_icmp .ge 23, 3, 312, 0, 0), (292, none, .aload_n 0, 1, 0, 0, 0), (293, none, .getfield 398, 3, 565, 129, 12), (296, none, .bipush 41, 2, 0, 41, 0), (298, none, .iload_n 3, 1, 0, 0, 0), (299, none, .imul, 1, 0, 0, 0), (300, none, .baload, 1, 0, 0, 0), (301, none, .ifCond .eq 5, 3, 306, 0, 0), (304, none, .iload_n 3, 1, 0, 0, 0), (305, none, .ireturn, 1, 0, 0, 0)] := fq_of2 cd_691 ow_691 cl_691 rfl (pc := 284) (by decide +kernel)
    j_ildn (pc := 284) D rfl rfl rfl fun D =>
    j_aldn (pc := 285) D rfl rfl rfl fun D =>
    j_gf (pc := 286) (a := 602) D rfl rfl (by decide) rfl (s0_602 H) rfl fun D =>
    j_ige (pc := 289) D rfl (fun q D =>
      j_aldn (pc := 292) D rfl rfl rfl fun D =>
      j_gfc (pc := 293) (a := 602) D rfl rfl (by decide) rfl (s0_602 H) rfl (sf_565_602 H) fun D =>
      j_bp (pc := 296) D rfl fun D =>
      j_ildn (pc := 298) D rfl rfl rfl fun D =>
      j_imul (pc := 299) D rfl fun D =>
      j_al (pc := 300) (a := 711) (e := 4) D rfl rfl rfl (by decide) (s0_711 H) (s1_711 H) ⟨rfl, rfl, rfl⟩ rfl gn fun qb1 D =>
      j_ifeq (pc := 301) D rfl (fun q =>
        have D : fk_D 691 [(306, none, .iinc 3 1, 3, 0, 1, 0), (309, none, .goto (-25), 3, 284, 0, 0)] := fq_of2 cd_691 ow_691 cl_691 rfl (pc := 306) (by decide +kernel)
        j_inc (pc := 306) (L' := [(3, (0, wI (x3 + 1))), (0, (4, 602))]) D rfl rfl rfl (by decide +kernel) rfl fun D =>
        j_goto (pc := 309) D rfl <|
        fk_jump cut_691_284 rfl rfl) (fun q D =>
        j_ildn (pc := 304) D rfl rfl rfl fun D =>
        j_iret D rt_691)) (fun q =>
      have D : fk_D 691 [(312, none, .iconst (-1), 1, 0, (-1), 0), (313, none, .ireturn, 1, 0, 0, 0)] := fq_of2 cd_691 ow_691 cl_691 rfl (pc := 312) (by decide +kernel)
      j_ic (pc := 312) D rfl fun D =>
      j_iret D rt_691)
theorem m_691 (d : Nat) (x1 x2 : Int) {h : fi_H} (H : Shp h) : fj_run (d + 1) 691 h [(4, 602), (0, x1), (0, x2)] =
  ca_ (fj_run d 525 h [(4, 602), (0, x1)]) 0
    (fun v2 h1 =>
    if v2 = 0 then
      some (.inl (some (0, (-2))), h1)
    else
      ca_ (fj_run d 520 h1 [(1, wI x2)]) 0
        (fun v5 h4 =>
        if v5 = 0 then
          some (.inl (some (0, (-2))), h4)
        else
          cv_ (fj_run d 607 h4 [(4, 602), (0, 12), (0, x1), (0, x2), (0, h4 449 602 0)])
            (fun h7 =>
            c_691_33 d 0 h7)
            (fun q9 h7 => tx_ q9 h7))
        (fun q6 h4 => tx_ q6 h4))
    (fun q3 h1 => tx_ q3 h1) := by
  rw [fj_run_eq d (by decide) h [(4, 602), (0, x1), (0, x2)] (Nat.le_of_ble_eq_true (by rw [nl_691]; rfl))]
  show gG (fj_run d) 691 0 [(0, (4, 602)), (1, (0, x1)), (2, (0, x2))] [] h = _
  exact
    have D : fk_D 691 [(0, none, .aload_n 0, 1, 0, 0, 0), (1, none, .iload_n 1, 1, 0, 0, 0), (2, none, .invokevirtual 823, 3, 1, 399, 1), (5, none, .ifCond .eq 11, 3, 16, 0, 0), (8, none, .iload_n 2, 1, 0, 0, 0), (9, none, .i2l, 1, 0, 0, 0), (10, none, .invokestatic 456, 3, 1, 520, 1), (13, none, .ifCond .ne 6, 3, 19, 0, 0), (16, none, .bipush (-2), 2, 0, (-2), 0), (18, none, .ireturn, 1, 0, 0, 0)] := fq_of2 cd_691 ow_691 cl_691 rfl (pc := 0) (by decide +kernel)
    j_aldn (pc := 0) D rfl rfl rfl fun D =>
    j_ildn (pc := 1) D rfl rfl rfl fun D =>
    j_iv (pc := 2) (m := 525) (dd := 399) (a := [(0, x1)]) (rest := []) D rfl rfl rfl rfl rfl (by decide) (s0_602 H) (by decide +kernel) (fun v2 h1 e1 D =>
      have T := fj_run_ok _ _ _ _ _ _ H.1 e1
      have H := shp_st H T
      j_ifeq (pc := 5) D rfl (fun q =>
        have D : fk_D 691 [(16, none, .bipush (-2), 2, 0, (-2), 0), (18, none, .ireturn, 1, 0, 0, 0)] := fq_of2 cd_691 ow_691 cl_691 rfl (pc := 16) (by decide +kernel)
        j_bp (pc := 16) D rfl fun D =>
        j_iret D rt_691) (fun q D =>
        j_ildn (pc := 8) D rfl rfl rfl fun D =>
        j_i2l (pc := 9) D rfl fun D =>
        j_is (pc := 10) (m := 520) (a := [(1, wI x2)]) (rest := []) D rfl rfl rfl rfl (fun v5 h4 e1 D =>
          have T := fj_run_ok _ _ _ _ _ _ H.1 e1
          have H := shp_st H T
          j_ifne (pc := 13) D rfl (fun q D =>
            j_bp (pc := 16) D rfl fun D =>
            j_iret D rt_691) (fun q =>
            have D : fk_D 691 [(19, none, .aload_n 0, 1, 0, 0, 0), (20, none, .bipush 12, 2, 0, 12, 0), (22, none, .iload_n 1, 1, 0, 0, 0), (23, none, .iload_n 2, 1, 0, 0, 0), (24, none, .aload_n 0, 1, 0, 0, 0), (25, none, .getfield 141, 3, 449, 129, 10), (28, none, .invokevirtual 896, 3, 4, 407, 0), (31, none, .iconst 0, 1, 0, 0, 0), (32, none, .istore_n 3, 1, 0, 0, 0)] := fq_of2 cd_691 ow_691 cl_691 rfl (pc := 19) (by decide +kernel)
            j_aldn (pc := 19) D rfl rfl rfl fun D =>
            j_bp (pc := 20) D rfl fun D =>
            j_ildn (pc := 22) D rfl rfl rfl fun D =>
            j_ildn (pc := 23) D rfl rfl rfl fun D =>
            j_aldn (pc := 24) D rfl rfl rfl fun D =>
            j_gf (pc := 25) (a := 602) D rfl rfl (by decide) rfl (s0_602 H) rfl fun D =>
            j_ivv (pc := 28) (m := 607) (dd := 407) (a := [(0, 12), (0, x1), (0, x2), (0, h4 449 602 0)]) (rest := []) D rfl rfl rfl rfl rfl (by decide) (s0_602 H) (by decide +kernel) (fun h7 e1 D =>
              have T := fj_run_ok _ _ _ _ _ _ H.1 e1
              have H := shp_st H T
              j_ic (pc := 31) D rfl fun D =>
              j_istn (pc := 32) (L' := [(3, (0, 0)), (0, (4, 602)), (1, (0, x1)), (2, (0, x2))]) D rfl nl_691 rfl rfl fun D =>
              fk_jump cut_691_33 rfl rfl) (fun q9 h7 e1 =>
              j_tx (hx_691 _)))) (fun q6 h4 e1 =>
          j_tx (hx_691 _)))) (fun q3 h1 e1 =>
      j_tx (hx_691 _))
/-! 692 StatuteHouseModel.follow(II)V -/
theorem cd_692 : fi_code 692 = prog_69_method_209_code := rfl
theorem hx_692 : ∀ pc, fi_hat 692 pc = none := fun pc => by unfold fi_hat; rw [show fi_hh 692 = [] from rfl]; rfl
theorem rt_692 : fi_ret 692 = none := rfl
theorem nl_692 : fi_nl 692 = 4 := rfl
theorem ow_692 : fi_ow 692 = 29 := rfl
theorem cl_692 : fj_cutT.getD 692 [] = [(101, [0, 1, 2])] := rfl
theorem cut_692_101 : fj_cut 692 101 = some [0, 1, 2] := by decide +kernel
noncomputable def c_692_101 (d : Nat) (x1 x2 : Int) (h : fi_H) : fk_R := gG (fj_run d) 692 101 [(0, (4, 602)), (1, (0, x1)), (2, (0, x2))] [] h
theorem e_692_101 (d : Nat) (x1 x2 : Int) {h : fi_H} (H : Shp h) : c_692_101 d x1 x2 h =
  if 0 ≤ x2 ∧ x2 < 9300 then
  cv_ (fj_run d 692 h [(4, 602), (0, x1), (0, h 10 620 x2.toNat)])
    (fun h2 =>
    cv_ (fj_run d 692 h2 [(4, 602), (0, x1), (0, h2 10 621 x2.toNat)])
      (fun h5 =>
      some (.inl none, h5))
      (fun q7 h5 => tx_ q7 h5))
    (fun q4 h2 => tx_ q4 h2)
  else none := by
  unfold c_692_101
  exact
    have D : fk_D 692 [(101, some [0, 1, 2], .aload_n 0, 1, 0, 0, 0), (102, none, .iload_n 1, 1, 0, 0, 0), (103, none, .aload_n 0, 1, 0, 0, 0), (104, none, .getfield 71, 3, 421, 129, 12), (107, none, .iload_n 2, 1, 0, 0, 0), (108, none, .iaload, 1, 0, 0, 0), (109, none, .invokevirtual 1268, 3, 2, 474, 0), (112, none, .aload_n 0, 1, 0, 0, 0), (113, none, .iload_n 1, 1, 0, 0, 0), (114, none, .aload_n 0, 1, 0, 0, 0), (115, none, .getfield 74, 3, 422, 129, 12), (118, none, .iload_n 2, 1, 0, 0, 0), (119, none, .iaload, 1, 0, 0, 0), (120, none, .invokevirtual 1268, 3, 2, 474, 0), (123, none, .return_, 1, 0, 0, 0)] := fq_of2 cd_692 ow_692 cl_692 rfl (pc := 101) (by decide +kernel)
    j_aldn (pc := 101) D rfl rfl rfl fun D =>
    j_ildn (pc := 102) D rfl rfl rfl fun D =>
    j_aldn (pc := 103) D rfl rfl rfl fun D =>
    j_gfc (pc := 104) (a := 602) D rfl rfl (by decide) rfl (s0_602 H) rfl (sf_421_602 H) fun D =>
    j_ildn (pc := 107) D rfl rfl rfl fun D =>
    j_al (pc := 108) (a := 620) (e := 10) D rfl rfl rfl (by decide) (s0_620 H) (s1_620 H) ⟨rfl, rfl, rfl⟩ rfl gn fun qb1 D =>
    j_ivv (pc := 109) (m := 692) (dd := 474) (a := [(0, x1), (0, h 10 620 x2.toNat)]) (rest := []) D rfl rfl rfl rfl rfl (by decide) (s0_602 H) (by decide +kernel) (fun h2 e1 D =>
      have T := fj_run_ok _ _ _ _ _ _ H.1 e1
      have H := shp_st H T
      j_aldn (pc := 112) D rfl rfl rfl fun D =>
      j_ildn (pc := 113) D rfl rfl rfl fun D =>
      j_aldn (pc := 114) D rfl rfl rfl fun D =>
      j_gfc (pc := 115) (a := 602) D rfl rfl (by decide) rfl (s0_602 H) rfl (sf_422_602 H) fun D =>
      j_ildn (pc := 118) D rfl rfl rfl fun D =>
      j_al (pc := 119) (a := 621) (e := 10) D rfl rfl rfl (by decide) (s0_621 H) (s1_621 H) ⟨rfl, rfl, rfl⟩ rfl (gy qb1) fun q D =>
      j_ivv (pc := 120) (m := 692) (dd := 474) (a := [(0, x1), (0, h2 10 621 x2.toNat)]) (rest := []) D rfl rfl rfl rfl rfl (by decide) (s0_602 H) (by decide +kernel) (fun h5 e1 D =>
        have T := fj_run_ok _ _ _ _ _ _ H.1 e1
        have H := shp_st H T
        j_vret D rt_692) (fun q7 h5 e1 =>
        j_tx (hx_692 _))) (fun q4 h2 e1 =>
      j_tx (hx_692 _))
theorem m_692 (d : Nat) (x1 x2 : Int) {h : fi_H} (H : Shp h) : fj_run (d + 1) 692 h [(4, 602), (0, x1), (0, x2)] =
  if x2 = (-1) then
    some (.inl none, h)
  else
    if 0 ≤ x2 ∧ x2 < 9300 then
    if h 10 617 x2.toNat = 18 then
      some (.inl none, h)
    else
      if h 10 617 x2.toNat = 22 then
        if 0 ≤ wI (h 11 623 x2.toNat) ∧ wI (h 11 623 x2.toNat) < 41 then
        if h 10 610 (wI (h 11 623 x2.toNat)).toNat = 1 then
          if 0 ≤ wI ((wI (40 * x1)) + (wI (h 11 623 x2.toNat))) ∧ wI ((wI (40 * x1)) + (wI (h 11 623 x2.toNat))) < 1600 then
          lt_ (fi_upd h 4 711 (wI ((wI (40 * x1)) + (wI (h 11 623 x2.toNat)))).toNat 1) fun h3 =>
          some (.inl none, h3)
          else none
        else
          some (.inl none, h)
        else none
      else
        if h 10 617 x2.toNat < 60 then
          if h 10 617 x2.toNat = 16 then
            c_692_101 d x1 x2 h
          else
            if h 10 617 x2.toNat = 17 then
              c_692_101 d x1 x2 h
            else
              if h 10 617 x2.toNat = 24 then
                c_692_101 d x1 x2 h
              else
                cv_ (fj_run d 692 h [(4, 602), (0, x1), (0, h 10 619 x2.toNat)])
                  (fun h5 =>
                  c_692_101 d x1 x2 h5)
                  (fun q7 h5 => tx_ q7 h5)
        else
          some (.inl none, h)
    else none := by
  rw [fj_run_eq d (by decide) h [(4, 602), (0, x1), (0, x2)] (Nat.le_of_ble_eq_true (by rw [nl_692]; rfl))]
  show gG (fj_run d) 692 0 [(0, (4, 602)), (1, (0, x1)), (2, (0, x2))] [] h = _
  exact
    have D : fk_D 692 [(0, none, .iload_n 2, 1, 0, 0, 0), (1, none, .iconst (-1), 1, 0, (-1), 0), (2, none, .if_icmp .eq 14, 3, 16, 0, 0), (5, none, .aload_n 0, 1, 0, 0, 0), (6, none, .getfield 62, 3, 418, 129, 12), (9, none, .iload_n 2, 1, 0, 0, 0), (10, none, .iaload, 1, 0, 0, 0), (11, none, .bipush 18, 2, 0, 18, 0), (13, none, .if_icmp .ne 4, 3, 17, 0, 0), (16, none, .return_, 1, 0, 0, 0)] := fq_of2 cd_692 ow_692 cl_692 rfl (pc := 0) (by decide +kernel)
    j_ildn (pc := 0) D rfl rfl rfl fun D =>
    j_ic (pc := 1) D rfl fun D =>
    j_ieq (pc := 2) D rfl (fun q =>
      have D : fk_D 692 [(16, none, .return_, 1, 0, 0, 0)] := fq_of2 cd_692 ow_692 cl_692 rfl (pc := 16) (by decide +kernel)
      j_vret D rt_692) (fun q D =>
      j_aldn (pc := 5) D rfl rfl rfl fun D =>
      j_gfc (pc := 6) (a := 602) D rfl rfl (by decide) rfl (s0_602 H) rfl (sf_418_602 H) fun D =>
      j_ildn (pc := 9) D rfl rfl rfl fun D =>
      j_al (pc := 10) (a := 617) (e := 10) D rfl rfl rfl (by decide) (s0_617 H) (s1_617 H) ⟨rfl, rfl, rfl⟩ rfl gn fun qb1 D =>
      j_bp (pc := 11) D rfl fun D =>
      j_ine (pc := 13) D rfl (fun q D =>
        j_vret D rt_692) (fun q =>
        have D : fk_D 692 [(17, none, .aload_n 0, 1, 0, 0, 0), (18, none, .getfield 62, 3, 418, 129, 12), (21, none, .iload_n 2, 1, 0, 0, 0), (22, none, .iaload, 1, 0, 0, 0), (23, none, .istore_n 3, 1, 0, 0, 0), (24, none, .iload_n 3, 1, 0, 0, 0), (25, none, .bipush 22, 2, 0, 22, 0), (27, none, .if_icmp .ne 38, 3, 65, 0, 0), (30, none, .aload_n 0, 1, 0, 0, 0), (31, none, .getfield 40, 3, 406, 129, 12), (34, none, .aload_n 0, 1, 0, 0, 0), (35, none, .getfield 80, 3, 424, 129, 12), (38, none, .iload_n 2, 1, 0, 0, 0), (39, none, .laload, 1, 0, 0, 0), (40, none, .l2i, 1, 0, 0, 0), (41, none, .iaload, 1, 0, 0, 0), (42, none, .iconst 1, 1, 0, 1, 0), (43, none, .if_icmp .ne 21, 3, 64, 0, 0), (46, none, .aload_n 0, 1, 0, 0, 0), (47, none, .getfield 398, 3, 565, 129, 12)] := fq_of2 cd_692 ow_692 cl_692 rfl (pc := 17) (by decide +kernel)
        j_aldn (pc := 17) D rfl rfl rfl fun D =>
        j_gfc (pc := 18) (a := 602) D rfl rfl (by decide) rfl (s0_602 H) rfl (sf_418_602 H) fun D =>
        j_ildn (pc := 21) D rfl rfl rfl fun D =>
        j_al (pc := 22) (a := 617) (e := 10) D rfl rfl rfl (by decide) (s0_617 H) (s1_617 H) ⟨rfl, rfl, rfl⟩ rfl (gy qb1) fun q D =>
        j_istn (pc := 23) (L' := [(3, (0, h 10 617 x2.toNat)), (0, (4, 602)), (1, (0, x1)), (2, (0, x2))]) D rfl nl_692 rfl rfl fun D =>
        j_ildn (pc := 24) D rfl rfl rfl fun D =>
        j_bp (pc := 25) D rfl fun D =>
        j_ine (pc := 27) D rfl (fun q D =>
          j_aldn (pc := 30) D rfl rfl rfl fun D =>
          j_gfc (pc := 31) (a := 602) D rfl rfl (by decide) rfl (s0_602 H) rfl (sf_406_602 H) fun D =>
          j_aldn (pc := 34) D rfl rfl rfl fun D =>
          j_gfc (pc := 35) (a := 602) D rfl rfl (by decide) rfl (s0_602 H) rfl (sf_424_602 H) fun D =>
          j_ildn (pc := 38) D rfl rfl rfl fun D =>
          j_al (pc := 39) (a := 623) (e := 11) D rfl rfl rfl (by decide) (s0_623 H) (s1_623 H) ⟨rfl, rfl, rfl⟩ rfl (gy qb1) fun q D =>
          j_l2i (pc := 40) D rfl fun D =>
          j_al (pc := 41) (a := 610) (e := 10) D rfl rfl rfl (by decide) (s0_610 H) (s1_610 H) ⟨rfl, rfl, rfl⟩ rfl gn fun qb2 D =>
          j_ic (pc := 42) D rfl fun D =>
          j_ine (pc := 43) D rfl (fun q D =>
            j_aldn (pc := 46) D rfl rfl rfl fun D =>
            j_gfc (pc := 47) (a := 602) D rfl rfl (by decide) rfl (s0_602 H) rfl (sf_565_602 H) fun D =>
            have D : fk_D 692 [(50, none, .bipush 40, 2, 0, 40, 0), (52, none, .iload_n 1, 1, 0, 0, 0), (53, none, .imul, 1, 0, 0, 0), (54, none, .aload_n 0, 1, 0, 0, 0), (55, none, .getfield 80, 3, 424, 129, 12), (58, none, .iload_n 2, 1, 0, 0, 0), (59, none, .laload, 1, 0, 0, 0), (60, none, .l2i, 1, 0, 0, 0), (61, none, .iadd, 1, 0, 0, 0), (62, none, .iconst 1, 1, 0, 1, 0), (63, none, .bastore, 1, 0, 0, 0), (64, none, .return_, 1, 0, 0, 0)] := fq_of2 cd_692 ow_692 cl_692 rfl (pc := 50) (by decide +kernel)
            j_bp (pc := 50) D rfl fun D =>
            j_ildn (pc := 52) D rfl rfl rfl fun D =>
            j_imul (pc := 53) D rfl fun D =>
            j_aldn (pc := 54) D rfl rfl rfl fun D =>
            j_gfc (pc := 55) (a := 602) D rfl rfl (by decide) rfl (s0_602 H) rfl (sf_424_602 H) fun D =>
            j_ildn (pc := 58) D rfl rfl rfl fun D =>
            j_al (pc := 59) (a := 623) (e := 11) D rfl rfl rfl (by decide) (s0_623 H) (s1_623 H) ⟨rfl, rfl, rfl⟩ rfl (gy qb1) fun q D =>
            j_l2i (pc := 60) D rfl fun D =>
            j_iadd (pc := 61) D rfl fun D =>
            j_ic (pc := 62) D rfl fun D =>
            j_as (pc := 63) (a := 711) (e := 4) D rfl ⟨rfl, rfl⟩ rfl (by decide) (s0_711 H) (s1_711 H) ⟨rfl, rfl, rfl⟩ rfl gn (gy (by decide)) fun h3 eh3 S qb4 D =>
            have T := fj_hs_ok H.1 S
            have H := shp_st H T
            j_vret D rt_692) (fun q =>
            have D : fk_D 692 [(64, none, .return_, 1, 0, 0, 0)] := fq_of2 cd_692 ow_692 cl_692 rfl (pc := 64) (by decide +kernel)
            j_vret D rt_692)) (fun q =>
          have D : fk_D 692 [(65, none, .iload_n 3, 1, 0, 0, 0), (66, none, .bipush 60, 2, 0, 60, 0), (68, none, .if_icmp .lt 4, 3, 72, 0, 0), (71, none, .return_, 1, 0, 0, 0)] := fq_of2 cd_692 ow_692 cl_692 rfl (pc := 65) (by decide +kernel)
          j_ildn (pc := 65) D rfl rfl rfl fun D =>
          j_bp (pc := 66) D rfl fun D =>
          j_ilt (pc := 68) D rfl (fun q =>
            have D : fk_D 692 [(72, none, .iload_n 3, 1, 0, 0, 0), (73, none, .bipush 16, 2, 0, 16, 0), (75, none, .if_icmp .eq 26, 3, 101, 0, 0), (78, none, .iload_n 3, 1, 0, 0, 0), (79, none, .bipush 17, 2, 0, 17, 0), (81, none, .if_icmp .eq 20, 3, 101, 0, 0), (84, none, .iload_n 3, 1, 0, 0, 0), (85, none, .bipush 24, 2, 0, 24, 0), (87, none, .if_icmp .eq 14, 3, 101, 0, 0), (90, none, .aload_n 0, 1, 0, 0, 0), (91, none, .iload_n 1, 1, 0, 0, 0), (92, none, .aload_n 0, 1, 0, 0, 0), (93, none, .getfield 68, 3, 420, 129, 12), (96, none, .iload_n 2, 1, 0, 0, 0), (97, none, .iaload, 1, 0, 0, 0), (98, none, .invokevirtual 1268, 3, 2, 474, 0)] := fq_of2 cd_692 ow_692 cl_692 rfl (pc := 72) (by decide +kernel)
            j_ildn (pc := 72) D rfl rfl rfl fun D =>
            j_bp (pc := 73) D rfl fun D =>
            j_ieq (pc := 75) D rfl (fun q =>
              fk_jump cut_692_101 rfl rfl) (fun q D =>
              j_ildn (pc := 78) D rfl rfl rfl fun D =>
              j_bp (pc := 79) D rfl fun D =>
              j_ieq (pc := 81) D rfl (fun q =>
                fk_jump cut_692_101 rfl rfl) (fun q D =>
                j_ildn (pc := 84) D rfl rfl rfl fun D =>
                j_bp (pc := 85) D rfl fun D =>
                j_ieq (pc := 87) D rfl (fun q =>
                  fk_jump cut_692_101 rfl rfl) (fun q D =>
                  j_aldn (pc := 90) D rfl rfl rfl fun D =>
                  j_ildn (pc := 91) D rfl rfl rfl fun D =>
                  j_aldn (pc := 92) D rfl rfl rfl fun D =>
                  j_gfc (pc := 93) (a := 602) D rfl rfl (by decide) rfl (s0_602 H) rfl (sf_420_602 H) fun D =>
                  j_ildn (pc := 96) D rfl rfl rfl fun D =>
                  j_al (pc := 97) (a := 619) (e := 10) D rfl rfl rfl (by decide) (s0_619 H) (s1_619 H) ⟨rfl, rfl, rfl⟩ rfl (gy qb1) fun q D =>
                  j_ivv (pc := 98) (m := 692) (dd := 474) (a := [(0, x1), (0, h 10 619 x2.toNat)]) (rest := []) D rfl rfl rfl rfl rfl (by decide) (s0_602 H) (by decide +kernel) (fun h5 e1 D =>
                    have T := fj_run_ok _ _ _ _ _ _ H.1 e1
                    have H := shp_st H T
                    fk_jump cut_692_101 rfl rfl) (fun q7 h5 e1 =>
                    j_tx (hx_692 _)))))) (fun q D =>
            j_vret D rt_692))))
/-! 693 StatuteHouseModel.annul(III)I -/
theorem cd_693 : fi_code 693 = prog_69_method_211_code := rfl
theorem hx_693 : ∀ pc, fi_hat 693 pc = none := fun pc => by unfold fi_hat; rw [show fi_hh 693 = [] from rfl]; rfl
theorem rt_693 : fi_ret 693 = some .int := rfl
theorem nl_693 : fi_nl 693 = 7 := rfl
theorem ow_693 : fi_ow 693 = 29 := rfl
theorem cl_693 : fj_cutT.getD 693 [] = [(29, [0, 1, 2, 3, 4, 5]), (93, [0, 1, 2, 3, 4, 5])] := rfl
theorem cut_693_29 : fj_cut 693 29 = some [0, 1, 2, 3, 4, 5] := by decide +kernel
noncomputable def c_693_29 (d : Nat) (x1 x2 x3 x4 x5 : Int) (h : fi_H) : fk_R := gG (fj_run d) 693 29 [(0, (4, 602)), (1, (0, x1)), (2, (0, x2)), (3, (0, x3)), (4, (0, x4)), (5, (0, x5))] [] h
theorem cut_693_93 : fj_cut 693 93 = some [0, 1, 2, 3, 4, 5] := by decide +kernel
noncomputable def c_693_93 (d : Nat) (x1 x2 x3 x4 x5 : Int) (h : fi_H) : fk_R := gG (fj_run d) 693 93 [(0, (4, 602)), (1, (0, x1)), (2, (0, x2)), (3, (0, x3)), (4, (0, x4)), (5, (0, x5))] [] h
theorem e_693_29 (d : Nat) (x1 x2 x3 x4 x5 : Int) {h : fi_H} (H : Shp h) : c_693_29 d x1 x2 x3 x4 x5 h =
  if x5 < h 10 647 12 then
    if 0 ≤ wI (2400 + x5) ∧ wI (2400 + x5) < 3200 then
    if 0 ≤ h 10 646 (wI (2400 + x5)).toNat ∧ h 10 646 (wI (2400 + x5)).toNat < 240 then
    if h 10 635 (h 10 646 (wI (2400 + x5)).toNat).toNat = x1 then
      ca_ (fj_run d 508 h [(1, wI x2), (1, 1), (1, wI (h 10 638 (h 10 646 (wI (2400 + x5)).toNat).toNat))]) 0
        (fun v4 h3 =>
        if v4 = 0 then
          c_693_93 d x1 x2 x3 x4 x5 h3
        else
          ca_ (fj_run d 610 h3 [(4, 602), (0, 12), (0, h 10 646 (wI (2400 + x5)).toNat), (0, x2)]) 0
            (fun v7 h6 =>
            c_693_93 d x1 x2 x3 v7 x5 h6)
            (fun q8 h6 => tx_ q8 h6))
        (fun q5 h3 => tx_ q5 h3)
    else
      c_693_93 d x1 x2 x3 x4 x5 h
    else none
    else none
  else
    if x4 = (-1) then
      some (.inl (some (0, (-1))), h)
    else
      if h 453 602 0 = 40 then
        some (.inl (some (0, (-4))), h)
      else
        if 0 ≤ h 453 602 0 ∧ h 453 602 0 < 40 then
        lt_ (fi_upd h 10 643 (h 453 602 0).toNat x4) fun h9 =>
        if 0 ≤ h9 453 602 0 ∧ h9 453 602 0 < 40 then
        lt_ (fi_upd h9 10 644 (h9 453 602 0).toNat x3) fun h11 =>
        if 0 ≤ h11 453 602 0 ∧ h11 453 602 0 < 40 then
        lt_ (fi_upd h11 10 645 (h11 453 602 0).toNat (h11 449 602 0)) fun h13 =>
        lt_ (fi_upd h13 453 602 0 (wI ((h13 453 602 0) + 1))) fun h15 =>
        some (.inl (some (0, h15 453 602 0)), h15)
        else none
        else none
        else none := by
  unfold c_693_29
  exact
    have D : fk_D 693 [(29, some [0, 1, 2, 3, 4, 5], .iload 5, 2, 0, 0, 0), (31, none, .aload_n 0, 1, 0, 0, 0), (32, none, .getfield 156, 3, 455, 129, 12), (35, none, .bipush 12, 2, 0, 12, 0), (37, none, .iaload, 1, 0, 0, 0), (38, none, .if_icmp .ge 61, 3, 99, 0, 0), (41, none, .aload_n 0, 1, 0, 0, 0), (42, none, .getfield 153, 3, 454, 129, 12), (45, none, .sipush 2400, 3, 0, 2400, 0), (48, none, .iload 5, 2, 0, 0, 0), (50, none, .iadd, 1, 0, 0, 0), (51, none, .iaload, 1, 0, 0, 0), (52, none, .istore 6, 2, 0, 0, 0), (54, none, .aload_n 0, 1, 0, 0, 0), (55, none, .getfield 116, 3, 440, 129, 12), (58, none, .iload 6, 2, 0, 0, 0), (60, none, .iaload, 1, 0, 0, 0), (61, none, .iload_n 1, 1, 0, 0, 0), (62, none, .if_icmp .ne 31, 3, 93, 0, 0), (65, none, .iload_n 2, 1, 0, 0, 0)] := fq_of2 cd_693 ow_693 cl_693 rfl (pc := 29) (by decide +kernel)
    j_ild (pc := 29) D rfl rfl rfl fun D =>
    j_aldn (pc := 31) D rfl rfl rfl fun D =>
    j_gfc (pc := 32) (a := 602) D rfl rfl (by decide) rfl (s0_602 H) rfl (sf_455_602 H) fun D =>
    j_bp (pc := 35) D rfl fun D =>
    j_al (pc := 37) (a := 647) (e := 10) D rfl rfl rfl (by decide) (s0_647 H) (s1_647 H) ⟨rfl, rfl, rfl⟩ rfl (gy (by decide)) fun q D =>
    j_ige (pc := 38) D rfl (fun q D =>
      j_aldn (pc := 41) D rfl rfl rfl fun D =>
      j_gfc (pc := 42) (a := 602) D rfl rfl (by decide) rfl (s0_602 H) rfl (sf_454_602 H) fun D =>
      j_sp (pc := 45) D rfl fun D =>
      j_ild (pc := 48) D rfl rfl rfl fun D =>
      j_iadd (pc := 50) D rfl fun D =>
      j_al (pc := 51) (a := 646) (e := 10) D rfl rfl rfl (by decide) (s0_646 H) (s1_646 H) ⟨rfl, rfl, rfl⟩ rfl gn fun qb1 D =>
      j_ist (pc := 52) (L' := [(6, (0, h 10 646 (wI (2400 + x5)).toNat)), (0, (4, 602)), (1, (0, x1)), (2, (0, x2)), (3, (0, x3)), (4, (0, x4)), (5, (0, x5))]) D rfl nl_693 rfl rfl fun D =>
      j_aldn (pc := 54) D rfl rfl rfl fun D =>
      j_gfc (pc := 55) (a := 602) D rfl rfl (by decide) rfl (s0_602 H) rfl (sf_440_602 H) fun D =>
      j_ild (pc := 58) D rfl rfl rfl fun D =>
      j_al (pc := 60) (a := 635) (e := 10) D rfl rfl rfl (by decide) (s0_635 H) (s1_635 H) ⟨rfl, rfl, rfl⟩ rfl gn fun qb2 D =>
      j_ildn (pc := 61) D rfl rfl rfl fun D =>
      j_ine (pc := 62) D rfl (fun q D =>
        j_ildn (pc := 65) D rfl rfl rfl fun D =>
        have D : fk_D 693 [(66, none, .i2l, 1, 0, 0, 0), (67, none, .lconst 1, 1, 0, 0, 0), (68, none, .aload_n 0, 1, 0, 0, 0), (69, none, .getfield 125, 3, 443, 129, 12), (72, none, .iload 6, 2, 0, 0, 0), (74, none, .iaload, 1, 0, 0, 0), (75, none, .i2l, 1, 0, 0, 0), (76, none, .invokestatic 434, 3, 3, 508, 1), (79, none, .ifCond .eq 14, 3, 93, 0, 0), (82, none, .aload_n 0, 1, 0, 0, 0), (83, none, .bipush 12, 2, 0, 12, 0), (85, none, .iload 6, 2, 0, 0, 0), (87, none, .iload_n 2, 1, 0, 0, 0), (88, none, .invokevirtual 836, 3, 3, 402, 1), (91, none, .istore 4, 2, 0, 0, 0)] := fq_of2 cd_693 ow_693 cl_693 rfl (pc := 66) (by decide +kernel)
        j_i2l (pc := 66) D rfl fun D =>
        j_c0 (pc := 67) (v := (1, 1)) D rfl rfl (by decide +kernel) fun D =>
        j_aldn (pc := 68) D rfl rfl rfl fun D =>
        j_gfc (pc := 69) (a := 602) D rfl rfl (by decide) rfl (s0_602 H) rfl (sf_443_602 H) fun D =>
        j_ild (pc := 72) D rfl rfl rfl fun D =>
        j_al (pc := 74) (a := 638) (e := 10) D rfl rfl rfl (by decide) (s0_638 H) (s1_638 H) ⟨rfl, rfl, rfl⟩ rfl (gy qb2) fun q D =>
        j_i2l (pc := 75) D rfl fun D =>
        j_is (pc := 76) (m := 508) (a := [(1, wI x2), (1, 1), (1, wI (h 10 638 (h 10 646 (wI (2400 + x5)).toNat).toNat))]) (rest := []) D rfl rfl rfl rfl (fun v4 h3 e1 D =>
          have T := fj_run_ok _ _ _ _ _ _ H.1 e1
          have H := shp_st H T
          j_ifeq (pc := 79) D rfl (fun q =>
            fk_jump cut_693_93 rfl rfl) (fun q D =>
            j_aldn (pc := 82) D rfl rfl rfl fun D =>
            j_bp (pc := 83) D rfl fun D =>
            j_ild (pc := 85) D rfl rfl rfl fun D =>
            j_ildn (pc := 87) D rfl rfl rfl fun D =>
            j_iv (pc := 88) (m := 610) (dd := 402) (a := [(0, 12), (0, h 10 646 (wI (2400 + x5)).toNat), (0, x2)]) (rest := []) D rfl rfl rfl rfl rfl (by decide) (s0_602 H) (by decide +kernel) (fun v7 h6 e1 D =>
              have T := fj_run_ok _ _ _ _ _ _ H.1 e1
              have H := shp_st H T
              j_ist (pc := 91) (L' := [(4, (0, v7)), (6, (0, h 10 646 (wI (2400 + x5)).toNat)), (0, (4, 602)), (1, (0, x1)), (2, (0, x2)), (3, (0, x3)), (5, (0, x5))]) D rfl nl_693 rfl rfl fun D =>
              fk_jump cut_693_93 rfl rfl) (fun q8 h6 e1 =>
              j_tx (hx_693 _)))) (fun q5 h3 e1 =>
          j_tx (hx_693 _))) (fun q =>
        fk_jump cut_693_93 rfl rfl)) (fun q =>
      have D : fk_D 693 [(99, none, .iload 4, 2, 0, 0, 0), (101, none, .iconst (-1), 1, 0, (-1), 0), (102, none, .if_icmp .ne 5, 3, 107, 0, 0), (105, none, .iconst (-1), 1, 0, (-1), 0), (106, none, .ireturn, 1, 0, 0, 0)] := fq_of2 cd_693 ow_693 cl_693 rfl (pc := 99) (by decide +kernel)
      j_ild (pc := 99) D rfl rfl rfl fun D =>
      j_ic (pc := 101) D rfl fun D =>
      j_ine (pc := 102) D rfl (fun q D =>
        j_ic (pc := 105) D rfl fun D =>
        j_iret D rt_693) (fun q =>
        have D : fk_D 693 [(107, none, .aload_n 0, 1, 0, 0, 0), (108, none, .getfield 833, 3, 453, 129, 10), (111, none, .bipush 40, 2, 0, 40, 0), (113, none, .if_icmp .ne 6, 3, 119, 0, 0), (116, none, .bipush (-4), 2, 0, (-4), 0), (118, none, .ireturn, 1, 0, 0, 0)] := fq_of2 cd_693 ow_693 cl_693 rfl (pc := 107) (by decide +kernel)
        j_aldn (pc := 107) D rfl rfl rfl fun D =>
        j_gf (pc := 108) (a := 602) D rfl rfl (by decide) rfl (s0_602 H) rfl fun D =>
        j_bp (pc := 111) D rfl fun D =>
        j_ine (pc := 113) D rfl (fun q D =>
          j_bp (pc := 116) D rfl fun D =>
          j_iret D rt_693) (fun q =>
          have D : fk_D 693 [(119, none, .aload_n 0, 1, 0, 0, 0), (120, none, .getfield 144, 3, 450, 129, 12), (123, none, .aload_n 0, 1, 0, 0, 0), (124, none, .getfield 833, 3, 453, 129, 10), (127, none, .iload 4, 2, 0, 0, 0), (129, none, .iastore, 1, 0, 0, 0), (130, none, .aload_n 0, 1, 0, 0, 0), (131, none, .getfield 147, 3, 451, 129, 12), (134, none, .aload_n 0, 1, 0, 0, 0), (135, none, .getfield 833, 3, 453, 129, 10), (138, none, .iload_n 3, 1, 0, 0, 0), (139, none, .iastore, 1, 0, 0, 0), (140, none, .aload_n 0, 1, 0, 0, 0), (141, none, .getfield 150, 3, 452, 129, 12), (144, none, .aload_n 0, 1, 0, 0, 0), (145, none, .getfield 833, 3, 453, 129, 10), (148, none, .aload_n 0, 1, 0, 0, 0), (149, none, .getfield 141, 3, 449, 129, 10), (152, none, .iastore, 1, 0, 0, 0), (153, none, .aload_n 0, 1, 0, 0, 0)] := fq_of2 cd_693 ow_693 cl_693 rfl (pc := 119) (by decide +kernel)
          j_aldn (pc := 119) D rfl rfl rfl fun D =>
          j_gfc (pc := 120) (a := 602) D rfl rfl (by decide) rfl (s0_602 H) rfl (sf_450_602 H) fun D =>
          j_aldn (pc := 123) D rfl rfl rfl fun D =>
          j_gf (pc := 124) (a := 602) D rfl rfl (by decide) rfl (s0_602 H) rfl fun D =>
          j_ild (pc := 127) D rfl rfl rfl fun D =>
          j_as (pc := 129) (a := 643) (e := 10) D rfl ⟨rfl, rfl⟩ rfl (by decide) (s0_643 H) (s1_643 H) ⟨rfl, rfl, rfl⟩ rfl gn (gy rfl) fun h9 eh9 S qb10 D =>
          have T := fj_hs_ok H.1 S
          have H := shp_st H T
          j_aldn (pc := 130) D rfl rfl rfl fun D =>
          j_gfc (pc := 131) (a := 602) D rfl rfl (by decide) rfl (s0_602 H) rfl (sf_451_602 H) fun D =>
          j_aldn (pc := 134) D rfl rfl rfl fun D =>
          j_gf (pc := 135) (a := 602) D rfl rfl (by decide) rfl (s0_602 H) rfl fun D =>
          j_ildn (pc := 138) D rfl rfl rfl fun D =>
          j_as (pc := 139) (a := 644) (e := 10) D rfl ⟨rfl, rfl⟩ rfl (by decide) (s0_644 H) (s1_644 H) ⟨rfl, rfl, rfl⟩ rfl gn (gy rfl) fun h11 eh11 S qb12 D =>
          have T := fj_hs_ok H.1 S
          have H := shp_st H T
          j_aldn (pc := 140) D rfl rfl rfl fun D =>
          j_gfc (pc := 141) (a := 602) D rfl rfl (by decide) rfl (s0_602 H) rfl (sf_452_602 H) fun D =>
          j_aldn (pc := 144) D rfl rfl rfl fun D =>
          j_gf (pc := 145) (a := 602) D rfl rfl (by decide) rfl (s0_602 H) rfl fun D =>
          j_aldn (pc := 148) D rfl rfl rfl fun D =>
          j_gf (pc := 149) (a := 602) D rfl rfl (by decide) rfl (s0_602 H) rfl fun D =>
          j_as (pc := 152) (a := 645) (e := 10) D rfl ⟨rfl, rfl⟩ rfl (by decide) (s0_645 H) (s1_645 H) ⟨rfl, rfl, rfl⟩ rfl gn (gy rfl) fun h13 eh13 S qb14 D =>
          have T := fj_hs_ok H.1 S
          have H := shp_st H T
          j_aldn (pc := 153) D rfl rfl rfl fun D =>
          have D : fk_D 693 [(154, none, .dup, 1, 0, 0, 0), (155, none, .getfield 833, 3, 453, 129, 10), (158, none, .iconst 1, 1, 0, 1, 0), (159, none, .iadd, 1, 0, 0, 0), (160, none, .putfield 833, 3, 453, 129, 10), (163, none, .aload_n 0, 1, 0, 0, 0), (164, none, .getfield 833, 3, 453, 129, 10), (167, none, .ireturn, 1, 0, 0, 0)] := fq_of2 cd_693 ow_693 cl_693 rfl (pc := 154) (by decide +kernel)
          j_sh (pc := 154) D rfl rfl rfl fun D =>
          j_gf (pc := 155) (a := 602) D rfl rfl (by decide) rfl (s0_602 H) rfl fun D =>
          j_ic (pc := 158) D rfl fun D =>
          j_iadd (pc := 159) D rfl fun D =>
          j_pf (pc := 160) (a := 602) D rfl rfl rfl (s0_602 H) rfl rfl (gy (by decide)) (gy rfl) fun h15 eh15 S D =>
          have T := fj_hs_ok H.1 S
          have H := shp_st H T
          j_aldn (pc := 163) D rfl rfl rfl fun D =>
          j_gf (pc := 164) (a := 602) D rfl rfl (by decide) rfl (s0_602 H) rfl fun D =>
          j_iret D rt_693)))
theorem e_693_93 (d : Nat) (x1 x2 x3 x4 x5 : Int) {h : fi_H} (H : Shp h) : c_693_93 d x1 x2 x3 x4 x5 h =
  c_693_29 d x1 x2 x3 x4 (wI (x5 + 1)) h := by
  unfold c_693_93
  exact
    have D : fk_D 693 [(93, some [0, 1, 2, 3, 4, 5], .iinc 5 1, 3, 0, 1, 0), (96, none, .goto (-67), 3, 29, 0, 0)] := fq_of2 cd_693 ow_693 cl_693 rfl (pc := 93) (by decide +kernel)
    j_inc (pc := 93) (L' := [(5, (0, wI (x5 + 1))), (0, (4, 602)), (1, (0, x1)), (2, (0, x2)), (3, (0, x3)), (4, (0, x4))]) D rfl rfl rfl (by decide +kernel) rfl fun D =>
    j_goto (pc := 96) D rfl <|
    fk_jump cut_693_29 rfl rfl
theorem m_693 (d : Nat) (x1 x2 x3 : Int) {h : fi_H} (H : Shp h) : fj_run (d + 1) 693 h [(4, 602), (0, x1), (0, x2), (0, x3)] =
  ca_ (fj_run d 520 h [(1, wI x3)]) 0
    (fun v2 h1 =>
    if v2 = 0 then
      some (.inl (some (0, (-2))), h1)
    else
      cv_ (fj_run d 607 h1 [(4, 602), (0, 12), (0, 0), (0, x3), (0, h1 449 602 0)])
        (fun h4 =>
        c_693_29 d x1 x2 x3 (-1) 0 h4)
        (fun q6 h4 => tx_ q6 h4))
    (fun q3 h1 => tx_ q3 h1) := by
  rw [fj_run_eq d (by decide) h [(4, 602), (0, x1), (0, x2), (0, x3)] (Nat.le_of_ble_eq_true (by rw [nl_693]; rfl))]
  show gG (fj_run d) 693 0 [(0, (4, 602)), (1, (0, x1)), (2, (0, x2)), (3, (0, x3))] [] h = _
  exact
    have D : fk_D 693 [(0, none, .iload_n 3, 1, 0, 0, 0), (1, none, .i2l, 1, 0, 0, 0), (2, none, .invokestatic 456, 3, 1, 520, 1), (5, none, .ifCond .ne 6, 3, 11, 0, 0), (8, none, .bipush (-2), 2, 0, (-2), 0), (10, none, .ireturn, 1, 0, 0, 0)] := fq_of2 cd_693 ow_693 cl_693 rfl (pc := 0) (by decide +kernel)
    j_ildn (pc := 0) D rfl rfl rfl fun D =>
    j_i2l (pc := 1) D rfl fun D =>
    j_is (pc := 2) (m := 520) (a := [(1, wI x3)]) (rest := []) D rfl rfl rfl rfl (fun v2 h1 e1 D =>
      have T := fj_run_ok _ _ _ _ _ _ H.1 e1
      have H := shp_st H T
      j_ifne (pc := 5) D rfl (fun q D =>
        j_bp (pc := 8) D rfl fun D =>
        j_iret D rt_693) (fun q =>
        have D : fk_D 693 [(11, none, .aload_n 0, 1, 0, 0, 0), (12, none, .bipush 12, 2, 0, 12, 0), (14, none, .iconst 0, 1, 0, 0, 0), (15, none, .iload_n 3, 1, 0, 0, 0), (16, none, .aload_n 0, 1, 0, 0, 0), (17, none, .getfield 141, 3, 449, 129, 10), (20, none, .invokevirtual 896, 3, 4, 407, 0), (23, none, .iconst (-1), 1, 0, (-1), 0), (24, none, .istore 4, 2, 0, 0, 0), (26, none, .iconst 0, 1, 0, 0, 0), (27, none, .istore 5, 2, 0, 0, 0)] := fq_of2 cd_693 ow_693 cl_693 rfl (pc := 11) (by decide +kernel)
        j_aldn (pc := 11) D rfl rfl rfl fun D =>
        j_bp (pc := 12) D rfl fun D =>
        j_ic (pc := 14) D rfl fun D =>
        j_ildn (pc := 15) D rfl rfl rfl fun D =>
        j_aldn (pc := 16) D rfl rfl rfl fun D =>
        j_gf (pc := 17) (a := 602) D rfl rfl (by decide) rfl (s0_602 H) rfl fun D =>
        j_ivv (pc := 20) (m := 607) (dd := 407) (a := [(0, 12), (0, 0), (0, x3), (0, h1 449 602 0)]) (rest := []) D rfl rfl rfl rfl rfl (by decide) (s0_602 H) (by decide +kernel) (fun h4 e1 D =>
          have T := fj_run_ok _ _ _ _ _ _ H.1 e1
          have H := shp_st H T
          j_ic (pc := 23) D rfl fun D =>
          j_ist (pc := 24) (L' := [(4, (0, (-1))), (0, (4, 602)), (1, (0, x1)), (2, (0, x2)), (3, (0, x3))]) D rfl nl_693 rfl rfl fun D =>
          j_ic (pc := 26) D rfl fun D =>
          j_ist (pc := 27) (L' := [(5, (0, 0)), (4, (0, (-1))), (0, (4, 602)), (1, (0, x1)), (2, (0, x2)), (3, (0, x3))]) D rfl nl_693 rfl rfl fun D =>
          fk_jump cut_693_29 rfl rfl) (fun q6 h4 e1 =>
          j_tx (hx_693 _)))) (fun q3 h1 e1 =>
      j_tx (hx_693 _))
