/-! forms of methods 694..710, printed by gen/forms.py -/
set_option maxRecDepth 100000
/-! 694 StatuteHouseModel.write(III)I -/
theorem cd_694 : fi_code 694 = prog_69_method_226_code := rfl
theorem hx_694 : ∀ pc, fi_hat 694 pc = none := fun pc => by unfold fi_hat; rw [show fi_hh 694 = [] from rfl]; rfl
theorem rt_694 : fi_ret 694 = some .int := rfl
theorem nl_694 : fi_nl 694 = 7 := rfl
theorem ow_694 : fi_ow 694 = 29 := rfl
theorem cl_694 : fj_cutT.getD 694 [] = [(44, [0, 4]), (126, [0, 4, 5, 6]), (170, [0, 4]), (192, [0, 4])] := rfl
theorem cut_694_44 : fj_cut 694 44 = some [0, 4] := by decide +kernel
noncomputable def c_694_44 (d : Nat) (x4 : Int) (h : fi_H) : fk_R := gG (fj_run d) 694 44 [(0, (4, 602)), (4, (0, x4))] [] h
theorem cut_694_126 : fj_cut 694 126 = some [0, 4, 5, 6] := by decide +kernel
noncomputable def c_694_126 (d : Nat) (x4 x5 x6 : Int) (h : fi_H) : fk_R := gG (fj_run d) 694 126 [(0, (4, 602)), (4, (0, x4)), (5, (0, x5)), (6, (0, x6))] [] h
theorem cut_694_170 : fj_cut 694 170 = some [0, 4] := by decide +kernel
noncomputable def c_694_170 (d : Nat) (x4 : Int) (h : fi_H) : fk_R := gG (fj_run d) 694 170 [(0, (4, 602)), (4, (0, x4))] [] h
theorem cut_694_192 : fj_cut 694 192 = some [0, 4] := by decide +kernel
noncomputable def c_694_192 (d : Nat) (x4 : Int) (h : fi_H) : fk_R := gG (fj_run d) 694 192 [(0, (4, 602)), (4, (0, x4))] [] h
theorem e_694_44 (d : Nat) (x4 : Int) {h : fi_H} (H : Shp h) : c_694_44 d x4 h =
  if x4 < h 10 647 12 then
    if 0 ≤ wI (2400 + x4) ∧ wI (2400 + x4) < 3200 then
    if 0 ≤ h 10 646 (wI (2400 + x4)).toNat ∧ h 10 646 (wI (2400 + x4)).toNat < 240 then
    if h 10 638 (h 10 646 (wI (2400 + x4)).toNat).toNat = 0 then
      c_694_170 d x4 h
    else
      cv_ (fj_run d 695 h [(4, 602), (0, 20)])
        (fun h3 =>
        cv_ (fj_run d 696 h3 [(4, 602), (0, 32)])
          (fun h6 =>
          cv_ (fj_run d 697 h6 [(4, 602), (0, h6 10 635 (h 10 646 (wI (2400 + x4)).toNat).toNat)])
            (fun h9 =>
            cv_ (fj_run d 696 h9 [(4, 602), (0, 32)])
              (fun h12 =>
              cv_ (fj_run d 696 h12 [(4, 602), (0, 123)])
                (fun h15 =>
                cv_ (fj_run d 696 h15 [(4, 602), (0, 10)])
                  (fun h18 =>
                  c_694_126 d x4 (h 10 646 (wI (2400 + x4)).toNat) 1 h18)
                  (fun q20 h18 => tx_ q20 h18))
                (fun q17 h15 => tx_ q17 h15))
              (fun q14 h12 => tx_ q14 h12))
            (fun q11 h9 => tx_ q11 h9))
          (fun q8 h6 => tx_ q8 h6))
        (fun q5 h3 => tx_ q5 h3)
    else none
    else none
  else
    if 12000 < h 569 602 0 then
      some (.inl (some (0, (-4))), h)
    else
      c_694_192 d 0 h := by
  unfold c_694_44
  exact
    have D : fk_D 694 [(44, some [0, 4], .iload 4, 2, 0, 0, 0), (46, none, .aload_n 0, 1, 0, 0, 0), (47, none, .getfield 156, 3, 455, 129, 12), (50, none, .bipush 12, 2, 0, 12, 0), (52, none, .iaload, 1, 0, 0, 0), (53, none, .if_icmp .ge 123, 3, 176, 0, 0), (56, none, .aload_n 0, 1, 0, 0, 0), (57, none, .getfield 153, 3, 454, 129, 12), (60, none, .sipush 2400, 3, 0, 2400, 0), (63, none, .iload 4, 2, 0, 0, 0), (65, none, .iadd, 1, 0, 0, 0), (66, none, .iaload, 1, 0, 0, 0), (67, none, .istore 5, 2, 0, 0, 0), (69, none, .aload_n 0, 1, 0, 0, 0), (70, none, .getfield 125, 3, 443, 129, 12), (73, none, .iload 5, 2, 0, 0, 0), (75, none, .iaload, 1, 0, 0, 0), (76, none, .ifCond .ne 6, 3, 82, 0, 0), (79, none, .goto 91, 3, 170, 0, 0)] := fq_of2 cd_694 ow_694 cl_694 rfl (pc := 44) (by decide +kernel)
    j_ild (pc := 44) D rfl rfl rfl fun D =>
    j_aldn (pc := 46) D rfl rfl rfl fun D =>
    j_gfc (pc := 47) (a := 602) D rfl rfl (by decide) rfl (s0_602 H) rfl (sf_455_602 H) fun D =>
    j_bp (pc := 50) D rfl fun D =>
    j_al (pc := 52) (a := 647) (e := 10) D rfl rfl rfl (by decide) (s0_647 H) (s1_647 H) ⟨rfl, rfl, rfl⟩ rfl (gy (by decide)) fun q D =>
    j_ige (pc := 53) D rfl (fun q D =>
      j_aldn (pc := 56) D rfl rfl rfl fun D =>
      j_gfc (pc := 57) (a := 602) D rfl rfl (by decide) rfl (s0_602 H) rfl (sf_454_602 H) fun D =>
      j_sp (pc := 60) D rfl fun D =>
      j_ild (pc := 63) D rfl rfl rfl fun D =>
      j_iadd (pc := 65) D rfl fun D =>
      j_al (pc := 66) (a := 646) (e := 10) D rfl rfl rfl (by decide) (s0_646 H) (s1_646 H) ⟨rfl, rfl, rfl⟩ rfl gn fun qb1 D =>
      j_ist (pc := 67) (L' := [(5, (0, h 10 646 (wI (2400 + x4)).toNat)), (0, (4, 602)), (4, (0, x4))]) D rfl nl_694 rfl rfl fun D =>
      j_aldn (pc := 69) D rfl rfl rfl fun D =>
      j_gfc (pc := 70) (a := 602) D rfl rfl (by decide) rfl (s0_602 H) rfl (sf_443_602 H) fun D =>
      j_ild (pc := 73) D rfl rfl rfl fun D =>
      j_al (pc := 75) (a := 638) (e := 10) D rfl rfl rfl (by decide) (s0_638 H) (s1_638 H) ⟨rfl, rfl, rfl⟩ rfl gn fun qb2 D =>
      j_ifne (pc := 76) D rfl (fun q D =>
        j_goto (pc := 79) D rfl <|
        fk_jump cut_694_170 rfl rfl) (fun q =>
        have D : fk_D 694 [(82, none, .aload_n 0, 1, 0, 0, 0), (83, none, .bipush 20, 2, 0, 20, 0), (85, none, .invokevirtual 1282, 3, 1, 478, 0), (88, none, .aload_n 0, 1, 0, 0, 0), (89, none, .bipush 32, 2, 0, 32, 0), (91, none, .invokevirtual 1274, 3, 1, 475, 0), (94, none, .aload_n 0, 1, 0, 0, 0), (95, none, .aload_n 0, 1, 0, 0, 0), (96, none, .getfield 116, 3, 440, 129, 12), (99, none, .iload 5, 2, 0, 0, 0), (101, none, .iaload, 1, 0, 0, 0), (102, none, .invokevirtual 1309, 3, 1, 486, 0), (105, none, .aload_n 0, 1, 0, 0, 0), (106, none, .bipush 32, 2, 0, 32, 0), (108, none, .invokevirtual 1274, 3, 1, 475, 0), (111, none, .aload_n 0, 1, 0, 0, 0), (112, none, .bipush 123, 2, 0, 123, 0), (114, none, .invokevirtual 1274, 3, 1, 475, 0), (117, none, .aload_n 0, 1, 0, 0, 0), (118, none, .bipush 10, 2, 0, 10, 0)] := fq_of2 cd_694 ow_694 cl_694 rfl (pc := 82) (by decide +kernel)
        j_aldn (pc := 82) D rfl rfl rfl fun D =>
        j_bp (pc := 83) D rfl fun D =>
        j_ivv (pc := 85) (m := 695) (dd := 478) (a := [(0, 20)]) (rest := []) D rfl rfl rfl rfl rfl (by decide) (s0_602 H) (by decide +kernel) (fun h3 e1 D =>
          have T := fj_run_ok _ _ _ _ _ _ H.1 e1
          have H := shp_st H T
          j_aldn (pc := 88) D rfl rfl rfl fun D =>
          j_bp (pc := 89) D rfl fun D =>
          j_ivv (pc := 91) (m := 696) (dd := 475) (a := [(0, 32)]) (rest := []) D rfl rfl rfl rfl rfl (by decide) (s0_602 H) (by decide +kernel) (fun h6 e1 D =>
            have T := fj_run_ok _ _ _ _ _ _ H.1 e1
            have H := shp_st H T
            j_aldn (pc := 94) D rfl rfl rfl fun D =>
            j_aldn (pc := 95) D rfl rfl rfl fun D =>
            j_gfc (pc := 96) (a := 602) D rfl rfl (by decide) rfl (s0_602 H) rfl (sf_440_602 H) fun D =>
            j_ild (pc := 99) D rfl rfl rfl fun D =>
            j_al (pc := 101) (a := 635) (e := 10) D rfl rfl rfl (by decide) (s0_635 H) (s1_635 H) ⟨rfl, rfl, rfl⟩ rfl (gy qb2) fun q D =>
            j_ivv (pc := 102) (m := 697) (dd := 486) (a := [(0, h6 10 635 (h 10 646 (wI (2400 + x4)).toNat).toNat)]) (rest := []) D rfl rfl rfl rfl rfl (by decide) (s0_602 H) (by decide +kernel) (fun h9 e1 D =>
              have T := fj_run_ok _ _ _ _ _ _ H.1 e1
              have H := shp_st H T
              j_aldn (pc := 105) D rfl rfl rfl fun D =>
              j_bp (pc := 106) D rfl fun D =>
              j_ivv (pc := 108) (m := 696) (dd := 475) (a := [(0, 32)]) (rest := []) D rfl rfl rfl rfl rfl (by decide) (s0_602 H) (by decide +kernel) (fun h12 e1 D =>
                have T := fj_run_ok _ _ _ _ _ _ H.1 e1
                have H := shp_st H T
                j_aldn (pc := 111) D rfl rfl rfl fun D =>
                j_bp (pc := 112) D rfl fun D =>
                j_ivv (pc := 114) (m := 696) (dd := 475) (a := [(0, 123)]) (rest := []) D rfl rfl rfl rfl rfl (by decide) (s0_602 H) (by decide +kernel) (fun h15 e1 D =>
                  have T := fj_run_ok _ _ _ _ _ _ H.1 e1
                  have H := shp_st H T
                  j_aldn (pc := 117) D rfl rfl rfl fun D =>
                  j_bp (pc := 118) D rfl fun D =>
                  have D : fk_D 694 [(120, none, .invokevirtual 1274, 3, 1, 475, 0), (123, none, .iconst 1, 1, 0, 1, 0), (124, none, .istore 6, 2, 0, 0, 0)] := fq_of2 cd_694 ow_694 cl_694 rfl (pc := 120) (by decide +kernel)
                  j_ivv (pc := 120) (m := 696) (dd := 475) (a := [(0, 10)]) (rest := []) D rfl rfl rfl rfl rfl (by decide) (s0_602 H) (by decide +kernel) (fun h18 e1 D =>
                    have T := fj_run_ok _ _ _ _ _ _ H.1 e1
                    have H := shp_st H T
                    j_ic (pc := 123) D rfl fun D =>
                    j_ist (pc := 124) (L' := [(6, (0, 1)), (5, (0, h 10 646 (wI (2400 + x4)).toNat)), (0, (4, 602)), (4, (0, x4))]) D rfl nl_694 rfl rfl fun D =>
                    fk_jump cut_694_126 rfl rfl) (fun q20 h18 e1 =>
                    j_tx (hx_694 _))) (fun q17 h15 e1 =>
                  j_tx (hx_694 _))) (fun q14 h12 e1 =>
                j_tx (hx_694 _))) (fun q11 h9 e1 =>
              j_tx (hx_694 _))) (fun q8 h6 e1 =>
            j_tx (hx_694 _))) (fun q5 h3 e1 =>
          j_tx (hx_694 _)))) (fun q =>
      have D : fk_D 694 [(176, none, .aload_n 0, 1, 0, 0, 0), (177, none, .getfield 1271, 3, 569, 129, 10), (180, none, .sipush 12000, 3, 0, 12000, 0), (183, none, .if_icmp .le 6, 3, 189, 0, 0), (186, none, .bipush (-4), 2, 0, (-4), 0), (188, none, .ireturn, 1, 0, 0, 0)] := fq_of2 cd_694 ow_694 cl_694 rfl (pc := 176) (by decide +kernel)
      j_aldn (pc := 176) D rfl rfl rfl fun D =>
      j_gf (pc := 177) (a := 602) D rfl rfl (by decide) rfl (s0_602 H) rfl fun D =>
      j_sp (pc := 180) D rfl fun D =>
      j_ile (pc := 183) D rfl (fun q D =>
        j_bp (pc := 186) D rfl fun D =>
        j_iret D rt_694) (fun q =>
        have D : fk_D 694 [(189, none, .iconst 0, 1, 0, 0, 0), (190, none, .istore 4, 2, 0, 0, 0)] := fq_of2 cd_694 ow_694 cl_694 rfl (pc := 189) (by decide +kernel)
        j_ic (pc := 189) D rfl fun D =>
        j_ist (pc := 190) (L' := [(4, (0, 0)), (0, (4, 602))]) D rfl nl_694 rfl rfl fun D =>
        fk_jump cut_694_192 rfl rfl))
theorem e_694_126 (d : Nat) (x4 x5 x6 : Int) {h : fi_H} (H : Shp h) : c_694_126 d x4 x5 x6 h =
  if 0 ≤ x5 ∧ x5 < 240 then
  if h 10 638 x5.toNat < x6 then
    cv_ (fj_run d 696 h [(4, 602), (0, 125)])
      (fun h2 =>
      cv_ (fj_run d 696 h2 [(4, 602), (0, 10)])
        (fun h5 =>
        c_694_170 d x4 h5)
        (fun q7 h5 => tx_ q7 h5))
      (fun q4 h2 => tx_ q4 h2)
  else
    ca_ (fj_run d 610 h [(4, 602), (0, 12), (0, x5), (0, x6)]) 0
      (fun v9 h8 =>
      cv_ (fj_run d 699 h8 [(4, 602), (0, v9)])
        (fun h11 =>
        c_694_126 d x4 x5 (wI (x6 + 1)) h11)
        (fun q13 h11 => tx_ q13 h11))
      (fun q10 h8 => tx_ q10 h8)
  else none := by
  unfold c_694_126
  exact
    have D : fk_D 694 [(126, some [0, 4, 5, 6], .iload 6, 2, 0, 0, 0), (128, none, .aload_n 0, 1, 0, 0, 0), (129, none, .getfield 125, 3, 443, 129, 12), (132, none, .iload 5, 2, 0, 0, 0), (134, none, .iaload, 1, 0, 0, 0), (135, none, .if_icmp .gt 23, 3, 158, 0, 0), (138, none, .aload_n 0, 1, 0, 0, 0), (139, none, .aload_n 0, 1, 0, 0, 0), (140, none, .bipush 12, 2, 0, 12, 0), (142, none, .iload 5, 2, 0, 0, 0), (144, none, .iload 6, 2, 0, 0, 0), (146, none, .invokevirtual 836, 3, 3, 402, 1), (149, none, .invokevirtual 1312, 3, 1, 487, 0), (152, none, .iinc 6 1, 3, 0, 1, 0), (155, none, .goto (-29), 3, 126, 0, 0)] := fq_of2 cd_694 ow_694 cl_694 rfl (pc := 126) (by decide +kernel)
    j_ild (pc := 126) D rfl rfl rfl fun D =>
    j_aldn (pc := 128) D rfl rfl rfl fun D =>
    j_gfc (pc := 129) (a := 602) D rfl rfl (by decide) rfl (s0_602 H) rfl (sf_443_602 H) fun D =>
    j_ild (pc := 132) D rfl rfl rfl fun D =>
    j_al (pc := 134) (a := 638) (e := 10) D rfl rfl rfl (by decide) (s0_638 H) (s1_638 H) ⟨rfl, rfl, rfl⟩ rfl gn fun qb1 D =>
    j_igt (pc := 135) D rfl (fun q =>
      have D : fk_D 694 [(158, none, .aload_n 0, 1, 0, 0, 0), (159, none, .bipush 125, 2, 0, 125, 0), (161, none, .invokevirtual 1274, 3, 1, 475, 0), (164, none, .aload_n 0, 1, 0, 0, 0), (165, none, .bipush 10, 2, 0, 10, 0), (167, none, .invokevirtual 1274, 3, 1, 475, 0)] := fq_of2 cd_694 ow_694 cl_694 rfl (pc := 158) (by decide +kernel)
      j_aldn (pc := 158) D rfl rfl rfl fun D =>
      j_bp (pc := 159) D rfl fun D =>
      j_ivv (pc := 161) (m := 696) (dd := 475) (a := [(0, 125)]) (rest := []) D rfl rfl rfl rfl rfl (by decide) (s0_602 H) (by decide +kernel) (fun h2 e1 D =>
        have T := fj_run_ok _ _ _ _ _ _ H.1 e1
        have H := shp_st H T
        j_aldn (pc := 164) D rfl rfl rfl fun D =>
        j_bp (pc := 165) D rfl fun D =>
        j_ivv (pc := 167) (m := 696) (dd := 475) (a := [(0, 10)]) (rest := []) D rfl rfl rfl rfl rfl (by decide) (s0_602 H) (by decide +kernel) (fun h5 e1 D =>
          have T := fj_run_ok _ _ _ _ _ _ H.1 e1
          have H := shp_st H T
          fk_jump cut_694_170 rfl rfl) (fun q7 h5 e1 =>
          j_tx (hx_694 _))) (fun q4 h2 e1 =>
        j_tx (hx_694 _))) (fun q D =>
      j_aldn (pc := 138) D rfl rfl rfl fun D =>
      j_aldn (pc := 139) D rfl rfl rfl fun D =>
      j_bp (pc := 140) D rfl fun D =>
      j_ild (pc := 142) D rfl rfl rfl fun D =>
      j_ild (pc := 144) D rfl rfl rfl fun D =>
      j_iv (pc := 146) (m := 610) (dd := 402) (a := [(0, 12), (0, x5), (0, x6)]) (rest := [(4, 602)]) D rfl rfl rfl rfl rfl (by decide) (s0_602 H) (by decide +kernel) (fun v9 h8 e1 D =>
        have T := fj_run_ok _ _ _ _ _ _ H.1 e1
        have H := shp_st H T
        j_ivv (pc := 149) (m := 699) (dd := 487) (a := [(0, v9)]) (rest := []) D rfl rfl rfl rfl rfl (by decide) (s0_602 H) (by decide +kernel) (fun h11 e1 D =>
          have T := fj_run_ok _ _ _ _ _ _ H.1 e1
          have H := shp_st H T
          j_inc (pc := 152) (L' := [(6, (0, wI (x6 + 1))), (0, (4, 602)), (4, (0, x4)), (5, (0, x5))]) D rfl rfl rfl (by decide +kernel) rfl fun D =>
          j_goto (pc := 155) D rfl <|
          fk_jump cut_694_126 rfl rfl) (fun q13 h11 e1 =>
          j_tx (hx_694 _))) (fun q10 h8 e1 =>
        j_tx (hx_694 _)))
theorem e_694_170 (d : Nat) (x4 : Int) {h : fi_H} (H : Shp h) : c_694_170 d x4 h =
  c_694_44 d (wI (x4 + 1)) h := by
  unfold c_694_170
  exact
    have D : fk_D 694 [(170, some [0, 4], .iinc 4 1, 3, 0, 1, 0), (173, none, .goto (-129), 3, 44, 0, 0)] := fq_of2 cd_694 ow_694 cl_694 rfl (pc := 170) (by decide +kernel)
    j_inc (pc := 170) (L' := [(4, (0, wI (x4 + 1))), (0, (4, 602))]) D rfl rfl rfl (by decide +kernel) rfl fun D =>
    j_goto (pc := 173) D rfl <|
    fk_jump cut_694_44 rfl rfl
theorem e_694_192 (d : Nat) (x4 : Int) {h : fi_H} (H : Shp h) : c_694_192 d x4 h =
  if x4 < h 569 602 0 then
    if 0 ≤ x4 ∧ x4 < 12000 then
    if fi_rg 8 (h 8 713 x4.toNat) = true then
    lt_ (fi_upd h 8 712 x4.toNat (h 8 713 x4.toNat)) fun h2 =>
    c_694_192 d (wI (x4 + 1)) h2
    else none
    else none
  else
    lt_ (fi_upd h 568 602 0 (h 569 602 0)) fun h3 =>
    some (.inl (some (0, h3 568 602 0)), h3) := by
  unfold c_694_192
  exact
    have D : fk_D 694 [(192, some [0, 4], .iload 4, 2, 0, 0, 0), (194, none, .aload_n 0, 1, 0, 0, 0), (195, none, .getfield 1271, 3, 569, 129, 10), (198, none, .if_icmp .ge 23, 3, 221, 0, 0), (201, none, .aload_n 0, 1, 0, 0, 0), (202, none, .getfield 401, 3, 566, 129, 12), (205, none, .iload 4, 2, 0, 0, 0), (207, none, .aload_n 0, 1, 0, 0, 0), (208, none, .getfield 405, 3, 567, 129, 12), (211, none, .iload 4, 2, 0, 0, 0), (213, none, .baload, 1, 0, 0, 0), (214, none, .bastore, 1, 0, 0, 0), (215, none, .iinc 4 1, 3, 0, 1, 0), (218, none, .goto (-26), 3, 192, 0, 0)] := fq_of2 cd_694 ow_694 cl_694 rfl (pc := 192) (by decide +kernel)
    j_ild (pc := 192) D rfl rfl rfl fun D =>
    j_aldn (pc := 194) D rfl rfl rfl fun D =>
    j_gf (pc := 195) (a := 602) D rfl rfl (by decide) rfl (s0_602 H) rfl fun D =>
    j_ige (pc := 198) D rfl (fun q D =>
      j_aldn (pc := 201) D rfl rfl rfl fun D =>
      j_gfc (pc := 202) (a := 602) D rfl rfl (by decide) rfl (s0_602 H) rfl (sf_566_602 H) fun D =>
      j_ild (pc := 205) D rfl rfl rfl fun D =>
      j_aldn (pc := 207) D rfl rfl rfl fun D =>
      j_gfc (pc := 208) (a := 602) D rfl rfl (by decide) rfl (s0_602 H) rfl (sf_567_602 H) fun D =>
      j_ild (pc := 211) D rfl rfl rfl fun D =>
      j_al (pc := 213) (a := 713) (e := 8) D rfl rfl rfl (by decide) (s0_713 H) (s1_713 H) ⟨rfl, rfl, rfl⟩ rfl gn fun qb1 D =>
      j_as (pc := 214) (a := 712) (e := 8) D rfl ⟨rfl, rfl⟩ rfl (by decide) (s0_712 H) (s1_712 H) ⟨rfl, rfl, rfl⟩ rfl (gy qb1) gn fun h2 eh2 S q D =>
      have T := fj_hs_ok H.1 S
      have H := shp_st H T
      j_inc (pc := 215) (L' := [(4, (0, wI (x4 + 1))), (0, (4, 602))]) D rfl rfl rfl (by decide +kernel) rfl fun D =>
      j_goto (pc := 218) D rfl <|
      fk_jump cut_694_192 rfl rfl) (fun q =>
      have D : fk_D 694 [(221, none, .aload_n 0, 1, 0, 0, 0), (222, none, .aload_n 0, 1, 0, 0, 0), (223, none, .getfield 1271, 3, 569, 129, 10), (226, none, .putfield 1315, 3, 568, 129, 10), (229, none, .aload_n 0, 1, 0, 0, 0), (230, none, .getfield 1315, 3, 568, 129, 10), (233, none, .ireturn, 1, 0, 0, 0)] := fq_of2 cd_694 ow_694 cl_694 rfl (pc := 221) (by decide +kernel)
      j_aldn (pc := 221) D rfl rfl rfl fun D =>
      j_aldn (pc := 222) D rfl rfl rfl fun D =>
      j_gf (pc := 223) (a := 602) D rfl rfl (by decide) rfl (s0_602 H) rfl fun D =>
      j_pf (pc := 226) (a := 602) D rfl rfl rfl (s0_602 H) rfl rfl (gy (by decide)) (gy rfl) fun h3 eh3 S D =>
      have T := fj_hs_ok H.1 S
      have H := shp_st H T
      j_aldn (pc := 229) D rfl rfl rfl fun D =>
      j_gf (pc := 230) (a := 602) D rfl rfl (by decide) rfl (s0_602 H) rfl fun D =>
      j_iret D rt_694)
theorem m_694 (d : Nat) (x1 x2 x3 : Int) {h : fi_H} (H : Shp h) : fj_run (d + 1) 694 h [(4, 602), (0, x1), (0, x2), (0, x3)] =
  ca_ (fj_run d 525 h [(4, 602), (0, x1)]) 0
    (fun v2 h1 =>
    if v2 = 0 then
      some (.inl (some (0, (-2))), h1)
    else
      ca_ (fj_run d 520 h1 [(1, wI x2)]) 0
        (fun v5 h4 =>
        if v5 = 0 then
          some (.inl (some (0, (-2))), h4)
        else
          ca_ (fj_run d 520 h4 [(1, wI x3)]) 0
            (fun v8 h7 =>
            if v8 = 0 then
              some (.inl (some (0, (-2))), h7)
            else
              cv_ (fj_run d 607 h7 [(4, 602), (0, 12), (0, x1), (0, x2), (0, x3)])
                (fun h10 =>
                lt_ (fi_upd h10 569 602 0 0) fun h13 =>
                c_694_44 d 0 h13)
                (fun q12 h10 => tx_ q12 h10))
            (fun q9 h7 => tx_ q9 h7))
        (fun q6 h4 => tx_ q6 h4))
    (fun q3 h1 => tx_ q3 h1) := by
  rw [fj_run_eq d (by decide) h [(4, 602), (0, x1), (0, x2), (0, x3)] (Nat.le_of_ble_eq_true (by rw [nl_694]; rfl))]
  show gG (fj_run d) 694 0 [(0, (4, 602)), (1, (0, x1)), (2, (0, x2)), (3, (0, x3))] [] h = _
  exact
    have D : fk_D 694 [(0, none, .aload_n 0, 1, 0, 0, 0), (1, none, .iload_n 1, 1, 0, 0, 0), (2, none, .invokevirtual 823, 3, 1, 399, 1), (5, none, .ifCond .eq 19, 3, 24, 0, 0), (8, none, .iload_n 2, 1, 0, 0, 0), (9, none, .i2l, 1, 0, 0, 0), (10, none, .invokestatic 456, 3, 1, 520, 1), (13, none, .ifCond .eq 11, 3, 24, 0, 0), (16, none, .iload_n 3, 1, 0, 0, 0), (17, none, .i2l, 1, 0, 0, 0), (18, none, .invokestatic 456, 3, 1, 520, 1), (21, none, .ifCond .ne 6, 3, 27, 0, 0), (24, none, .bipush (-2), 2, 0, (-2), 0), (26, none, .ireturn, 1, 0, 0, 0)] := fq_of2 cd_694 ow_694 cl_694 rfl (pc := 0) (by decide +kernel)
    j_aldn (pc := 0) D rfl rfl rfl fun D =>
    j_ildn (pc := 1) D rfl rfl rfl fun D =>
    j_iv (pc := 2) (m := 525) (dd := 399) (a := [(0, x1)]) (rest := []) D rfl rfl rfl rfl rfl (by decide) (s0_602 H) (by decide +kernel) (fun v2 h1 e1 D =>
      have T := fj_run_ok _ _ _ _ _ _ H.1 e1
      have H := shp_st H T
      j_ifeq (pc := 5) D rfl (fun q =>
        have D : fk_D 694 [(24, none, .bipush (-2), 2, 0, (-2), 0), (26, none, .ireturn, 1, 0, 0, 0)] := fq_of2 cd_694 ow_694 cl_694 rfl (pc := 24) (by decide +kernel)
        j_bp (pc := 24) D rfl fun D =>
        j_iret D rt_694) (fun q D =>
        j_ildn (pc := 8) D rfl rfl rfl fun D =>
        j_i2l (pc := 9) D rfl fun D =>
        j_is (pc := 10) (m := 520) (a := [(1, wI x2)]) (rest := []) D rfl rfl rfl rfl (fun v5 h4 e1 D =>
          have T := fj_run_ok _ _ _ _ _ _ H.1 e1
          have H := shp_st H T
          j_ifeq (pc := 13) D rfl (fun q =>
            have D : fk_D 694 [(24, none, .bipush (-2), 2, 0, (-2), 0), (26, none, .ireturn, 1, 0, 0, 0)] := fq_of2 cd_694 ow_694 cl_694 rfl (pc := 24) (by decide +kernel)
            j_bp (pc := 24) D rfl fun D =>
            j_iret D rt_694) (fun q D =>
            j_ildn (pc := 16) D rfl rfl rfl fun D =>
            j_i2l (pc := 17) D rfl fun D =>
            j_is (pc := 18) (m := 520) (a := [(1, wI x3)]) (rest := []) D rfl rfl rfl rfl (fun v8 h7 e1 D =>
              have T := fj_run_ok _ _ _ _ _ _ H.1 e1
              have H := shp_st H T
              j_ifne (pc := 21) D rfl (fun q D =>
                j_bp (pc := 24) D rfl fun D =>
                j_iret D rt_694) (fun q =>
                have D : fk_D 694 [(27, none, .aload_n 0, 1, 0, 0, 0), (28, none, .bipush 12, 2, 0, 12, 0), (30, none, .iload_n 1, 1, 0, 0, 0), (31, none, .iload_n 2, 1, 0, 0, 0), (32, none, .iload_n 3, 1, 0, 0, 0), (33, none, .invokevirtual 896, 3, 4, 407, 0), (36, none, .aload_n 0, 1, 0, 0, 0), (37, none, .iconst 0, 1, 0, 0, 0), (38, none, .putfield 1271, 3, 569, 129, 10), (41, none, .iconst 0, 1, 0, 0, 0), (42, none, .istore 4, 2, 0, 0, 0)] := fq_of2 cd_694 ow_694 cl_694 rfl (pc := 27) (by decide +kernel)
                j_aldn (pc := 27) D rfl rfl rfl fun D =>
                j_bp (pc := 28) D rfl fun D =>
                j_ildn (pc := 30) D rfl rfl rfl fun D =>
                j_ildn (pc := 31) D rfl rfl rfl fun D =>
                j_ildn (pc := 32) D rfl rfl rfl fun D =>
                j_ivv (pc := 33) (m := 607) (dd := 407) (a := [(0, 12), (0, x1), (0, x2), (0, x3)]) (rest := []) D rfl rfl rfl rfl rfl (by decide) (s0_602 H) (by decide +kernel) (fun h10 e1 D =>
                  have T := fj_run_ok _ _ _ _ _ _ H.1 e1
                  have H := shp_st H T
                  j_aldn (pc := 36) D rfl rfl rfl fun D =>
                  j_ic (pc := 37) D rfl fun D =>
                  j_pf (pc := 38) (a := 602) D rfl rfl rfl (s0_602 H) rfl rfl (gy (by decide)) (gy rfl) fun h13 eh13 S D =>
                  have T := fj_hs_ok H.1 S
                  have H := shp_st H T
                  j_ic (pc := 41) D rfl fun D =>
                  j_ist (pc := 42) (L' := [(4, (0, 0)), (0, (4, 602)), (1, (0, x1)), (2, (0, x2)), (3, (0, x3))]) D rfl nl_694 rfl rfl fun D =>
                  fk_jump cut_694_44 rfl rfl) (fun q12 h10 e1 =>
                  j_tx (hx_694 _)))) (fun q9 h7 e1 =>
              j_tx (hx_694 _)))) (fun q6 h4 e1 =>
          j_tx (hx_694 _)))) (fun q3 h1 e1 =>
      j_tx (hx_694 _))
/-! 695 StatuteHouseModel.putWord(I)V -/
theorem cd_695 : fi_code 695 = prog_69_method_213_code := rfl
theorem hx_695 : ∀ pc, fi_hat 695 pc = none := fun pc => by unfold fi_hat; rw [show fi_hh 695 = [] from rfl]; rfl
theorem rt_695 : fi_ret 695 = none := rfl
theorem nl_695 : fi_nl 695 = 4 := rfl
theorem ow_695 : fi_ow 695 = 29 := rfl
theorem cl_695 : fj_cutT.getD 695 [] = [(4, [0, 1, 2, 3]), (53, [0, 1, 2, 3])] := rfl
theorem cut_695_4 : fj_cut 695 4 = some [0, 1, 2, 3] := by decide +kernel
noncomputable def c_695_4 (d : Nat) (x1 x2 x3 : Int) (h : fi_H) : fk_R := gG (fj_run d) 695 4 [(0, (4, 602)), (1, (0, x1)), (2, (0, x2)), (3, (0, x3))] [] h
theorem cut_695_53 : fj_cut 695 53 = some [0, 1, 2, 3] := by decide +kernel
noncomputable def c_695_53 (d : Nat) (x1 x2 x3 : Int) (h : fi_H) : fk_R := gG (fj_run d) 695 53 [(0, (4, 602)), (1, (0, x1)), (2, (0, x2)), (3, (0, x3))] [] h
theorem e_695_4 (d : Nat) (x1 x2 x3 : Int) {h : fi_H} (H : Shp h) : c_695_4 d x1 x2 x3 h =
  ca_ (fj_run d 18 h [(4, 281)]) 0
    (fun v2 h1 =>
    if x3 < v2 then
      if x1 < x2 then
        some (.inl none, h1)
      else
        ca_ (fj_run d 20 h1 [(4, 281), (0, x3)]) 0
          (fun v5 h4 =>
          if v5 = 32 then
            c_695_53 d x1 (wI (x2 + 1)) x3 h4
          else
            if x2 = x1 then
              ca_ (fj_run d 20 h4 [(4, 281), (0, x3)]) 0
                (fun v8 h7 =>
                cv_ (fj_run d 696 h7 [(4, 602), (0, v8)])
                  (fun h10 =>
                  c_695_53 d x1 x2 x3 h10)
                  (fun q12 h10 => tx_ q12 h10))
                (fun q9 h7 => tx_ q9 h7)
            else
              c_695_53 d x1 x2 x3 h4)
          (fun q6 h4 => tx_ q6 h4)
    else
      some (.inl none, h1))
    (fun q3 h1 => tx_ q3 h1) := by
  unfold c_695_4
  exact
    have D : fk_D 695 [(4, some [0, 1, 2, 3], .iload_n 3, 1, 0, 0, 0), (5, none, .ldc_w 493, 3, 4, 281, 0), (8, none, .invokevirtual 495, 3, 0, 174, 1), (11, none, .if_icmp .ge 48, 3, 59, 0, 0), (14, none, .iload_n 2, 1, 0, 0, 0), (15, none, .iload_n 1, 1, 0, 0, 0), (16, none, .if_icmp .gt 43, 3, 59, 0, 0), (19, none, .ldc_w 493, 3, 4, 281, 0), (22, none, .iload_n 3, 1, 0, 0, 0), (23, none, .invokevirtual 500, 3, 1, 175, 1), (26, none, .bipush 32, 2, 0, 32, 0), (28, none, .if_icmp .ne 9, 3, 37, 0, 0), (31, none, .iinc 2 1, 3, 0, 1, 0), (34, none, .goto 19, 3, 53, 0, 0)] := fq_of2 cd_695 ow_695 cl_695 rfl (pc := 4) (by decide +kernel)
    j_ildn (pc := 4) D rfl rfl rfl fun D =>
    j_ldcw (pc := 5) D rfl fun D =>
    j_iv (pc := 8) (m := 18) (dd := 174) (a := []) (rest := [(0, x3)]) D rfl rfl rfl rfl rfl (by decide) (s0_281 H) (by decide +kernel) (fun v2 h1 e1 D =>
      have T := fj_run_ok _ _ _ _ _ _ H.1 e1
      have H := shp_st H T
      j_ige (pc := 11) D rfl (fun q D =>
        j_ildn (pc := 14) D rfl rfl rfl fun D =>
        j_ildn (pc := 15) D rfl rfl rfl fun D =>
        j_igt (pc := 16) D rfl (fun q =>
          have D : fk_D 695 [(59, none, .return_, 1, 0, 0, 0)] := fq_of2 cd_695 ow_695 cl_695 rfl (pc := 59) (by decide +kernel)
          j_vret D rt_695) (fun q D =>
          j_ldcw (pc := 19) D rfl fun D =>
          j_ildn (pc := 22) D rfl rfl rfl fun D =>
          j_iv (pc := 23) (m := 20) (dd := 175) (a := [(0, x3)]) (rest := []) D rfl rfl rfl rfl rfl (by decide) (s0_281 H) (by decide +kernel) (fun v5 h4 e1 D =>
            have T := fj_run_ok _ _ _ _ _ _ H.1 e1
            have H := shp_st H T
            j_bp (pc := 26) D rfl fun D =>
            j_ine (pc := 28) D rfl (fun q D =>
              j_inc (pc := 31) (L' := [(2, (0, wI (x2 + 1))), (0, (4, 602)), (1, (0, x1)), (3, (0, x3))]) D rfl rfl rfl (by decide +kernel) rfl fun D =>
              j_goto (pc := 34) D rfl <|
              fk_jump cut_695_53 rfl rfl) (fun q =>
              have D : fk_D 695 [(37, none, .iload_n 2, 1, 0, 0, 0), (38, none, .iload_n 1, 1, 0, 0, 0), (39, none, .if_icmp .ne 14, 3, 53, 0, 0), (42, none, .aload_n 0, 1, 0, 0, 0), (43, none, .ldc_w 493, 3, 4, 281, 0), (46, none, .iload_n 3, 1, 0, 0, 0), (47, none, .invokevirtual 500, 3, 1, 175, 1), (50, none, .invokevirtual 1274, 3, 1, 475, 0)] := fq_of2 cd_695 ow_695 cl_695 rfl (pc := 37) (by decide +kernel)
              j_ildn (pc := 37) D rfl rfl rfl fun D =>
              j_ildn (pc := 38) D rfl rfl rfl fun D =>
              j_ine (pc := 39) D rfl (fun q D =>
                j_aldn (pc := 42) D rfl rfl rfl fun D =>
                j_ldcw (pc := 43) D rfl fun D =>
                j_ildn (pc := 46) D rfl rfl rfl fun D =>
                j_iv (pc := 47) (m := 20) (dd := 175) (a := [(0, x3)]) (rest := [(4, 602)]) D rfl rfl rfl rfl rfl (by decide) (s0_281 H) (by decide +kernel) (fun v8 h7 e1 D =>
                  have T := fj_run_ok _ _ _ _ _ _ H.1 e1
                  have H := shp_st H T
                  j_ivv (pc := 50) (m := 696) (dd := 475) (a := [(0, v8)]) (rest := []) D rfl rfl rfl rfl rfl (by decide) (s0_602 H) (by decide +kernel) (fun h10 e1 D =>
                    have T := fj_run_ok _ _ _ _ _ _ H.1 e1
                    have H := shp_st H T
                    fk_jump cut_695_53 rfl rfl) (fun q12 h10 e1 =>
                    j_tx (hx_695 _))) (fun q9 h7 e1 =>
                  j_tx (hx_695 _))) (fun q =>
                fk_jump cut_695_53 rfl rfl))) (fun q6 h4 e1 =>
            j_tx (hx_695 _)))) (fun q =>
        have D : fk_D 695 [(59, none, .return_, 1, 0, 0, 0)] := fq_of2 cd_695 ow_695 cl_695 rfl (pc := 59) (by decide +kernel)
        j_vret D rt_695)) (fun q3 h1 e1 =>
      j_tx (hx_695 _))
theorem e_695_53 (d : Nat) (x1 x2 x3 : Int) {h : fi_H} (H : Shp h) : c_695_53 d x1 x2 x3 h =
  c_695_4 d x1 x2 (wI (x3 + 1)) h := by
  unfold c_695_53
  exact
    have D : fk_D 695 [(53, some [0, 1, 2, 3], .iinc 3 1, 3, 0, 1, 0), (56, none, .goto (-52), 3, 4, 0, 0)] := fq_of2 cd_695 ow_695 cl_695 rfl (pc := 53) (by decide +kernel)
    j_inc (pc := 53) (L' := [(3, (0, wI (x3 + 1))), (0, (4, 602)), (1, (0, x1)), (2, (0, x2))]) D rfl rfl rfl (by decide +kernel) rfl fun D =>
    j_goto (pc := 56) D rfl <|
    fk_jump cut_695_4 rfl rfl
theorem m_695 (d : Nat) (x1 : Int) {h : fi_H} (H : Shp h) : fj_run (d + 1) 695 h [(4, 602), (0, x1)] =
  c_695_4 d x1 0 0 h := by
  rw [fj_run_eq d (by decide) h [(4, 602), (0, x1)] (Nat.le_of_ble_eq_true (by rw [nl_695]; rfl))]
  show gG (fj_run d) 695 0 [(0, (4, 602)), (1, (0, x1))] [] h = _
  exact
    have D : fk_D 695 [(0, none, .iconst 0, 1, 0, 0, 0), (1, none, .istore_n 2, 1, 0, 0, 0), (2, none, .iconst 0, 1, 0, 0, 0), (3, none, .istore_n 3, 1, 0, 0, 0)] := fq_of2 cd_695 ow_695 cl_695 rfl (pc := 0) (by decide +kernel)
    j_ic (pc := 0) D rfl fun D =>
    j_istn (pc := 1) (L' := [(2, (0, 0)), (0, (4, 602)), (1, (0, x1))]) D rfl nl_695 rfl rfl fun D =>
    j_ic (pc := 2) D rfl fun D =>
    j_istn (pc := 3) (L' := [(3, (0, 0)), (2, (0, 0)), (0, (4, 602)), (1, (0, x1))]) D rfl nl_695 rfl rfl fun D =>
    fk_jump cut_695_4 rfl rfl
/-! 696 StatuteHouseModel.put(I)V -/
theorem cd_696 : fi_code 696 = prog_69_method_212_code := rfl
theorem hx_696 : ∀ pc, fi_hat 696 pc = none := fun pc => by unfold fi_hat; rw [show fi_hh 696 = [] from rfl]; rfl
theorem rt_696 : fi_ret 696 = none := rfl
theorem nl_696 : fi_nl 696 = 2 := rfl
theorem ow_696 : fi_ow 696 = 29 := rfl
theorem cl_696 : fj_cutT.getD 696 [] = [(21, [0])] := rfl
theorem cut_696_21 : fj_cut 696 21 = some [0] := by decide +kernel
noncomputable def c_696_21 (d : Nat) (h : fi_H) : fk_R := gG (fj_run d) 696 21 [(0, (4, 602))] [] h
theorem e_696_21 (d : Nat) {h : fi_H} (H : Shp h) : c_696_21 d h =
  lt_ (fi_upd h 569 602 0 (wI ((h 569 602 0) + 1))) fun h1 =>
  some (.inl none, h1) := by
  unfold c_696_21
  exact
    have D : fk_D 696 [(21, some [0], .aload_n 0, 1, 0, 0, 0), (22, none, .dup, 1, 0, 0, 0), (23, none, .getfield 1271, 3, 569, 129, 10), (26, none, .iconst 1, 1, 0, 1, 0), (27, none, .iadd, 1, 0, 0, 0), (28, none, .putfield 1271, 3, 569, 129, 10), (31, none, .return_, 1, 0, 0, 0)] := fq_of2 cd_696 ow_696 cl_696 rfl (pc := 21) (by decide +kernel)
    j_aldn (pc := 21) D rfl rfl rfl fun D =>
    j_sh (pc := 22) D rfl rfl rfl fun D =>
    j_gf (pc := 23) (a := 602) D rfl rfl (by decide) rfl (s0_602 H) rfl fun D =>
    j_ic (pc := 26) D rfl fun D =>
    j_iadd (pc := 27) D rfl fun D =>
    j_pf (pc := 28) (a := 602) D rfl rfl rfl (s0_602 H) rfl rfl (gy (by decide)) (gy rfl) fun h1 eh1 S D =>
    have T := fj_hs_ok H.1 S
    have H := shp_st H T
    j_vret D rt_696
theorem m_696 (d : Nat) (x1 : Int) {h : fi_H} (H : Shp h) : fj_run (d + 1) 696 h [(4, 602), (0, x1)] =
  if h 569 602 0 < 12000 then
    if 0 ≤ h 569 602 0 ∧ h 569 602 0 < 12000 then
    lt_ (fi_upd h 8 713 (h 569 602 0).toNat (wB x1)) fun h1 =>
    c_696_21 d h1
    else none
  else
    c_696_21 d h := by
  rw [fj_run_eq d (by decide) h [(4, 602), (0, x1)] (Nat.le_of_ble_eq_true (by rw [nl_696]; rfl))]
  show gG (fj_run d) 696 0 [(0, (4, 602)), (1, (0, x1))] [] h = _
  exact
    have D : fk_D 696 [(0, none, .aload_n 0, 1, 0, 0, 0), (1, none, .getfield 1271, 3, 569, 129, 10), (4, none, .sipush 12000, 3, 0, 12000, 0), (7, none, .if_icmp .ge 14, 3, 21, 0, 0), (10, none, .aload_n 0, 1, 0, 0, 0), (11, none, .getfield 405, 3, 567, 129, 12), (14, none, .aload_n 0, 1, 0, 0, 0), (15, none, .getfield 1271, 3, 569, 129, 10), (18, none, .iload_n 1, 1, 0, 0, 0), (19, none, .i2b, 1, 0, 0, 0), (20, none, .bastore, 1, 0, 0, 0)] := fq_of2 cd_696 ow_696 cl_696 rfl (pc := 0) (by decide +kernel)
    j_aldn (pc := 0) D rfl rfl rfl fun D =>
    j_gf (pc := 1) (a := 602) D rfl rfl (by decide) rfl (s0_602 H) rfl fun D =>
    j_sp (pc := 4) D rfl fun D =>
    j_ige (pc := 7) D rfl (fun q D =>
      j_aldn (pc := 10) D rfl rfl rfl fun D =>
      j_gfc (pc := 11) (a := 602) D rfl rfl (by decide) rfl (s0_602 H) rfl (sf_567_602 H) fun D =>
      j_aldn (pc := 14) D rfl rfl rfl fun D =>
      j_gf (pc := 15) (a := 602) D rfl rfl (by decide) rfl (s0_602 H) rfl fun D =>
      j_ildn (pc := 18) D rfl rfl rfl fun D =>
      j_i2b (pc := 19) D rfl fun D =>
      j_as (pc := 20) (a := 713) (e := 8) D rfl ⟨rfl, rfl⟩ rfl (by decide) (s0_713 H) (s1_713 H) ⟨rfl, rfl, rfl⟩ rfl gn (gy (fk_rgB _)) fun h1 eh1 S qb2 D =>
      have T := fj_hs_ok H.1 S
      have H := shp_st H T
      fk_jump cut_696_21 rfl rfl) (fun q =>
      fk_jump cut_696_21 rfl rfl)
/-! 697 StatuteHouseModel.putAddress(I)V -/
theorem cd_697 : fi_code 697 = prog_69_method_222_code := rfl
theorem hx_697 : ∀ pc, fi_hat 697 pc = none := fun pc => by unfold fi_hat; rw [show fi_hh 697 = [] from rfl]; rfl
theorem rt_697 : fi_ret 697 = none := rfl
theorem nl_697 : fi_nl 697 = 2 := rfl
theorem ow_697 : fi_ow 697 = 29 := rfl
theorem cl_697 : fj_cutT.getD 697 [] = [] := rfl
theorem m_697 (d : Nat) (x1 : Int) {h : fi_H} (H : Shp h) : fj_run (d + 1) 697 h [(4, 602), (0, x1)] =
  cv_ (fj_run d 698 h [(4, 602), (1, wI (iq_ x1 27))])
    (fun h1 =>
    if 0 < ir_ x1 27 then
      cv_ (fj_run d 696 h1 [(4, 602), (0, wI ((wI (97 + (ir_ x1 27))) - 1))])
        (fun h4 =>
        some (.inl none, h4))
        (fun q6 h4 => tx_ q6 h4)
    else
      some (.inl none, h1))
    (fun q3 h1 => tx_ q3 h1) := by
  rw [fj_run_eq d (by decide) h [(4, 602), (0, x1)] (Nat.le_of_ble_eq_true (by rw [nl_697]; rfl))]
  show gG (fj_run d) 697 0 [(0, (4, 602)), (1, (0, x1))] [] h = _
  exact
    have D : fk_D 697 [(0, none, .aload_n 0, 1, 0, 0, 0), (1, none, .iload_n 1, 1, 0, 0, 0), (2, none, .bipush 27, 2, 0, 27, 0), (4, none, .idiv, 1, 0, 0, 0), (5, none, .i2l, 1, 0, 0, 0), (6, none, .invokevirtual 1276, 3, 1, 476, 0), (9, none, .iload_n 1, 1, 0, 0, 0), (10, none, .bipush 27, 2, 0, 27, 0), (12, none, .irem, 1, 0, 0, 0), (13, none, .ifCond .le 16, 3, 29, 0, 0), (16, none, .aload_n 0, 1, 0, 0, 0), (17, none, .bipush 97, 2, 0, 97, 0), (19, none, .iload_n 1, 1, 0, 0, 0), (20, none, .bipush 27, 2, 0, 27, 0), (22, none, .irem, 1, 0, 0, 0), (23, none, .iadd, 1, 0, 0, 0), (24, none, .iconst 1, 1, 0, 1, 0), (25, none, .isub, 1, 0, 0, 0), (26, none, .invokevirtual 1274, 3, 1, 475, 0), (29, none, .return_, 1, 0, 0, 0)] := fq_of2 cd_697 ow_697 cl_697 rfl (pc := 0) (by decide +kernel)
    j_aldn (pc := 0) D rfl rfl rfl fun D =>
    j_ildn (pc := 1) D rfl rfl rfl fun D =>
    j_bp (pc := 2) D rfl fun D =>
    j_idivk (pc := 4) D rfl (by decide) fun D =>
    j_i2l (pc := 5) D rfl fun D =>
    j_ivv (pc := 6) (m := 698) (dd := 476) (a := [(1, wI (iq_ x1 27))]) (rest := []) D rfl rfl rfl rfl rfl (by decide) (s0_602 H) (by decide +kernel) (fun h1 e1 D =>
      have T := fj_run_ok _ _ _ _ _ _ H.1 e1
      have H := shp_st H T
      j_ildn (pc := 9) D rfl rfl rfl fun D =>
      j_bp (pc := 10) D rfl fun D =>
      j_iremk (pc := 12) D rfl (by decide) fun D =>
      j_ifle (pc := 13) D rfl (fun q D =>
        j_aldn (pc := 16) D rfl rfl rfl fun D =>
        j_bp (pc := 17) D rfl fun D =>
        j_ildn (pc := 19) D rfl rfl rfl fun D =>
        j_bp (pc := 20) D rfl fun D =>
        j_iremk (pc := 22) D rfl (by decide) fun D =>
        j_iadd (pc := 23) D rfl fun D =>
        j_ic (pc := 24) D rfl fun D =>
        j_isub (pc := 25) D rfl fun D =>
        j_ivv (pc := 26) (m := 696) (dd := 475) (a := [(0, wI ((wI (97 + (ir_ x1 27))) - 1))]) (rest := []) D rfl rfl rfl rfl rfl (by decide) (s0_602 H) (by decide +kernel) (fun h4 e1 D =>
          have T := fj_run_ok _ _ _ _ _ _ H.1 e1
          have H := shp_st H T
          j_vret D rt_697) (fun q6 h4 e1 =>
          j_tx (hx_697 _))) (fun q =>
        have D : fk_D 697 [(29, none, .return_, 1, 0, 0, 0)] := fq_of2 cd_697 ow_697 cl_697 rfl (pc := 29) (by decide +kernel)
        j_vret D rt_697)) (fun q3 h1 e1 =>
      j_tx (hx_697 _))
/-! 698 StatuteHouseModel.putNumber(J)V -/
theorem cd_698 : fi_code 698 = prog_69_method_214_code := rfl
theorem hx_698 : ∀ pc, fi_hat 698 pc = none := fun pc => by unfold fi_hat; rw [show fi_hh 698 = [] from rfl]; rfl
theorem rt_698 : fi_ret 698 = none := rfl
theorem nl_698 : fi_nl 698 = 3 := rfl
theorem ow_698 : fi_ow 698 = 29 := rfl
theorem cl_698 : fj_cutT.getD 698 [] = [(17, [0, 1])] := rfl
theorem cut_698_17 : fj_cut 698 17 = some [0, 1] := by decide +kernel
noncomputable def c_698_17 (d : Nat) (x1 : Int) (h : fi_H) : fk_R := gG (fj_run d) 698 17 [(0, (4, 602)), (1, (1, x1))] [] h
theorem e_698_17 (d : Nat) (x1 : Int) {h : fi_H} (H : Shp h) : c_698_17 d x1 h =
  cv_ (fj_run d 696 h [(4, 602), (0, wI (wJ (48 + (lr_ x1 10))))])
    (fun h1 =>
    some (.inl none, h1))
    (fun q3 h1 => tx_ q3 h1) := by
  unfold c_698_17
  exact
    have D : fk_D 698 [(17, some [0, 1], .aload_n 0, 1, 0, 0, 0), (18, none, .ldc2_w 491, 3, 1, 48, 0), (21, none, .lload_n 1, 1, 0, 0, 0), (22, none, .ldc2_w 489, 3, 1, 10, 0), (25, none, .lrem, 1, 0, 0, 0), (26, none, .ladd, 1, 0, 0, 0), (27, none, .l2i, 1, 0, 0, 0), (28, none, .invokevirtual 1274, 3, 1, 475, 0), (31, none, .return_, 1, 0, 0, 0)] := fq_of2 cd_698 ow_698 cl_698 rfl (pc := 17) (by decide +kernel)
    j_aldn (pc := 17) D rfl rfl rfl fun D =>
    j_ldc2 (pc := 18) D rfl fun D =>
    j_lldn (pc := 21) D rfl rfl rfl fun D =>
    j_ldc2 (pc := 22) D rfl fun D =>
    j_lremk (pc := 25) D rfl (by decide) fun D =>
    j_ladd (pc := 26) D rfl fun D =>
    j_l2i (pc := 27) D rfl fun D =>
    j_ivv (pc := 28) (m := 696) (dd := 475) (a := [(0, wI (wJ (48 + (lr_ x1 10))))]) (rest := []) D rfl rfl rfl rfl rfl (by decide) (s0_602 H) (by decide +kernel) (fun h1 e1 D =>
      have T := fj_run_ok _ _ _ _ _ _ H.1 e1
      have H := shp_st H T
      j_vret D rt_698) (fun q3 h1 e1 =>
      j_tx (hx_698 _))
theorem m_698 (d : Nat) (x1 : Int) {h : fi_H} (H : Shp h) : fj_run (d + 1) 698 h [(4, 602), (1, x1)] =
  if 0 < lc_ x1 9 then
    cv_ (fj_run d 698 h [(4, 602), (1, lq_ x1 10)])
      (fun h1 =>
      c_698_17 d x1 h1)
      (fun q3 h1 => tx_ q3 h1)
  else
    c_698_17 d x1 h := by
  rw [fj_run_eq d (by decide) h [(4, 602), (1, x1)] (Nat.le_of_ble_eq_true (by rw [nl_698]; rfl))]
  show gG (fj_run d) 698 0 [(0, (4, 602)), (1, (1, x1))] [] h = _
  exact
    have D : fk_D 698 [(0, none, .lload_n 1, 1, 0, 0, 0), (1, none, .ldc2_w 584, 3, 1, 9, 0), (4, none, .lcmp, 1, 0, 0, 0), (5, none, .ifCond .le 12, 3, 17, 0, 0), (8, none, .aload_n 0, 1, 0, 0, 0), (9, none, .lload_n 1, 1, 0, 0, 0), (10, none, .ldc2_w 489, 3, 1, 10, 0), (13, none, .ldiv, 1, 0, 0, 0), (14, none, .invokevirtual 1276, 3, 1, 476, 0)] := fq_of2 cd_698 ow_698 cl_698 rfl (pc := 0) (by decide +kernel)
    j_lldn (pc := 0) D rfl rfl rfl fun D =>
    j_ldc2 (pc := 1) D rfl fun D =>
    j_lcmp (pc := 4) D rfl fun D =>
    j_ifle (pc := 5) D rfl (fun q D =>
      j_aldn (pc := 8) D rfl rfl rfl fun D =>
      j_lldn (pc := 9) D rfl rfl rfl fun D =>
      j_ldc2 (pc := 10) D rfl fun D =>
      j_ldivk (pc := 13) D rfl (by decide) fun D =>
      j_ivv (pc := 14) (m := 698) (dd := 476) (a := [(1, lq_ x1 10)]) (rest := []) D rfl rfl rfl rfl rfl (by decide) (s0_602 H) (by decide +kernel) (fun h1 e1 D =>
        have T := fj_run_ok _ _ _ _ _ _ H.1 e1
        have H := shp_st H T
        fk_jump cut_698_17 rfl rfl) (fun q3 h1 e1 =>
        j_tx (hx_698 _))) (fun q =>
      fk_jump cut_698_17 rfl rfl)
/-! 699 StatuteHouseModel.putRule(I)V -/
theorem cd_699 : fi_code 699 = prog_69_method_225_code := rfl
theorem hx_699 : ∀ pc, fi_hat 699 pc = none := fun pc => by unfold fi_hat; rw [show fi_hh 699 = [] from rfl]; rfl
theorem rt_699 : fi_ret 699 = none := rfl
theorem nl_699 : fi_nl 699 = 2 := rfl
theorem ow_699 : fi_ow 699 = 29 := rfl
theorem cl_699 : fj_cutT.getD 699 [] = [(100, [0, 1]), (176, [0])] := rfl
theorem cut_699_100 : fj_cut 699 100 = some [0, 1] := by decide +kernel
noncomputable def c_699_100 (d : Nat) (x1 : Int) (h : fi_H) : fk_R := gG (fj_run d) 699 100 [(0, (4, 602)), (1, (0, x1))] [] h
theorem cut_699_176 : fj_cut 699 176 = some [0] := by decide +kernel
noncomputable def c_699_176 (d : Nat) (h : fi_H) : fk_R := gG (fj_run d) 699 176 [(0, (4, 602))] [] h
theorem e_699_100 (d : Nat) (x1 : Int) {h : fi_H} (H : Shp h) : c_699_100 d x1 h =
  if 0 ≤ x1 ∧ x1 < 560 then
  cv_ (fj_run d 701 h [(4, 602), (0, h 10 625 x1.toNat)])
    (fun h2 =>
    cv_ (fj_run d 696 h2 [(4, 602), (0, 32)])
      (fun h5 =>
      cv_ (fj_run d 695 h5 [(4, 602), (0, 23)])
        (fun h8 =>
        cv_ (fj_run d 696 h8 [(4, 602), (0, 32)])
          (fun h11 =>
          cv_ (fj_run d 704 h11 [(4, 602), (0, h11 10 626 x1.toNat)])
            (fun h14 =>
            if h14 10 627 x1.toNat = (-1) then
              c_699_176 d h14
            else
              cv_ (fj_run d 696 h14 [(4, 602), (0, 32)])
                (fun h17 =>
                cv_ (fj_run d 695 h17 [(4, 602), (0, 24)])
                  (fun h20 =>
                  cv_ (fj_run d 696 h20 [(4, 602), (0, 32)])
                    (fun h23 =>
                    cv_ (fj_run d 704 h23 [(4, 602), (0, h23 10 627 x1.toNat)])
                      (fun h26 =>
                      c_699_176 d h26)
                      (fun q28 h26 => tx_ q28 h26))
                    (fun q25 h23 => tx_ q25 h23))
                  (fun q22 h20 => tx_ q22 h20))
                (fun q19 h17 => tx_ q19 h17))
            (fun q16 h14 => tx_ q16 h14))
          (fun q13 h11 => tx_ q13 h11))
        (fun q10 h8 => tx_ q10 h8))
      (fun q7 h5 => tx_ q7 h5))
    (fun q4 h2 => tx_ q4 h2)
  else none := by
  unfold c_699_100
  exact
    have D : fk_D 699 [(100, some [0, 1], .aload_n 0, 1, 0, 0, 0), (101, none, .aload_n 0, 1, 0, 0, 0), (102, none, .getfield 86, 3, 428, 129, 12), (105, none, .iload_n 1, 1, 0, 0, 0), (106, none, .iaload, 1, 0, 0, 0), (107, none, .invokevirtual 1291, 3, 1, 481, 0), (110, none, .aload_n 0, 1, 0, 0, 0), (111, none, .bipush 32, 2, 0, 32, 0), (113, none, .invokevirtual 1274, 3, 1, 475, 0), (116, none, .aload_n 0, 1, 0, 0, 0), (117, none, .bipush 23, 2, 0, 23, 0), (119, none, .invokevirtual 1282, 3, 1, 478, 0), (122, none, .aload_n 0, 1, 0, 0, 0), (123, none, .bipush 32, 2, 0, 32, 0), (125, none, .invokevirtual 1274, 3, 1, 475, 0), (128, none, .aload_n 0, 1, 0, 0, 0), (129, none, .aload_n 0, 1, 0, 0, 0), (130, none, .getfield 89, 3, 429, 129, 12), (133, none, .iload_n 1, 1, 0, 0, 0), (134, none, .iaload, 1, 0, 0, 0)] := fq_of2 cd_699 ow_699 cl_699 rfl (pc := 100) (by decide +kernel)
    j_aldn (pc := 100) D rfl rfl rfl fun D =>
    j_aldn (pc := 101) D rfl rfl rfl fun D =>
    j_gfc (pc := 102) (a := 602) D rfl rfl (by decide) rfl (s0_602 H) rfl (sf_428_602 H) fun D =>
    j_ildn (pc := 105) D rfl rfl rfl fun D =>
    j_al (pc := 106) (a := 625) (e := 10) D rfl rfl rfl (by decide) (s0_625 H) (s1_625 H) ⟨rfl, rfl, rfl⟩ rfl gn fun qb1 D =>
    j_ivv (pc := 107) (m := 701) (dd := 481) (a := [(0, h 10 625 x1.toNat)]) (rest := []) D rfl rfl rfl rfl rfl (by decide) (s0_602 H) (by decide +kernel) (fun h2 e1 D =>
      have T := fj_run_ok _ _ _ _ _ _ H.1 e1
      have H := shp_st H T
      j_aldn (pc := 110) D rfl rfl rfl fun D =>
      j_bp (pc := 111) D rfl fun D =>
      j_ivv (pc := 113) (m := 696) (dd := 475) (a := [(0, 32)]) (rest := []) D rfl rfl rfl rfl rfl (by decide) (s0_602 H) (by decide +kernel) (fun h5 e1 D =>
        have T := fj_run_ok _ _ _ _ _ _ H.1 e1
        have H := shp_st H T
        j_aldn (pc := 116) D rfl rfl rfl fun D =>
        j_bp (pc := 117) D rfl fun D =>
        j_ivv (pc := 119) (m := 695) (dd := 478) (a := [(0, 23)]) (rest := []) D rfl rfl rfl rfl rfl (by decide) (s0_602 H) (by decide +kernel) (fun h8 e1 D =>
          have T := fj_run_ok _ _ _ _ _ _ H.1 e1
          have H := shp_st H T
          j_aldn (pc := 122) D rfl rfl rfl fun D =>
          j_bp (pc := 123) D rfl fun D =>
          j_ivv (pc := 125) (m := 696) (dd := 475) (a := [(0, 32)]) (rest := []) D rfl rfl rfl rfl rfl (by decide) (s0_602 H) (by decide +kernel) (fun h11 e1 D =>
            have T := fj_run_ok _ _ _ _ _ _ H.1 e1
            have H := shp_st H T
            j_aldn (pc := 128) D rfl rfl rfl fun D =>
            j_aldn (pc := 129) D rfl rfl rfl fun D =>
            j_gfc (pc := 130) (a := 602) D rfl rfl (by decide) rfl (s0_602 H) rfl (sf_429_602 H) fun D =>
            j_ildn (pc := 133) D rfl rfl rfl fun D =>
            j_al (pc := 134) (a := 626) (e := 10) D rfl rfl rfl (by decide) (s0_626 H) (s1_626 H) ⟨rfl, rfl, rfl⟩ rfl (gy qb1) fun q D =>
            have D : fk_D 699 [(135, none, .invokevirtual 1294, 3, 1, 482, 0), (138, none, .aload_n 0, 1, 0, 0, 0), (139, none, .getfield 92, 3, 430, 129, 12), (142, none, .iload_n 1, 1, 0, 0, 0), (143, none, .iaload, 1, 0, 0, 0), (144, none, .iconst (-1), 1, 0, (-1), 0), (145, none, .if_icmp .eq 31, 3, 176, 0, 0), (148, none, .aload_n 0, 1, 0, 0, 0), (149, none, .bipush 32, 2, 0, 32, 0), (151, none, .invokevirtual 1274, 3, 1, 475, 0), (154, none, .aload_n 0, 1, 0, 0, 0), (155, none, .bipush 24, 2, 0, 24, 0), (157, none, .invokevirtual 1282, 3, 1, 478, 0), (160, none, .aload_n 0, 1, 0, 0, 0), (161, none, .bipush 32, 2, 0, 32, 0), (163, none, .invokevirtual 1274, 3, 1, 475, 0), (166, none, .aload_n 0, 1, 0, 0, 0), (167, none, .aload_n 0, 1, 0, 0, 0), (168, none, .getfield 92, 3, 430, 129, 12), (171, none, .iload_n 1, 1, 0, 0, 0)] := fq_of2 cd_699 ow_699 cl_699 rfl (pc := 135) (by decide +kernel)
            j_ivv (pc := 135) (m := 704) (dd := 482) (a := [(0, h11 10 626 x1.toNat)]) (rest := []) D rfl rfl rfl rfl rfl (by decide) (s0_602 H) (by decide +kernel) (fun h14 e1 D =>
              have T := fj_run_ok _ _ _ _ _ _ H.1 e1
              have H := shp_st H T
              j_aldn (pc := 138) D rfl rfl rfl fun D =>
              j_gfc (pc := 139) (a := 602) D rfl rfl (by decide) rfl (s0_602 H) rfl (sf_430_602 H) fun D =>
              j_ildn (pc := 142) D rfl rfl rfl fun D =>
              j_al (pc := 143) (a := 627) (e := 10) D rfl rfl rfl (by decide) (s0_627 H) (s1_627 H) ⟨rfl, rfl, rfl⟩ rfl (gy qb1) fun q D =>
              j_ic (pc := 144) D rfl fun D =>
              j_ieq (pc := 145) D rfl (fun q =>
                fk_jump cut_699_176 rfl rfl) (fun q D =>
                j_aldn (pc := 148) D rfl rfl rfl fun D =>
                j_bp (pc := 149) D rfl fun D =>
                j_ivv (pc := 151) (m := 696) (dd := 475) (a := [(0, 32)]) (rest := []) D rfl rfl rfl rfl rfl (by decide) (s0_602 H) (by decide +kernel) (fun h17 e1 D =>
                  have T := fj_run_ok _ _ _ _ _ _ H.1 e1
                  have H := shp_st H T
                  j_aldn (pc := 154) D rfl rfl rfl fun D =>
                  j_bp (pc := 155) D rfl fun D =>
                  j_ivv (pc := 157) (m := 695) (dd := 478) (a := [(0, 24)]) (rest := []) D rfl rfl rfl rfl rfl (by decide) (s0_602 H) (by decide +kernel) (fun h20 e1 D =>
                    have T := fj_run_ok _ _ _ _ _ _ H.1 e1
                    have H := shp_st H T
                    j_aldn (pc := 160) D rfl rfl rfl fun D =>
                    j_bp (pc := 161) D rfl fun D =>
                    j_ivv (pc := 163) (m := 696) (dd := 475) (a := [(0, 32)]) (rest := []) D rfl rfl rfl rfl rfl (by decide) (s0_602 H) (by decide +kernel) (fun h23 e1 D =>
                      have T := fj_run_ok _ _ _ _ _ _ H.1 e1
                      have H := shp_st H T
                      j_aldn (pc := 166) D rfl rfl rfl fun D =>
                      j_aldn (pc := 167) D rfl rfl rfl fun D =>
                      j_gfc (pc := 168) (a := 602) D rfl rfl (by decide) rfl (s0_602 H) rfl (sf_430_602 H) fun D =>
                      j_ildn (pc := 171) D rfl rfl rfl fun D =>
                      have D : fk_D 699 [(172, none, .iaload, 1, 0, 0, 0), (173, none, .invokevirtual 1294, 3, 1, 482, 0)] := fq_of2 cd_699 ow_699 cl_699 rfl (pc := 172) (by decide +kernel)
                      j_al (pc := 172) (a := 627) (e := 10) D rfl rfl rfl (by decide) (s0_627 H) (s1_627 H) ⟨rfl, rfl, rfl⟩ rfl (gy qb1) fun q D =>
                      j_ivv (pc := 173) (m := 704) (dd := 482) (a := [(0, h23 10 627 x1.toNat)]) (rest := []) D rfl rfl rfl rfl rfl (by decide) (s0_602 H) (by decide +kernel) (fun h26 e1 D =>
                        have T := fj_run_ok _ _ _ _ _ _ H.1 e1
                        have H := shp_st H T
                        fk_jump cut_699_176 rfl rfl) (fun q28 h26 e1 =>
                        j_tx (hx_699 _))) (fun q25 h23 e1 =>
                      j_tx (hx_699 _))) (fun q22 h20 e1 =>
                    j_tx (hx_699 _))) (fun q19 h17 e1 =>
                  j_tx (hx_699 _)))) (fun q16 h14 e1 =>
              j_tx (hx_699 _))) (fun q13 h11 e1 =>
            j_tx (hx_699 _))) (fun q10 h8 e1 =>
          j_tx (hx_699 _))) (fun q7 h5 e1 =>
        j_tx (hx_699 _))) (fun q4 h2 e1 =>
      j_tx (hx_699 _))
theorem e_699_176 (d : Nat) {h : fi_H} (H : Shp h) : c_699_176 d h =
  cv_ (fj_run d 696 h [(4, 602), (0, 59)])
    (fun h1 =>
    cv_ (fj_run d 696 h1 [(4, 602), (0, 10)])
      (fun h4 =>
      some (.inl none, h4))
      (fun q6 h4 => tx_ q6 h4))
    (fun q3 h1 => tx_ q3 h1) := by
  unfold c_699_176
  exact
    have D : fk_D 699 [(176, some [0], .aload_n 0, 1, 0, 0, 0), (177, none, .bipush 59, 2, 0, 59, 0), (179, none, .invokevirtual 1274, 3, 1, 475, 0), (182, none, .aload_n 0, 1, 0, 0, 0), (183, none, .bipush 10, 2, 0, 10, 0), (185, none, .invokevirtual 1274, 3, 1, 475, 0), (188, none, .return_, 1, 0, 0, 0)] := fq_of2 cd_699 ow_699 cl_699 rfl (pc := 176) (by decide +kernel)
    j_aldn (pc := 176) D rfl rfl rfl fun D =>
    j_bp (pc := 177) D rfl fun D =>
    j_ivv (pc := 179) (m := 696) (dd := 475) (a := [(0, 59)]) (rest := []) D rfl rfl rfl rfl rfl (by decide) (s0_602 H) (by decide +kernel) (fun h1 e1 D =>
      have T := fj_run_ok _ _ _ _ _ _ H.1 e1
      have H := shp_st H T
      j_aldn (pc := 182) D rfl rfl rfl fun D =>
      j_bp (pc := 183) D rfl fun D =>
      j_ivv (pc := 185) (m := 696) (dd := 475) (a := [(0, 10)]) (rest := []) D rfl rfl rfl rfl rfl (by decide) (s0_602 H) (by decide +kernel) (fun h4 e1 D =>
        have T := fj_run_ok _ _ _ _ _ _ H.1 e1
        have H := shp_st H T
        j_vret D rt_699) (fun q6 h4 e1 =>
        j_tx (hx_699 _))) (fun q3 h1 e1 =>
      j_tx (hx_699 _))
theorem m_699 (d : Nat) (x1 : Int) {h : fi_H} (H : Shp h) : fj_run (d + 1) 699 h [(4, 602), (0, x1)] =
  if x1 = (-1) then
    cv_ (fj_run d 695 h [(4, 602), (0, 75)])
      (fun h1 =>
      cv_ (fj_run d 696 h1 [(4, 602), (0, 59)])
        (fun h4 =>
        cv_ (fj_run d 696 h4 [(4, 602), (0, 10)])
          (fun h7 =>
          some (.inl none, h7))
          (fun q9 h7 => tx_ q9 h7))
        (fun q6 h4 => tx_ q6 h4))
      (fun q3 h1 => tx_ q3 h1)
  else
    if 0 ≤ x1 ∧ x1 < 560 then
    if h 4 630 x1.toNat = 0 then
      if h 10 628 x1.toNat = (-1) then
        c_699_100 d x1 h
      else
        cv_ (fj_run d 695 h [(4, 602), (0, 22)])
          (fun h11 =>
          cv_ (fj_run d 696 h11 [(4, 602), (0, 32)])
            (fun h14 =>
            cv_ (fj_run d 697 h14 [(4, 602), (0, h14 10 628 x1.toNat)])
              (fun h17 =>
              cv_ (fj_run d 696 h17 [(4, 602), (0, 47)])
                (fun h20 =>
                cv_ (fj_run d 698 h20 [(4, 602), (1, wI (h20 10 629 x1.toNat))])
                  (fun h23 =>
                  cv_ (fj_run d 696 h23 [(4, 602), (0, 58)])
                    (fun h26 =>
                    cv_ (fj_run d 696 h26 [(4, 602), (0, 32)])
                      (fun h29 =>
                      c_699_100 d x1 h29)
                      (fun q31 h29 => tx_ q31 h29))
                    (fun q28 h26 => tx_ q28 h26))
                  (fun q25 h23 => tx_ q25 h23))
                (fun q22 h20 => tx_ q22 h20))
              (fun q19 h17 => tx_ q19 h17))
            (fun q16 h14 => tx_ q16 h14))
          (fun q13 h11 => tx_ q13 h11)
    else
      cv_ (fj_run d 700 h [(4, 602), (0, x1)])
        (fun h32 =>
        some (.inl none, h32))
        (fun q34 h32 => tx_ q34 h32)
    else none := by
  rw [fj_run_eq d (by decide) h [(4, 602), (0, x1)] (Nat.le_of_ble_eq_true (by rw [nl_699]; rfl))]
  show gG (fj_run d) 699 0 [(0, (4, 602)), (1, (0, x1))] [] h = _
  exact
    have D : fk_D 699 [(0, none, .iload_n 1, 1, 0, 0, 0), (1, none, .iconst (-1), 1, 0, (-1), 0), (2, none, .if_icmp .ne 22, 3, 24, 0, 0), (5, none, .aload_n 0, 1, 0, 0, 0), (6, none, .bipush 75, 2, 0, 75, 0), (8, none, .invokevirtual 1282, 3, 1, 478, 0), (11, none, .aload_n 0, 1, 0, 0, 0), (12, none, .bipush 59, 2, 0, 59, 0), (14, none, .invokevirtual 1274, 3, 1, 475, 0), (17, none, .aload_n 0, 1, 0, 0, 0), (18, none, .bipush 10, 2, 0, 10, 0), (20, none, .invokevirtual 1274, 3, 1, 475, 0), (23, none, .return_, 1, 0, 0, 0)] := fq_of2 cd_699 ow_699 cl_699 rfl (pc := 0) (by decide +kernel)
    j_ildn (pc := 0) D rfl rfl rfl fun D =>
    j_ic (pc := 1) D rfl fun D =>
    j_ine (pc := 2) D rfl (fun q D =>
      j_aldn (pc := 5) D rfl rfl rfl fun D =>
      j_bp (pc := 6) D rfl fun D =>
      j_ivv (pc := 8) (m := 695) (dd := 478) (a := [(0, 75)]) (rest := []) D rfl rfl rfl rfl rfl (by decide) (s0_602 H) (by decide +kernel) (fun h1 e1 D =>
        have T := fj_run_ok _ _ _ _ _ _ H.1 e1
        have H := shp_st H T
        j_aldn (pc := 11) D rfl rfl rfl fun D =>
        j_bp (pc := 12) D rfl fun D =>
        j_ivv (pc := 14) (m := 696) (dd := 475) (a := [(0, 59)]) (rest := []) D rfl rfl rfl rfl rfl (by decide) (s0_602 H) (by decide +kernel) (fun h4 e1 D =>
          have T := fj_run_ok _ _ _ _ _ _ H.1 e1
          have H := shp_st H T
          j_aldn (pc := 17) D rfl rfl rfl fun D =>
          j_bp (pc := 18) D rfl fun D =>
          j_ivv (pc := 20) (m := 696) (dd := 475) (a := [(0, 10)]) (rest := []) D rfl rfl rfl rfl rfl (by decide) (s0_602 H) (by decide +kernel) (fun h7 e1 D =>
            have T := fj_run_ok _ _ _ _ _ _ H.1 e1
            have H := shp_st H T
            j_vret D rt_699) (fun q9 h7 e1 =>
            j_tx (hx_699 _))) (fun q6 h4 e1 =>
          j_tx (hx_699 _))) (fun q3 h1 e1 =>
        j_tx (hx_699 _))) (fun q =>
      have D : fk_D 699 [(24, none, .aload_n 0, 1, 0, 0, 0), (25, none, .getfield 101, 3, 433, 129, 12), (28, none, .iload_n 1, 1, 0, 0, 0), (29, none, .baload, 1, 0, 0, 0), (30, none, .ifCond .eq 9, 3, 39, 0, 0), (33, none, .aload_n 0, 1, 0, 0, 0), (34, none, .iload_n 1, 1, 0, 0, 0), (35, none, .invokevirtual 1306, 3, 1, 485, 0), (38, none, .return_, 1, 0, 0, 0)] := fq_of2 cd_699 ow_699 cl_699 rfl (pc := 24) (by decide +kernel)
      j_aldn (pc := 24) D rfl rfl rfl fun D =>
      j_gfc (pc := 25) (a := 602) D rfl rfl (by decide) rfl (s0_602 H) rfl (sf_433_602 H) fun D =>
      j_ildn (pc := 28) D rfl rfl rfl fun D =>
      j_al (pc := 29) (a := 630) (e := 4) D rfl rfl rfl (by decide) (s0_630 H) (s1_630 H) ⟨rfl, rfl, rfl⟩ rfl gn fun qb10 D =>
      j_ifeq (pc := 30) D rfl (fun q =>
        have D : fk_D 699 [(39, none, .aload_n 0, 1, 0, 0, 0), (40, none, .getfield 95, 3, 431, 129, 12), (43, none, .iload_n 1, 1, 0, 0, 0), (44, none, .iaload, 1, 0, 0, 0), (45, none, .iconst (-1), 1, 0, (-1), 0), (46, none, .if_icmp .eq 54, 3, 100, 0, 0), (49, none, .aload_n 0, 1, 0, 0, 0), (50, none, .bipush 22, 2, 0, 22, 0), (52, none, .invokevirtual 1282, 3, 1, 478, 0), (55, none, .aload_n 0, 1, 0, 0, 0), (56, none, .bipush 32, 2, 0, 32, 0), (58, none, .invokevirtual 1274, 3, 1, 475, 0), (61, none, .aload_n 0, 1, 0, 0, 0), (62, none, .aload_n 0, 1, 0, 0, 0), (63, none, .getfield 95, 3, 431, 129, 12), (66, none, .iload_n 1, 1, 0, 0, 0), (67, none, .iaload, 1, 0, 0, 0), (68, none, .invokevirtual 1309, 3, 1, 486, 0), (71, none, .aload_n 0, 1, 0, 0, 0), (72, none, .bipush 47, 2, 0, 47, 0)] := fq_of2 cd_699 ow_699 cl_699 rfl (pc := 39) (by decide +kernel)
        j_aldn (pc := 39) D rfl rfl rfl fun D =>
        j_gfc (pc := 40) (a := 602) D rfl rfl (by decide) rfl (s0_602 H) rfl (sf_431_602 H) fun D =>
        j_ildn (pc := 43) D rfl rfl rfl fun D =>
        j_al (pc := 44) (a := 628) (e := 10) D rfl rfl rfl (by decide) (s0_628 H) (s1_628 H) ⟨rfl, rfl, rfl⟩ rfl (gy qb10) fun q D =>
        j_ic (pc := 45) D rfl fun D =>
        j_ieq (pc := 46) D rfl (fun q =>
          fk_jump cut_699_100 rfl rfl) (fun q D =>
          j_aldn (pc := 49) D rfl rfl rfl fun D =>
          j_bp (pc := 50) D rfl fun D =>
          j_ivv (pc := 52) (m := 695) (dd := 478) (a := [(0, 22)]) (rest := []) D rfl rfl rfl rfl rfl (by decide) (s0_602 H) (by decide +kernel) (fun h11 e1 D =>
            have T := fj_run_ok _ _ _ _ _ _ H.1 e1
            have H := shp_st H T
            j_aldn (pc := 55) D rfl rfl rfl fun D =>
            j_bp (pc := 56) D rfl fun D =>
            j_ivv (pc := 58) (m := 696) (dd := 475) (a := [(0, 32)]) (rest := []) D rfl rfl rfl rfl rfl (by decide) (s0_602 H) (by decide +kernel) (fun h14 e1 D =>
              have T := fj_run_ok _ _ _ _ _ _ H.1 e1
              have H := shp_st H T
              j_aldn (pc := 61) D rfl rfl rfl fun D =>
              j_aldn (pc := 62) D rfl rfl rfl fun D =>
              j_gfc (pc := 63) (a := 602) D rfl rfl (by decide) rfl (s0_602 H) rfl (sf_431_602 H) fun D =>
              j_ildn (pc := 66) D rfl rfl rfl fun D =>
              j_al (pc := 67) (a := 628) (e := 10) D rfl rfl rfl (by decide) (s0_628 H) (s1_628 H) ⟨rfl, rfl, rfl⟩ rfl (gy qb10) fun q D =>
              j_ivv (pc := 68) (m := 697) (dd := 486) (a := [(0, h14 10 628 x1.toNat)]) (rest := []) D rfl rfl rfl rfl rfl (by decide) (s0_602 H) (by decide +kernel) (fun h17 e1 D =>
                have T := fj_run_ok _ _ _ _ _ _ H.1 e1
                have H := shp_st H T
                j_aldn (pc := 71) D rfl rfl rfl fun D =>
                j_bp (pc := 72) D rfl fun D =>
                have D : fk_D 699 [(74, none, .invokevirtual 1274, 3, 1, 475, 0), (77, none, .aload_n 0, 1, 0, 0, 0), (78, none, .aload_n 0, 1, 0, 0, 0), (79, none, .getfield 98, 3, 432, 129, 12), (82, none, .iload_n 1, 1, 0, 0, 0), (83, none, .iaload, 1, 0, 0, 0), (84, none, .i2l, 1, 0, 0, 0), (85, none, .invokevirtual 1276, 3, 1, 476, 0), (88, none, .aload_n 0, 1, 0, 0, 0), (89, none, .bipush 58, 2, 0, 58, 0), (91, none, .invokevirtual 1274, 3, 1, 475, 0), (94, none, .aload_n 0, 1, 0, 0, 0), (95, none, .bipush 32, 2, 0, 32, 0), (97, none, .invokevirtual 1274, 3, 1, 475, 0)] := fq_of2 cd_699 ow_699 cl_699 rfl (pc := 74) (by decide +kernel)
                j_ivv (pc := 74) (m := 696) (dd := 475) (a := [(0, 47)]) (rest := []) D rfl rfl rfl rfl rfl (by decide) (s0_602 H) (by decide +kernel) (fun h20 e1 D =>
                  have T := fj_run_ok _ _ _ _ _ _ H.1 e1
                  have H := shp_st H T
                  j_aldn (pc := 77) D rfl rfl rfl fun D =>
                  j_aldn (pc := 78) D rfl rfl rfl fun D =>
                  j_gfc (pc := 79) (a := 602) D rfl rfl (by decide) rfl (s0_602 H) rfl (sf_432_602 H) fun D =>
                  j_ildn (pc := 82) D rfl rfl rfl fun D =>
                  j_al (pc := 83) (a := 629) (e := 10) D rfl rfl rfl (by decide) (s0_629 H) (s1_629 H) ⟨rfl, rfl, rfl⟩ rfl (gy qb10) fun q D =>
                  j_i2l (pc := 84) D rfl fun D =>
                  j_ivv (pc := 85) (m := 698) (dd := 476) (a := [(1, wI (h20 10 629 x1.toNat))]) (rest := []) D rfl rfl rfl rfl rfl (by decide) (s0_602 H) (by decide +kernel) (fun h23 e1 D =>
                    have T := fj_run_ok _ _ _ _ _ _ H.1 e1
                    have H := shp_st H T
                    j_aldn (pc := 88) D rfl rfl rfl fun D =>
                    j_bp (pc := 89) D rfl fun D =>
                    j_ivv (pc := 91) (m := 696) (dd := 475) (a := [(0, 58)]) (rest := []) D rfl rfl rfl rfl rfl (by decide) (s0_602 H) (by decide +kernel) (fun h26 e1 D =>
                      have T := fj_run_ok _ _ _ _ _ _ H.1 e1
                      have H := shp_st H T
                      j_aldn (pc := 94) D rfl rfl rfl fun D =>
                      j_bp (pc := 95) D rfl fun D =>
                      j_ivv (pc := 97) (m := 696) (dd := 475) (a := [(0, 32)]) (rest := []) D rfl rfl rfl rfl rfl (by decide) (s0_602 H) (by decide +kernel) (fun h29 e1 D =>
                        have T := fj_run_ok _ _ _ _ _ _ H.1 e1
                        have H := shp_st H T
                        fk_jump cut_699_100 rfl rfl) (fun q31 h29 e1 =>
                        j_tx (hx_699 _))) (fun q28 h26 e1 =>
                      j_tx (hx_699 _))) (fun q25 h23 e1 =>
                    j_tx (hx_699 _))) (fun q22 h20 e1 =>
                  j_tx (hx_699 _))) (fun q19 h17 e1 =>
                j_tx (hx_699 _))) (fun q16 h14 e1 =>
              j_tx (hx_699 _))) (fun q13 h11 e1 =>
            j_tx (hx_699 _)))) (fun q D =>
        j_aldn (pc := 33) D rfl rfl rfl fun D =>
        j_ildn (pc := 34) D rfl rfl rfl fun D =>
        j_ivv (pc := 35) (m := 700) (dd := 485) (a := [(0, x1)]) (rest := []) D rfl rfl rfl rfl rfl (by decide) (s0_602 H) (by decide +kernel) (fun h32 e1 D =>
          have T := fj_run_ok _ _ _ _ _ _ H.1 e1
          have H := shp_st H T
          j_vret D rt_699) (fun q34 h32 e1 =>
          j_tx (hx_699 _))))
/-! 700 StatuteHouseModel.putTable(I)V -/
theorem cd_700 : fi_code 700 = prog_69_method_223_code := rfl
theorem hx_700 : ∀ pc, fi_hat 700 pc = none := fun pc => by unfold fi_hat; rw [show fi_hh 700 = [] from rfl]; rfl
theorem rt_700 : fi_ret 700 = none := rfl
theorem nl_700 : fi_nl 700 = 3 := rfl
theorem ow_700 : fi_ow 700 = 29 := rfl
theorem cl_700 : fj_cutT.getD 700 [] = [(41, [0, 1, 2]), (131, [0, 1, 2])] := rfl
theorem cut_700_41 : fj_cut 700 41 = some [0, 1, 2] := by decide +kernel
noncomputable def c_700_41 (d : Nat) (x1 x2 : Int) (h : fi_H) : fk_R := gG (fj_run d) 700 41 [(0, (4, 602)), (1, (0, x1)), (2, (0, x2))] [] h
theorem cut_700_131 : fj_cut 700 131 = some [0, 1, 2] := by decide +kernel
noncomputable def c_700_131 (d : Nat) (x1 x2 : Int) (h : fi_H) : fk_R := gG (fj_run d) 700 131 [(0, (4, 602)), (1, (0, x1)), (2, (0, x2))] [] h
theorem e_700_41 (d : Nat) (x1 x2 : Int) {h : fi_H} (H : Shp h) : c_700_41 d x1 x2 h =
  if 0 ≤ x1 ∧ x1 < 560 then
  if x2 < wI ((h 10 626 x1.toNat) + (h 10 627 x1.toNat)) then
    cv_ (fj_run d 696 h [(4, 602), (0, 32)])
      (fun h2 =>
      if 0 ≤ x2 ∧ x2 < 440 then
      cv_ (fj_run d 702 h2 [(4, 602), (1, h2 11 631 x2.toNat)])
        (fun h6 =>
        cv_ (fj_run d 696 h6 [(4, 602), (0, 58)])
          (fun h9 =>
          cv_ (fj_run d 696 h9 [(4, 602), (0, 32)])
            (fun h12 =>
            if 0 ≤ h12 10 625 x1.toNat ∧ h12 10 625 x1.toNat < 41 then
            if h12 10 611 (h12 10 625 x1.toNat).toNat = 3 then
              cv_ (fj_run d 698 h12 [(4, 602), (1, wI (h12 10 634 x2.toNat))])
                (fun h16 =>
                cv_ (fj_run d 696 h16 [(4, 602), (0, 37)])
                  (fun h19 =>
                  c_700_131 d x1 x2 h19)
                  (fun q21 h19 => tx_ q21 h19))
                (fun q18 h16 => tx_ q18 h16)
            else
              cv_ (fj_run d 702 h12 [(4, 602), (1, h12 11 632 x2.toNat)])
                (fun h22 =>
                c_700_131 d x1 x2 h22)
                (fun q24 h22 => tx_ q24 h22)
            else none)
            (fun q14 h12 => tx_ q14 h12))
          (fun q11 h9 => tx_ q11 h9))
        (fun q8 h6 => tx_ q8 h6)
      else none)
      (fun q4 h2 => tx_ q4 h2)
  else
    cv_ (fj_run d 696 h [(4, 602), (0, 32)])
      (fun h25 =>
      cv_ (fj_run d 696 h25 [(4, 602), (0, 125)])
        (fun h28 =>
        cv_ (fj_run d 696 h28 [(4, 602), (0, 10)])
          (fun h31 =>
          some (.inl none, h31))
          (fun q33 h31 => tx_ q33 h31))
        (fun q30 h28 => tx_ q30 h28))
      (fun q27 h25 => tx_ q27 h25)
  else none := by
  unfold c_700_41
  exact
    have D : fk_D 700 [(41, some [0, 1, 2], .iload_n 2, 1, 0, 0, 0), (42, none, .aload_n 0, 1, 0, 0, 0), (43, none, .getfield 89, 3, 429, 129, 12), (46, none, .iload_n 1, 1, 0, 0, 0), (47, none, .iaload, 1, 0, 0, 0), (48, none, .aload_n 0, 1, 0, 0, 0), (49, none, .getfield 92, 3, 430, 129, 12), (52, none, .iload_n 1, 1, 0, 0, 0), (53, none, .iaload, 1, 0, 0, 0), (54, none, .iadd, 1, 0, 0, 0), (55, none, .if_icmp .ge 88, 3, 143, 0, 0), (58, none, .aload_n 0, 1, 0, 0, 0), (59, none, .bipush 32, 2, 0, 32, 0), (61, none, .invokevirtual 1274, 3, 1, 475, 0), (64, none, .aload_n 0, 1, 0, 0, 0), (65, none, .aload_n 0, 1, 0, 0, 0), (66, none, .getfield 104, 3, 435, 129, 12), (69, none, .iload_n 2, 1, 0, 0, 0), (70, none, .laload, 1, 0, 0, 0), (71, none, .invokevirtual 1303, 3, 1, 484, 0)] := fq_of2 cd_700 ow_700 cl_700 rfl (pc := 41) (by decide +kernel)
    j_ildn (pc := 41) D rfl rfl rfl fun D =>
    j_aldn (pc := 42) D rfl rfl rfl fun D =>
    j_gfc (pc := 43) (a := 602) D rfl rfl (by decide) rfl (s0_602 H) rfl (sf_429_602 H) fun D =>
    j_ildn (pc := 46) D rfl rfl rfl fun D =>
    j_al (pc := 47) (a := 626) (e := 10) D rfl rfl rfl (by decide) (s0_626 H) (s1_626 H) ⟨rfl, rfl, rfl⟩ rfl gn fun qb1 D =>
    j_aldn (pc := 48) D rfl rfl rfl fun D =>
    j_gfc (pc := 49) (a := 602) D rfl rfl (by decide) rfl (s0_602 H) rfl (sf_430_602 H) fun D =>
    j_ildn (pc := 52) D rfl rfl rfl fun D =>
    j_al (pc := 53) (a := 627) (e := 10) D rfl rfl rfl (by decide) (s0_627 H) (s1_627 H) ⟨rfl, rfl, rfl⟩ rfl (gy qb1) fun q D =>
    j_iadd (pc := 54) D rfl fun D =>
    j_ige (pc := 55) D rfl (fun q D =>
      j_aldn (pc := 58) D rfl rfl rfl fun D =>
      j_bp (pc := 59) D rfl fun D =>
      j_ivv (pc := 61) (m := 696) (dd := 475) (a := [(0, 32)]) (rest := []) D rfl rfl rfl rfl rfl (by decide) (s0_602 H) (by decide +kernel) (fun h2 e1 D =>
        have T := fj_run_ok _ _ _ _ _ _ H.1 e1
        have H := shp_st H T
        j_aldn (pc := 64) D rfl rfl rfl fun D =>
        j_aldn (pc := 65) D rfl rfl rfl fun D =>
        j_gfc (pc := 66) (a := 602) D rfl rfl (by decide) rfl (s0_602 H) rfl (sf_435_602 H) fun D =>
        j_ildn (pc := 69) D rfl rfl rfl fun D =>
        j_al (pc := 70) (a := 631) (e := 11) D rfl rfl rfl (by decide) (s0_631 H) (s1_631 H) ⟨rfl, rfl, rfl⟩ rfl gn fun qb5 D =>
        j_ivv (pc := 71) (m := 702) (dd := 484) (a := [(1, h2 11 631 x2.toNat)]) (rest := []) D rfl rfl rfl rfl rfl (by decide) (s0_602 H) (by decide +kernel) (fun h6 e1 D =>
          have T := fj_run_ok _ _ _ _ _ _ H.1 e1
          have H := shp_st H T
          have D : fk_D 700 [(74, none, .aload_n 0, 1, 0, 0, 0), (75, none, .bipush 58, 2, 0, 58, 0), (77, none, .invokevirtual 1274, 3, 1, 475, 0), (80, none, .aload_n 0, 1, 0, 0, 0), (81, none, .bipush 32, 2, 0, 32, 0), (83, none, .invokevirtual 1274, 3, 1, 475, 0), (86, none, .aload_n 0, 1, 0, 0, 0), (87, none, .getfield 43, 3, 407, 129, 12), (90, none, .aload_n 0, 1, 0, 0, 0), (91, none, .getfield 86, 3, 428, 129, 12), (94, none, .iload_n 1, 1, 0, 0, 0), (95, none, .iaload, 1, 0, 0, 0), (96, none, .iaload, 1, 0, 0, 0), (97, none, .iconst 3, 1, 0, 3, 0), (98, none, .if_icmp .ne 23, 3, 121, 0, 0), (101, none, .aload_n 0, 1, 0, 0, 0), (102, none, .aload_n 0, 1, 0, 0, 0), (103, none, .getfield 113, 3, 438, 129, 12), (106, none, .iload_n 2, 1, 0, 0, 0), (107, none, .iaload, 1, 0, 0, 0)] := fq_of2 cd_700 ow_700 cl_700 rfl (pc := 74) (by decide +kernel)
          j_aldn (pc := 74) D rfl rfl rfl fun D =>
          j_bp (pc := 75) D rfl fun D =>
          j_ivv (pc := 77) (m := 696) (dd := 475) (a := [(0, 58)]) (rest := []) D rfl rfl rfl rfl rfl (by decide) (s0_602 H) (by decide +kernel) (fun h9 e1 D =>
            have T := fj_run_ok _ _ _ _ _ _ H.1 e1
            have H := shp_st H T
            j_aldn (pc := 80) D rfl rfl rfl fun D =>
            j_bp (pc := 81) D rfl fun D =>
            j_ivv (pc := 83) (m := 696) (dd := 475) (a := [(0, 32)]) (rest := []) D rfl rfl rfl rfl rfl (by decide) (s0_602 H) (by decide +kernel) (fun h12 e1 D =>
              have T := fj_run_ok _ _ _ _ _ _ H.1 e1
              have H := shp_st H T
              j_aldn (pc := 86) D rfl rfl rfl fun D =>
              j_gfc (pc := 87) (a := 602) D rfl rfl (by decide) rfl (s0_602 H) rfl (sf_407_602 H) fun D =>
              j_aldn (pc := 90) D rfl rfl rfl fun D =>
              j_gfc (pc := 91) (a := 602) D rfl rfl (by decide) rfl (s0_602 H) rfl (sf_428_602 H) fun D =>
              j_ildn (pc := 94) D rfl rfl rfl fun D =>
              j_al (pc := 95) (a := 625) (e := 10) D rfl rfl rfl (by decide) (s0_625 H) (s1_625 H) ⟨rfl, rfl, rfl⟩ rfl (gy qb1) fun q D =>
              j_al (pc := 96) (a := 611) (e := 10) D rfl rfl rfl (by decide) (s0_611 H) (s1_611 H) ⟨rfl, rfl, rfl⟩ rfl gn fun qb15 D =>
              j_ic (pc := 97) D rfl fun D =>
              j_ine (pc := 98) D rfl (fun q D =>
                j_aldn (pc := 101) D rfl rfl rfl fun D =>
                j_aldn (pc := 102) D rfl rfl rfl fun D =>
                j_gfc (pc := 103) (a := 602) D rfl rfl (by decide) rfl (s0_602 H) rfl (sf_438_602 H) fun D =>
                j_ildn (pc := 106) D rfl rfl rfl fun D =>
                j_al (pc := 107) (a := 634) (e := 10) D rfl rfl rfl (by decide) (s0_634 H) (s1_634 H) ⟨rfl, rfl, rfl⟩ rfl (gy qb5) fun q D =>
                have D : fk_D 700 [(108, none, .i2l, 1, 0, 0, 0), (109, none, .invokevirtual 1276, 3, 1, 476, 0), (112, none, .aload_n 0, 1, 0, 0, 0), (113, none, .bipush 37, 2, 0, 37, 0), (115, none, .invokevirtual 1274, 3, 1, 475, 0), (118, none, .goto 13, 3, 131, 0, 0)] := fq_of2 cd_700 ow_700 cl_700 rfl (pc := 108) (by decide +kernel)
                j_i2l (pc := 108) D rfl fun D =>
                j_ivv (pc := 109) (m := 698) (dd := 476) (a := [(1, wI (h12 10 634 x2.toNat))]) (rest := []) D rfl rfl rfl rfl rfl (by decide) (s0_602 H) (by decide +kernel) (fun h16 e1 D =>
                  have T := fj_run_ok _ _ _ _ _ _ H.1 e1
                  have H := shp_st H T
                  j_aldn (pc := 112) D rfl rfl rfl fun D =>
                  j_bp (pc := 113) D rfl fun D =>
                  j_ivv (pc := 115) (m := 696) (dd := 475) (a := [(0, 37)]) (rest := []) D rfl rfl rfl rfl rfl (by decide) (s0_602 H) (by decide +kernel) (fun h19 e1 D =>
                    have T := fj_run_ok _ _ _ _ _ _ H.1 e1
                    have H := shp_st H T
                    j_goto (pc := 118) D rfl <|
                    fk_jump cut_700_131 rfl rfl) (fun q21 h19 e1 =>
                    j_tx (hx_700 _))) (fun q18 h16 e1 =>
                  j_tx (hx_700 _))) (fun q =>
                have D : fk_D 700 [(121, none, .aload_n 0, 1, 0, 0, 0), (122, none, .aload_n 0, 1, 0, 0, 0), (123, none, .getfield 107, 3, 436, 129, 12), (126, none, .iload_n 2, 1, 0, 0, 0), (127, none, .laload, 1, 0, 0, 0), (128, none, .invokevirtual 1303, 3, 1, 484, 0)] := fq_of2 cd_700 ow_700 cl_700 rfl (pc := 121) (by decide +kernel)
                j_aldn (pc := 121) D rfl rfl rfl fun D =>
                j_aldn (pc := 122) D rfl rfl rfl fun D =>
                j_gfc (pc := 123) (a := 602) D rfl rfl (by decide) rfl (s0_602 H) rfl (sf_436_602 H) fun D =>
                j_ildn (pc := 126) D rfl rfl rfl fun D =>
                j_al (pc := 127) (a := 632) (e := 11) D rfl rfl rfl (by decide) (s0_632 H) (s1_632 H) ⟨rfl, rfl, rfl⟩ rfl (gy qb5) fun q D =>
                j_ivv (pc := 128) (m := 702) (dd := 484) (a := [(1, h12 11 632 x2.toNat)]) (rest := []) D rfl rfl rfl rfl rfl (by decide) (s0_602 H) (by decide +kernel) (fun h22 e1 D =>
                  have T := fj_run_ok _ _ _ _ _ _ H.1 e1
                  have H := shp_st H T
                  fk_jump cut_700_131 rfl rfl) (fun q24 h22 e1 =>
                  j_tx (hx_700 _)))) (fun q14 h12 e1 =>
              j_tx (hx_700 _))) (fun q11 h9 e1 =>
            j_tx (hx_700 _))) (fun q8 h6 e1 =>
          j_tx (hx_700 _))) (fun q4 h2 e1 =>
        j_tx (hx_700 _))) (fun q =>
      have D : fk_D 700 [(143, none, .aload_n 0, 1, 0, 0, 0), (144, none, .bipush 32, 2, 0, 32, 0), (146, none, .invokevirtual 1274, 3, 1, 475, 0), (149, none, .aload_n 0, 1, 0, 0, 0), (150, none, .bipush 125, 2, 0, 125, 0), (152, none, .invokevirtual 1274, 3, 1, 475, 0), (155, none, .aload_n 0, 1, 0, 0, 0), (156, none, .bipush 10, 2, 0, 10, 0), (158, none, .invokevirtual 1274, 3, 1, 475, 0), (161, none, .return_, 1, 0, 0, 0)] := fq_of2 cd_700 ow_700 cl_700 rfl (pc := 143) (by decide +kernel)
      j_aldn (pc := 143) D rfl rfl rfl fun D =>
      j_bp (pc := 144) D rfl fun D =>
      j_ivv (pc := 146) (m := 696) (dd := 475) (a := [(0, 32)]) (rest := []) D rfl rfl rfl rfl rfl (by decide) (s0_602 H) (by decide +kernel) (fun h25 e1 D =>
        have T := fj_run_ok _ _ _ _ _ _ H.1 e1
        have H := shp_st H T
        j_aldn (pc := 149) D rfl rfl rfl fun D =>
        j_bp (pc := 150) D rfl fun D =>
        j_ivv (pc := 152) (m := 696) (dd := 475) (a := [(0, 125)]) (rest := []) D rfl rfl rfl rfl rfl (by decide) (s0_602 H) (by decide +kernel) (fun h28 e1 D =>
          have T := fj_run_ok _ _ _ _ _ _ H.1 e1
          have H := shp_st H T
          j_aldn (pc := 155) D rfl rfl rfl fun D =>
          j_bp (pc := 156) D rfl fun D =>
          j_ivv (pc := 158) (m := 696) (dd := 475) (a := [(0, 10)]) (rest := []) D rfl rfl rfl rfl rfl (by decide) (s0_602 H) (by decide +kernel) (fun h31 e1 D =>
            have T := fj_run_ok _ _ _ _ _ _ H.1 e1
            have H := shp_st H T
            j_vret D rt_700) (fun q33 h31 e1 =>
            j_tx (hx_700 _))) (fun q30 h28 e1 =>
          j_tx (hx_700 _))) (fun q27 h25 e1 =>
        j_tx (hx_700 _)))
theorem e_700_131 (d : Nat) (x1 x2 : Int) {h : fi_H} (H : Shp h) : c_700_131 d x1 x2 h =
  cv_ (fj_run d 696 h [(4, 602), (0, 59)])
    (fun h1 =>
    c_700_41 d x1 (wI (x2 + 1)) h1)
    (fun q3 h1 => tx_ q3 h1) := by
  unfold c_700_131
  exact
    have D : fk_D 700 [(131, some [0, 1, 2], .aload_n 0, 1, 0, 0, 0), (132, none, .bipush 59, 2, 0, 59, 0), (134, none, .invokevirtual 1274, 3, 1, 475, 0), (137, none, .iinc 2 1, 3, 0, 1, 0), (140, none, .goto (-99), 3, 41, 0, 0)] := fq_of2 cd_700 ow_700 cl_700 rfl (pc := 131) (by decide +kernel)
    j_aldn (pc := 131) D rfl rfl rfl fun D =>
    j_bp (pc := 132) D rfl fun D =>
    j_ivv (pc := 134) (m := 696) (dd := 475) (a := [(0, 59)]) (rest := []) D rfl rfl rfl rfl rfl (by decide) (s0_602 H) (by decide +kernel) (fun h1 e1 D =>
      have T := fj_run_ok _ _ _ _ _ _ H.1 e1
      have H := shp_st H T
      j_inc (pc := 137) (L' := [(2, (0, wI (x2 + 1))), (0, (4, 602)), (1, (0, x1))]) D rfl rfl rfl (by decide +kernel) rfl fun D =>
      j_goto (pc := 140) D rfl <|
      fk_jump cut_700_41 rfl rfl) (fun q3 h1 e1 =>
      j_tx (hx_700 _))
theorem m_700 (d : Nat) (x1 : Int) {h : fi_H} (H : Shp h) : fj_run (d + 1) 700 h [(4, 602), (0, x1)] =
  cv_ (fj_run d 695 h [(4, 602), (0, 70)])
    (fun h1 =>
    cv_ (fj_run d 696 h1 [(4, 602), (0, 32)])
      (fun h4 =>
      if 0 ≤ x1 ∧ x1 < 560 then
      cv_ (fj_run d 701 h4 [(4, 602), (0, h4 10 625 x1.toNat)])
        (fun h8 =>
        cv_ (fj_run d 696 h8 [(4, 602), (0, 32)])
          (fun h11 =>
          cv_ (fj_run d 696 h11 [(4, 602), (0, 123)])
            (fun h14 =>
            c_700_41 d x1 (h14 10 626 x1.toNat) h14)
            (fun q16 h14 => tx_ q16 h14))
          (fun q13 h11 => tx_ q13 h11))
        (fun q10 h8 => tx_ q10 h8)
      else none)
      (fun q6 h4 => tx_ q6 h4))
    (fun q3 h1 => tx_ q3 h1) := by
  rw [fj_run_eq d (by decide) h [(4, 602), (0, x1)] (Nat.le_of_ble_eq_true (by rw [nl_700]; rfl))]
  show gG (fj_run d) 700 0 [(0, (4, 602)), (1, (0, x1))] [] h = _
  exact
    have D : fk_D 700 [(0, none, .aload_n 0, 1, 0, 0, 0), (1, none, .bipush 70, 2, 0, 70, 0), (3, none, .invokevirtual 1282, 3, 1, 478, 0), (6, none, .aload_n 0, 1, 0, 0, 0), (7, none, .bipush 32, 2, 0, 32, 0), (9, none, .invokevirtual 1274, 3, 1, 475, 0), (12, none, .aload_n 0, 1, 0, 0, 0), (13, none, .aload_n 0, 1, 0, 0, 0), (14, none, .getfield 86, 3, 428, 129, 12), (17, none, .iload_n 1, 1, 0, 0, 0), (18, none, .iaload, 1, 0, 0, 0), (19, none, .invokevirtual 1291, 3, 1, 481, 0), (22, none, .aload_n 0, 1, 0, 0, 0), (23, none, .bipush 32, 2, 0, 32, 0), (25, none, .invokevirtual 1274, 3, 1, 475, 0), (28, none, .aload_n 0, 1, 0, 0, 0), (29, none, .bipush 123, 2, 0, 123, 0), (31, none, .invokevirtual 1274, 3, 1, 475, 0), (34, none, .aload_n 0, 1, 0, 0, 0), (35, none, .getfield 89, 3, 429, 129, 12)] := fq_of2 cd_700 ow_700 cl_700 rfl (pc := 0) (by decide +kernel)
    j_aldn (pc := 0) D rfl rfl rfl fun D =>
    j_bp (pc := 1) D rfl fun D =>
    j_ivv (pc := 3) (m := 695) (dd := 478) (a := [(0, 70)]) (rest := []) D rfl rfl rfl rfl rfl (by decide) (s0_602 H) (by decide +kernel) (fun h1 e1 D =>
      have T := fj_run_ok _ _ _ _ _ _ H.1 e1
      have H := shp_st H T
      j_aldn (pc := 6) D rfl rfl rfl fun D =>
      j_bp (pc := 7) D rfl fun D =>
      j_ivv (pc := 9) (m := 696) (dd := 475) (a := [(0, 32)]) (rest := []) D rfl rfl rfl rfl rfl (by decide) (s0_602 H) (by decide +kernel) (fun h4 e1 D =>
        have T := fj_run_ok _ _ _ _ _ _ H.1 e1
        have H := shp_st H T
        j_aldn (pc := 12) D rfl rfl rfl fun D =>
        j_aldn (pc := 13) D rfl rfl rfl fun D =>
        j_gfc (pc := 14) (a := 602) D rfl rfl (by decide) rfl (s0_602 H) rfl (sf_428_602 H) fun D =>
        j_ildn (pc := 17) D rfl rfl rfl fun D =>
        j_al (pc := 18) (a := 625) (e := 10) D rfl rfl rfl (by decide) (s0_625 H) (s1_625 H) ⟨rfl, rfl, rfl⟩ rfl gn fun qb7 D =>
        j_ivv (pc := 19) (m := 701) (dd := 481) (a := [(0, h4 10 625 x1.toNat)]) (rest := []) D rfl rfl rfl rfl rfl (by decide) (s0_602 H) (by decide +kernel) (fun h8 e1 D =>
          have T := fj_run_ok _ _ _ _ _ _ H.1 e1
          have H := shp_st H T
          j_aldn (pc := 22) D rfl rfl rfl fun D =>
          j_bp (pc := 23) D rfl fun D =>
          j_ivv (pc := 25) (m := 696) (dd := 475) (a := [(0, 32)]) (rest := []) D rfl rfl rfl rfl rfl (by decide) (s0_602 H) (by decide +kernel) (fun h11 e1 D =>
            have T := fj_run_ok _ _ _ _ _ _ H.1 e1
            have H := shp_st H T
            j_aldn (pc := 28) D rfl rfl rfl fun D =>
            j_bp (pc := 29) D rfl fun D =>
            j_ivv (pc := 31) (m := 696) (dd := 475) (a := [(0, 123)]) (rest := []) D rfl rfl rfl rfl rfl (by decide) (s0_602 H) (by decide +kernel) (fun h14 e1 D =>
              have T := fj_run_ok _ _ _ _ _ _ H.1 e1
              have H := shp_st H T
              j_aldn (pc := 34) D rfl rfl rfl fun D =>
              j_gfc (pc := 35) (a := 602) D rfl rfl (by decide) rfl (s0_602 H) rfl (sf_429_602 H) fun D =>
              have D : fk_D 700 [(38, none, .iload_n 1, 1, 0, 0, 0), (39, none, .iaload, 1, 0, 0, 0), (40, none, .istore_n 2, 1, 0, 0, 0)] := fq_of2 cd_700 ow_700 cl_700 rfl (pc := 38) (by decide +kernel)
              j_ildn (pc := 38) D rfl rfl rfl fun D =>
              j_al (pc := 39) (a := 626) (e := 10) D rfl rfl rfl (by decide) (s0_626 H) (s1_626 H) ⟨rfl, rfl, rfl⟩ rfl (gy qb7) fun q D =>
              j_istn (pc := 40) (L' := [(2, (0, h14 10 626 x1.toNat)), (0, (4, 602)), (1, (0, x1))]) D rfl nl_700 rfl rfl fun D =>
              fk_jump cut_700_41 rfl rfl) (fun q16 h14 e1 =>
              j_tx (hx_700 _))) (fun q13 h11 e1 =>
            j_tx (hx_700 _))) (fun q10 h8 e1 =>
          j_tx (hx_700 _))) (fun q6 h4 e1 =>
        j_tx (hx_700 _))) (fun q3 h1 e1 =>
      j_tx (hx_700 _))
/-! 701 StatuteHouseModel.putName(I)V -/
theorem cd_701 : fi_code 701 = prog_69_method_216_code := rfl
theorem hx_701 : ∀ pc, fi_hat 701 pc = none := fun pc => by unfold fi_hat; rw [show fi_hh 701 = [] from rfl]; rfl
theorem rt_701 : fi_ret 701 = none := rfl
theorem nl_701 : fi_nl 701 = 3 := rfl
theorem ow_701 : fi_ow 701 = 29 := rfl
theorem cl_701 : fj_cutT.getD 701 [] = [(3, [0, 1, 2]), (41, [0, 1, 2]), (50, [0, 1, 2]), (88, [0, 1, 2])] := rfl
theorem cut_701_3 : fj_cut 701 3 = some [0, 1, 2] := by decide +kernel
noncomputable def c_701_3 (d : Nat) (x1 x2 : Int) (h : fi_H) : fk_R := gG (fj_run d) 701 3 [(0, (4, 602)), (1, (0, x1)), (2, (0, x2))] [] h
theorem cut_701_41 : fj_cut 701 41 = some [0, 1, 2] := by decide +kernel
noncomputable def c_701_41 (d : Nat) (x1 x2 : Int) (h : fi_H) : fk_R := gG (fj_run d) 701 41 [(0, (4, 602)), (1, (0, x1)), (2, (0, x2))] [] h
theorem cut_701_50 : fj_cut 701 50 = some [0, 1, 2] := by decide +kernel
noncomputable def c_701_50 (d : Nat) (x1 x2 : Int) (h : fi_H) : fk_R := gG (fj_run d) 701 50 [(0, (4, 602)), (1, (0, x1)), (2, (0, x2))] [] h
theorem cut_701_88 : fj_cut 701 88 = some [0, 1, 2] := by decide +kernel
noncomputable def c_701_88 (d : Nat) (x1 x2 : Int) (h : fi_H) : fk_R := gG (fj_run d) 701 88 [(0, (4, 602)), (1, (0, x1)), (2, (0, x2))] [] h
theorem e_701_3 (d : Nat) (x1 x2 : Int) {h : fi_H} (H : Shp h) : c_701_3 d x1 x2 h =
  if x2 < 0 then
    c_701_50 d x1 40 h
  else
    if 0 ≤ x1 ∧ x1 < 41 then
    if lc_ (la_ (lsr_ (h 11 608 x1.toNat) x2) 255) 0 = 0 then
      c_701_41 d x1 x2 h
    else
      cv_ (fj_run d 696 h [(4, 602), (0, wI (la_ (lsr_ (h 11 608 x1.toNat) x2) 255))])
        (fun h2 =>
        c_701_41 d x1 x2 h2)
        (fun q4 h2 => tx_ q4 h2)
    else none := by
  unfold c_701_3
  exact
    have D : fk_D 701 [(3, some [0, 1, 2], .iload_n 2, 1, 0, 0, 0), (4, none, .ifCond .lt 43, 3, 47, 0, 0), (7, none, .aload_n 0, 1, 0, 0, 0), (8, none, .getfield 33, 3, 404, 129, 12), (11, none, .iload_n 1, 1, 0, 0, 0), (12, none, .laload, 1, 0, 0, 0), (13, none, .iload_n 2, 1, 0, 0, 0), (14, none, .lshr, 1, 0, 0, 0), (15, none, .ldc2_w 1074, 3, 1, 255, 0), (18, none, .land, 1, 0, 0, 0), (19, none, .lconst 0, 1, 0, 0, 0), (20, none, .lcmp, 1, 0, 0, 0), (21, none, .ifCond .eq 20, 3, 41, 0, 0), (24, none, .aload_n 0, 1, 0, 0, 0), (25, none, .aload_n 0, 1, 0, 0, 0), (26, none, .getfield 33, 3, 404, 129, 12), (29, none, .iload_n 1, 1, 0, 0, 0), (30, none, .laload, 1, 0, 0, 0), (31, none, .iload_n 2, 1, 0, 0, 0), (32, none, .lshr, 1, 0, 0, 0)] := fq_of2 cd_701 ow_701 cl_701 rfl (pc := 3) (by decide +kernel)
    j_ildn (pc := 3) D rfl rfl rfl fun D =>
    j_iflt (pc := 4) D rfl (fun q =>
      have D : fk_D 701 [(47, none, .bipush 40, 2, 0, 40, 0), (49, none, .istore_n 2, 1, 0, 0, 0)] := fq_of2 cd_701 ow_701 cl_701 rfl (pc := 47) (by decide +kernel)
      j_bp (pc := 47) D rfl fun D =>
      j_istn (pc := 49) (L' := [(2, (0, 40)), (0, (4, 602)), (1, (0, x1))]) D rfl nl_701 rfl rfl fun D =>
      fk_jump cut_701_50 rfl rfl) (fun q D =>
      j_aldn (pc := 7) D rfl rfl rfl fun D =>
      j_gfc (pc := 8) (a := 602) D rfl rfl (by decide) rfl (s0_602 H) rfl (sf_404_602 H) fun D =>
      j_ildn (pc := 11) D rfl rfl rfl fun D =>
      j_al (pc := 12) (a := 608) (e := 11) D rfl rfl rfl (by decide) (s0_608 H) (s1_608 H) ⟨rfl, rfl, rfl⟩ rfl gn fun qb1 D =>
      j_ildn (pc := 13) D rfl rfl rfl fun D =>
      j_lshr (pc := 14) D rfl fun D =>
      j_ldc2 (pc := 15) D rfl fun D =>
      j_land (pc := 18) D rfl fun D =>
      j_c0 (pc := 19) (v := (1, 0)) D rfl rfl (by decide +kernel) fun D =>
      j_lcmp (pc := 20) D rfl fun D =>
      j_ifeq (pc := 21) D rfl (fun q =>
        fk_jump cut_701_41 rfl rfl) (fun q D =>
        j_aldn (pc := 24) D rfl rfl rfl fun D =>
        j_aldn (pc := 25) D rfl rfl rfl fun D =>
        j_gfc (pc := 26) (a := 602) D rfl rfl (by decide) rfl (s0_602 H) rfl (sf_404_602 H) fun D =>
        j_ildn (pc := 29) D rfl rfl rfl fun D =>
        j_al (pc := 30) (a := 608) (e := 11) D rfl rfl rfl (by decide) (s0_608 H) (s1_608 H) ⟨rfl, rfl, rfl⟩ rfl (gy qb1) fun q D =>
        j_ildn (pc := 31) D rfl rfl rfl fun D =>
        j_lshr (pc := 32) D rfl fun D =>
        have D : fk_D 701 [(33, none, .ldc2_w 1074, 3, 1, 255, 0), (36, none, .land, 1, 0, 0, 0), (37, none, .l2i, 1, 0, 0, 0), (38, none, .invokevirtual 1274, 3, 1, 475, 0)] := fq_of2 cd_701 ow_701 cl_701 rfl (pc := 33) (by decide +kernel)
        j_ldc2 (pc := 33) D rfl fun D =>
        j_land (pc := 36) D rfl fun D =>
        j_l2i (pc := 37) D rfl fun D =>
        j_ivv (pc := 38) (m := 696) (dd := 475) (a := [(0, wI (la_ (lsr_ (h 11 608 x1.toNat) x2) 255))]) (rest := []) D rfl rfl rfl rfl rfl (by decide) (s0_602 H) (by decide +kernel) (fun h2 e1 D =>
          have T := fj_run_ok _ _ _ _ _ _ H.1 e1
          have H := shp_st H T
          fk_jump cut_701_41 rfl rfl) (fun q4 h2 e1 =>
          j_tx (hx_701 _))))
theorem e_701_41 (d : Nat) (x1 x2 : Int) {h : fi_H} (H : Shp h) : c_701_41 d x1 x2 h =
  c_701_3 d x1 (wI (x2 + (-8))) h := by
  unfold c_701_41
  exact
    have D : fk_D 701 [(41, some [0, 1, 2], .iinc 2 (-8), 3, 0, (-8), 0), (44, none, .goto (-41), 3, 3, 0, 0)] := fq_of2 cd_701 ow_701 cl_701 rfl (pc := 41) (by decide +kernel)
    j_inc (pc := 41) (L' := [(2, (0, wI (x2 + (-8)))), (0, (4, 602)), (1, (0, x1))]) D rfl rfl rfl (by decide +kernel) rfl fun D =>
    j_goto (pc := 44) D rfl <|
    fk_jump cut_701_3 rfl rfl
theorem e_701_50 (d : Nat) (x1 x2 : Int) {h : fi_H} (H : Shp h) : c_701_50 d x1 x2 h =
  if x2 < 0 then
    some (.inl none, h)
  else
    if 0 ≤ x1 ∧ x1 < 41 then
    if lc_ (la_ (lsr_ (h 11 609 x1.toNat) x2) 255) 0 = 0 then
      c_701_88 d x1 x2 h
    else
      cv_ (fj_run d 696 h [(4, 602), (0, wI (la_ (lsr_ (h 11 609 x1.toNat) x2) 255))])
        (fun h2 =>
        c_701_88 d x1 x2 h2)
        (fun q4 h2 => tx_ q4 h2)
    else none := by
  unfold c_701_50
  exact
    have D : fk_D 701 [(50, some [0, 1, 2], .iload_n 2, 1, 0, 0, 0), (51, none, .ifCond .lt 43, 3, 94, 0, 0), (54, none, .aload_n 0, 1, 0, 0, 0), (55, none, .getfield 37, 3, 405, 129, 12), (58, none, .iload_n 1, 1, 0, 0, 0), (59, none, .laload, 1, 0, 0, 0), (60, none, .iload_n 2, 1, 0, 0, 0), (61, none, .lshr, 1, 0, 0, 0), (62, none, .ldc2_w 1074, 3, 1, 255, 0), (65, none, .land, 1, 0, 0, 0), (66, none, .lconst 0, 1, 0, 0, 0), (67, none, .lcmp, 1, 0, 0, 0), (68, none, .ifCond .eq 20, 3, 88, 0, 0), (71, none, .aload_n 0, 1, 0, 0, 0), (72, none, .aload_n 0, 1, 0, 0, 0), (73, none, .getfield 37, 3, 405, 129, 12), (76, none, .iload_n 1, 1, 0, 0, 0), (77, none, .laload, 1, 0, 0, 0), (78, none, .iload_n 2, 1, 0, 0, 0), (79, none, .lshr, 1, 0, 0, 0)] := fq_of2 cd_701 ow_701 cl_701 rfl (pc := 50) (by decide +kernel)
    j_ildn (pc := 50) D rfl rfl rfl fun D =>
    j_iflt (pc := 51) D rfl (fun q =>
      have D : fk_D 701 [(94, none, .return_, 1, 0, 0, 0)] := fq_of2 cd_701 ow_701 cl_701 rfl (pc := 94) (by decide +kernel)
      j_vret D rt_701) (fun q D =>
      j_aldn (pc := 54) D rfl rfl rfl fun D =>
      j_gfc (pc := 55) (a := 602) D rfl rfl (by decide) rfl (s0_602 H) rfl (sf_405_602 H) fun D =>
      j_ildn (pc := 58) D rfl rfl rfl fun D =>
      j_al (pc := 59) (a := 609) (e := 11) D rfl rfl rfl (by decide) (s0_609 H) (s1_609 H) ⟨rfl, rfl, rfl⟩ rfl gn fun qb1 D =>
      j_ildn (pc := 60) D rfl rfl rfl fun D =>
      j_lshr (pc := 61) D rfl fun D =>
      j_ldc2 (pc := 62) D rfl fun D =>
      j_land (pc := 65) D rfl fun D =>
      j_c0 (pc := 66) (v := (1, 0)) D rfl rfl (by decide +kernel) fun D =>
      j_lcmp (pc := 67) D rfl fun D =>
      j_ifeq (pc := 68) D rfl (fun q =>
        fk_jump cut_701_88 rfl rfl) (fun q D =>
        j_aldn (pc := 71) D rfl rfl rfl fun D =>
        j_aldn (pc := 72) D rfl rfl rfl fun D =>
        j_gfc (pc := 73) (a := 602) D rfl rfl (by decide) rfl (s0_602 H) rfl (sf_405_602 H) fun D =>
        j_ildn (pc := 76) D rfl rfl rfl fun D =>
        j_al (pc := 77) (a := 609) (e := 11) D rfl rfl rfl (by decide) (s0_609 H) (s1_609 H) ⟨rfl, rfl, rfl⟩ rfl (gy qb1) fun q D =>
        j_ildn (pc := 78) D rfl rfl rfl fun D =>
        j_lshr (pc := 79) D rfl fun D =>
        have D : fk_D 701 [(80, none, .ldc2_w 1074, 3, 1, 255, 0), (83, none, .land, 1, 0, 0, 0), (84, none, .l2i, 1, 0, 0, 0), (85, none, .invokevirtual 1274, 3, 1, 475, 0)] := fq_of2 cd_701 ow_701 cl_701 rfl (pc := 80) (by decide +kernel)
        j_ldc2 (pc := 80) D rfl fun D =>
        j_land (pc := 83) D rfl fun D =>
        j_l2i (pc := 84) D rfl fun D =>
        j_ivv (pc := 85) (m := 696) (dd := 475) (a := [(0, wI (la_ (lsr_ (h 11 609 x1.toNat) x2) 255))]) (rest := []) D rfl rfl rfl rfl rfl (by decide) (s0_602 H) (by decide +kernel) (fun h2 e1 D =>
          have T := fj_run_ok _ _ _ _ _ _ H.1 e1
          have H := shp_st H T
          fk_jump cut_701_88 rfl rfl) (fun q4 h2 e1 =>
          j_tx (hx_701 _))))
theorem e_701_88 (d : Nat) (x1 x2 : Int) {h : fi_H} (H : Shp h) : c_701_88 d x1 x2 h =
  c_701_50 d x1 (wI (x2 + (-8))) h := by
  unfold c_701_88
  exact
    have D : fk_D 701 [(88, some [0, 1, 2], .iinc 2 (-8), 3, 0, (-8), 0), (91, none, .goto (-41), 3, 50, 0, 0)] := fq_of2 cd_701 ow_701 cl_701 rfl (pc := 88) (by decide +kernel)
    j_inc (pc := 88) (L' := [(2, (0, wI (x2 + (-8)))), (0, (4, 602)), (1, (0, x1))]) D rfl rfl rfl (by decide +kernel) rfl fun D =>
    j_goto (pc := 91) D rfl <|
    fk_jump cut_701_50 rfl rfl
theorem m_701 (d : Nat) (x1 : Int) {h : fi_H} (H : Shp h) : fj_run (d + 1) 701 h [(4, 602), (0, x1)] =
  c_701_3 d x1 40 h := by
  rw [fj_run_eq d (by decide) h [(4, 602), (0, x1)] (Nat.le_of_ble_eq_true (by rw [nl_701]; rfl))]
  show gG (fj_run d) 701 0 [(0, (4, 602)), (1, (0, x1))] [] h = _
  exact
    have D : fk_D 701 [(0, none, .bipush 40, 2, 0, 40, 0), (2, none, .istore_n 2, 1, 0, 0, 0)] := fq_of2 cd_701 ow_701 cl_701 rfl (pc := 0) (by decide +kernel)
    j_bp (pc := 0) D rfl fun D =>
    j_istn (pc := 2) (L' := [(2, (0, 40)), (0, (4, 602)), (1, (0, x1))]) D rfl nl_701 rfl rfl fun D =>
    fk_jump cut_701_3 rfl rfl
/-! 702 StatuteHouseModel.putCents(J)V -/
theorem cd_702 : fi_code 702 = prog_69_method_224_code := rfl
theorem hx_702 : ∀ pc, fi_hat 702 pc = none := fun pc => by unfold fi_hat; rw [show fi_hh 702 = [] from rfl]; rfl
theorem rt_702 : fi_ret 702 = none := rfl
theorem nl_702 : fi_nl 702 = 3 := rfl
theorem ow_702 : fi_ow 702 = 29 := rfl
theorem cl_702 : fj_cutT.getD 702 [] = [] := rfl
theorem m_702 (d : Nat) (x1 : Int) {h : fi_H} (H : Shp h) : fj_run (d + 1) 702 h [(4, 602), (1, x1)] =
  cv_ (fj_run d 698 h [(4, 602), (1, lq_ x1 100)])
    (fun h1 =>
    cv_ (fj_run d 696 h1 [(4, 602), (0, 46)])
      (fun h4 =>
      cv_ (fj_run d 703 h4 [(4, 602), (1, lr_ x1 100)])
        (fun h7 =>
        some (.inl none, h7))
        (fun q9 h7 => tx_ q9 h7))
      (fun q6 h4 => tx_ q6 h4))
    (fun q3 h1 => tx_ q3 h1) := by
  rw [fj_run_eq d (by decide) h [(4, 602), (1, x1)] (Nat.le_of_ble_eq_true (by rw [nl_702]; rfl))]
  show gG (fj_run d) 702 0 [(0, (4, 602)), (1, (1, x1))] [] h = _
  exact
    have D : fk_D 702 [(0, none, .aload_n 0, 1, 0, 0, 0), (1, none, .lload_n 1, 1, 0, 0, 0), (2, none, .ldc2_w 555, 3, 1, 100, 0), (5, none, .ldiv, 1, 0, 0, 0), (6, none, .invokevirtual 1276, 3, 1, 476, 0), (9, none, .aload_n 0, 1, 0, 0, 0), (10, none, .bipush 46, 2, 0, 46, 0), (12, none, .invokevirtual 1274, 3, 1, 475, 0), (15, none, .aload_n 0, 1, 0, 0, 0), (16, none, .lload_n 1, 1, 0, 0, 0), (17, none, .ldc2_w 555, 3, 1, 100, 0), (20, none, .lrem, 1, 0, 0, 0), (21, none, .invokevirtual 1279, 3, 1, 477, 0), (24, none, .return_, 1, 0, 0, 0)] := fq_of2 cd_702 ow_702 cl_702 rfl (pc := 0) (by decide +kernel)
    j_aldn (pc := 0) D rfl rfl rfl fun D =>
    j_lldn (pc := 1) D rfl rfl rfl fun D =>
    j_ldc2 (pc := 2) D rfl fun D =>
    j_ldivk (pc := 5) D rfl (by decide) fun D =>
    j_ivv (pc := 6) (m := 698) (dd := 476) (a := [(1, lq_ x1 100)]) (rest := []) D rfl rfl rfl rfl rfl (by decide) (s0_602 H) (by decide +kernel) (fun h1 e1 D =>
      have T := fj_run_ok _ _ _ _ _ _ H.1 e1
      have H := shp_st H T
      j_aldn (pc := 9) D rfl rfl rfl fun D =>
      j_bp (pc := 10) D rfl fun D =>
      j_ivv (pc := 12) (m := 696) (dd := 475) (a := [(0, 46)]) (rest := []) D rfl rfl rfl rfl rfl (by decide) (s0_602 H) (by decide +kernel) (fun h4 e1 D =>
        have T := fj_run_ok _ _ _ _ _ _ H.1 e1
        have H := shp_st H T
        j_aldn (pc := 15) D rfl rfl rfl fun D =>
        j_lldn (pc := 16) D rfl rfl rfl fun D =>
        j_ldc2 (pc := 17) D rfl fun D =>
        j_lremk (pc := 20) D rfl (by decide) fun D =>
        j_ivv (pc := 21) (m := 703) (dd := 477) (a := [(1, lr_ x1 100)]) (rest := []) D rfl rfl rfl rfl rfl (by decide) (s0_602 H) (by decide +kernel) (fun h7 e1 D =>
          have T := fj_run_ok _ _ _ _ _ _ H.1 e1
          have H := shp_st H T
          j_vret D rt_702) (fun q9 h7 e1 =>
          j_tx (hx_702 _))) (fun q6 h4 e1 =>
        j_tx (hx_702 _))) (fun q3 h1 e1 =>
      j_tx (hx_702 _))
/-! 703 StatuteHouseModel.putTwo(J)V -/
theorem cd_703 : fi_code 703 = prog_69_method_215_code := rfl
theorem hx_703 : ∀ pc, fi_hat 703 pc = none := fun pc => by unfold fi_hat; rw [show fi_hh 703 = [] from rfl]; rfl
theorem rt_703 : fi_ret 703 = none := rfl
theorem nl_703 : fi_nl 703 = 3 := rfl
theorem ow_703 : fi_ow 703 = 29 := rfl
theorem cl_703 : fj_cutT.getD 703 [] = [] := rfl
theorem m_703 (d : Nat) (x1 : Int) {h : fi_H} (H : Shp h) : fj_run (d + 1) 703 h [(4, 602), (1, x1)] =
  cv_ (fj_run d 696 h [(4, 602), (0, wI (wJ (48 + (lq_ x1 10))))])
    (fun h1 =>
    cv_ (fj_run d 696 h1 [(4, 602), (0, wI (wJ (48 + (lr_ x1 10))))])
      (fun h4 =>
      some (.inl none, h4))
      (fun q6 h4 => tx_ q6 h4))
    (fun q3 h1 => tx_ q3 h1) := by
  rw [fj_run_eq d (by decide) h [(4, 602), (1, x1)] (Nat.le_of_ble_eq_true (by rw [nl_703]; rfl))]
  show gG (fj_run d) 703 0 [(0, (4, 602)), (1, (1, x1))] [] h = _
  exact
    have D : fk_D 703 [(0, none, .aload_n 0, 1, 0, 0, 0), (1, none, .ldc2_w 491, 3, 1, 48, 0), (4, none, .lload_n 1, 1, 0, 0, 0), (5, none, .ldc2_w 489, 3, 1, 10, 0), (8, none, .ldiv, 1, 0, 0, 0), (9, none, .ladd, 1, 0, 0, 0), (10, none, .l2i, 1, 0, 0, 0), (11, none, .invokevirtual 1274, 3, 1, 475, 0), (14, none, .aload_n 0, 1, 0, 0, 0), (15, none, .ldc2_w 491, 3, 1, 48, 0), (18, none, .lload_n 1, 1, 0, 0, 0), (19, none, .ldc2_w 489, 3, 1, 10, 0), (22, none, .lrem, 1, 0, 0, 0), (23, none, .ladd, 1, 0, 0, 0), (24, none, .l2i, 1, 0, 0, 0), (25, none, .invokevirtual 1274, 3, 1, 475, 0), (28, none, .return_, 1, 0, 0, 0)] := fq_of2 cd_703 ow_703 cl_703 rfl (pc := 0) (by decide +kernel)
    j_aldn (pc := 0) D rfl rfl rfl fun D =>
    j_ldc2 (pc := 1) D rfl fun D =>
    j_lldn (pc := 4) D rfl rfl rfl fun D =>
    j_ldc2 (pc := 5) D rfl fun D =>
    j_ldivk (pc := 8) D rfl (by decide) fun D =>
    j_ladd (pc := 9) D rfl fun D =>
    j_l2i (pc := 10) D rfl fun D =>
    j_ivv (pc := 11) (m := 696) (dd := 475) (a := [(0, wI (wJ (48 + (lq_ x1 10))))]) (rest := []) D rfl rfl rfl rfl rfl (by decide) (s0_602 H) (by decide +kernel) (fun h1 e1 D =>
      have T := fj_run_ok _ _ _ _ _ _ H.1 e1
      have H := shp_st H T
      j_aldn (pc := 14) D rfl rfl rfl fun D =>
      j_ldc2 (pc := 15) D rfl fun D =>
      j_lldn (pc := 18) D rfl rfl rfl fun D =>
      j_ldc2 (pc := 19) D rfl fun D =>
      j_lremk (pc := 22) D rfl (by decide) fun D =>
      j_ladd (pc := 23) D rfl fun D =>
      j_l2i (pc := 24) D rfl fun D =>
      j_ivv (pc := 25) (m := 696) (dd := 475) (a := [(0, wI (wJ (48 + (lr_ x1 10))))]) (rest := []) D rfl rfl rfl rfl rfl (by decide) (s0_602 H) (by decide +kernel) (fun h4 e1 D =>
        have T := fj_run_ok _ _ _ _ _ _ H.1 e1
        have H := shp_st H T
        j_vret D rt_703) (fun q6 h4 e1 =>
        j_tx (hx_703 _))) (fun q3 h1 e1 =>
      j_tx (hx_703 _))
/-! 704 StatuteHouseModel.putEx(I)V -/
theorem cd_704 : fi_code 704 = prog_69_method_221_code := rfl
theorem hx_704 : ∀ pc, fi_hat 704 pc = none := fun pc => by unfold fi_hat; rw [show fi_hh 704 = [] from rfl]; rfl
theorem rt_704 : fi_ret 704 = none := rfl
theorem nl_704 : fi_nl 704 = 5 := rfl
theorem ow_704 : fi_ow 704 = 29 := rfl
theorem cl_704 : fj_cutT.getD 704 [] = [(170, [0]), (203, [0, 1]), (290, [0, 1, 2]), (331, [0, 1, 2]), (392, [0, 1]), (394, [0, 1, 3]), (418, [0, 1, 3]), (447, [0, 1, 3])] := rfl
theorem cut_704_170 : fj_cut 704 170 = some [0] := by decide +kernel
noncomputable def c_704_170 (d : Nat) (h : fi_H) : fk_R := gG (fj_run d) 704 170 [(0, (4, 602))] [] h
theorem cut_704_203 : fj_cut 704 203 = some [0, 1] := by decide +kernel
noncomputable def c_704_203 (d : Nat) (x1 : Int) (h : fi_H) : fk_R := gG (fj_run d) 704 203 [(0, (4, 602)), (1, (0, x1))] [] h
theorem cut_704_290 : fj_cut 704 290 = some [0, 1, 2] := by decide +kernel
noncomputable def c_704_290 (d : Nat) (x1 x2 : Int) (h : fi_H) : fk_R := gG (fj_run d) 704 290 [(0, (4, 602)), (1, (0, x1)), (2, (0, x2))] [] h
theorem cut_704_331 : fj_cut 704 331 = some [0, 1, 2] := by decide +kernel
noncomputable def c_704_331 (d : Nat) (x1 x2 : Int) (h : fi_H) : fk_R := gG (fj_run d) 704 331 [(0, (4, 602)), (1, (0, x1)), (2, (0, x2))] [] h
theorem cut_704_392 : fj_cut 704 392 = some [0, 1] := by decide +kernel
noncomputable def c_704_392 (d : Nat) (x1 : Int) (h : fi_H) : fk_R := gG (fj_run d) 704 392 [(0, (4, 602)), (1, (0, x1))] [] h
theorem cut_704_394 : fj_cut 704 394 = some [0, 1, 3] := by decide +kernel
noncomputable def c_704_394 (d : Nat) (x1 x3 : Int) (h : fi_H) : fk_R := gG (fj_run d) 704 394 [(0, (4, 602)), (1, (0, x1)), (3, (0, x3))] [] h
theorem cut_704_418 : fj_cut 704 418 = some [0, 1, 3] := by decide +kernel
noncomputable def c_704_418 (d : Nat) (x1 x3 s0 : Int) (h : fi_H) : fk_R := gG (fj_run d) 704 418 [(0, (4, 602)), (1, (0, x1)), (3, (0, x3))] [(0, s0)] h
theorem cut_704_447 : fj_cut 704 447 = some [0, 1, 3] := by decide +kernel
noncomputable def c_704_447 (d : Nat) (x1 x3 : Int) (h : fi_H) : fk_R := gG (fj_run d) 704 447 [(0, (4, 602)), (1, (0, x1)), (3, (0, x3))] [] h
theorem e_704_170 (d : Nat) {h : fi_H} (H : Shp h) : c_704_170 d h =
  cv_ (fj_run d 696 h [(4, 602), (0, 41)])
    (fun h1 =>
    some (.inl none, h1))
    (fun q3 h1 => tx_ q3 h1) := by
  unfold c_704_170
  exact
    have D : fk_D 704 [(170, some [0], .aload_n 0, 1, 0, 0, 0), (171, none, .bipush 41, 2, 0, 41, 0), (173, none, .invokevirtual 1274, 3, 1, 475, 0), (176, none, .return_, 1, 0, 0, 0)] := fq_of2 cd_704 ow_704 cl_704 rfl (pc := 170) (by decide +kernel)
    j_aldn (pc := 170) D rfl rfl rfl fun D =>
    j_bp (pc := 171) D rfl fun D =>
    j_ivv (pc := 173) (m := 696) (dd := 475) (a := [(0, 41)]) (rest := []) D rfl rfl rfl rfl rfl (by decide) (s0_602 H) (by decide +kernel) (fun h1 e1 D =>
      have T := fj_run_ok _ _ _ _ _ _ H.1 e1
      have H := shp_st H T
      j_vret D rt_704) (fun q3 h1 e1 =>
      j_tx (hx_704 _))
theorem e_704_203 (d : Nat) (x1 : Int) {h : fi_H} (H : Shp h) : c_704_203 d x1 h =
  cv_ (fj_run d 696 h [(4, 602), (0, 32)])
    (fun h1 =>
    if 0 ≤ x1 ∧ x1 < 9300 then
    cv_ (fj_run d 704 h1 [(4, 602), (0, h1 10 619 x1.toNat)])
      (fun h5 =>
      cv_ (fj_run d 696 h5 [(4, 602), (0, 41)])
        (fun h8 =>
        some (.inl none, h8))
        (fun q10 h8 => tx_ q10 h8))
      (fun q7 h5 => tx_ q7 h5)
    else none)
    (fun q3 h1 => tx_ q3 h1) := by
  unfold c_704_203
  exact
    have D : fk_D 704 [(203, some [0, 1], .aload_n 0, 1, 0, 0, 0), (204, none, .bipush 32, 2, 0, 32, 0), (206, none, .invokevirtual 1274, 3, 1, 475, 0), (209, none, .aload_n 0, 1, 0, 0, 0), (210, none, .aload_n 0, 1, 0, 0, 0), (211, none, .getfield 68, 3, 420, 129, 12), (214, none, .iload_n 1, 1, 0, 0, 0), (215, none, .iaload, 1, 0, 0, 0), (216, none, .invokevirtual 1294, 3, 1, 482, 0), (219, none, .aload_n 0, 1, 0, 0, 0), (220, none, .bipush 41, 2, 0, 41, 0), (222, none, .invokevirtual 1274, 3, 1, 475, 0), (225, none, .return_, 1, 0, 0, 0)] := fq_of2 cd_704 ow_704 cl_704 rfl (pc := 203) (by decide +kernel)
    j_aldn (pc := 203) D rfl rfl rfl fun D =>
    j_bp (pc := 204) D rfl fun D =>
    j_ivv (pc := 206) (m := 696) (dd := 475) (a := [(0, 32)]) (rest := []) D rfl rfl rfl rfl rfl (by decide) (s0_602 H) (by decide +kernel) (fun h1 e1 D =>
      have T := fj_run_ok _ _ _ _ _ _ H.1 e1
      have H := shp_st H T
      j_aldn (pc := 209) D rfl rfl rfl fun D =>
      j_aldn (pc := 210) D rfl rfl rfl fun D =>
      j_gfc (pc := 211) (a := 602) D rfl rfl (by decide) rfl (s0_602 H) rfl (sf_420_602 H) fun D =>
      j_ildn (pc := 214) D rfl rfl rfl fun D =>
      j_al (pc := 215) (a := 619) (e := 10) D rfl rfl rfl (by decide) (s0_619 H) (s1_619 H) ⟨rfl, rfl, rfl⟩ rfl gn fun qb4 D =>
      j_ivv (pc := 216) (m := 704) (dd := 482) (a := [(0, h1 10 619 x1.toNat)]) (rest := []) D rfl rfl rfl rfl rfl (by decide) (s0_602 H) (by decide +kernel) (fun h5 e1 D =>
        have T := fj_run_ok _ _ _ _ _ _ H.1 e1
        have H := shp_st H T
        j_aldn (pc := 219) D rfl rfl rfl fun D =>
        j_bp (pc := 220) D rfl fun D =>
        j_ivv (pc := 222) (m := 696) (dd := 475) (a := [(0, 41)]) (rest := []) D rfl rfl rfl rfl rfl (by decide) (s0_602 H) (by decide +kernel) (fun h8 e1 D =>
          have T := fj_run_ok _ _ _ _ _ _ H.1 e1
          have H := shp_st H T
          j_vret D rt_704) (fun q10 h8 e1 =>
          j_tx (hx_704 _))) (fun q7 h5 e1 =>
        j_tx (hx_704 _))) (fun q3 h1 e1 =>
      j_tx (hx_704 _))
theorem e_704_290 (d : Nat) (x1 x2 : Int) {h : fi_H} (H : Shp h) : c_704_290 d x1 x2 h =
  cv_ (fj_run d 696 h [(4, 602), (0, 40)])
    (fun h1 =>
    if x2 < 25 then
      c_704_331 d x1 x2 h1
    else
      if 27 < x2 then
        c_704_331 d x1 x2 h1
      else
        if 0 ≤ x1 ∧ x1 < 9300 then
        cv_ (fj_run d 701 h1 [(4, 602), (0, wI (h1 11 623 x1.toNat))])
          (fun h5 =>
          cv_ (fj_run d 696 h5 [(4, 602), (0, 44)])
            (fun h8 =>
            cv_ (fj_run d 696 h8 [(4, 602), (0, 32)])
              (fun h11 =>
              c_704_331 d x1 x2 h11)
              (fun q13 h11 => tx_ q13 h11))
            (fun q10 h8 => tx_ q10 h8))
          (fun q7 h5 => tx_ q7 h5)
        else none)
    (fun q3 h1 => tx_ q3 h1) := by
  unfold c_704_290
  exact
    have D : fk_D 704 [(290, some [0, 1, 2], .aload_n 0, 1, 0, 0, 0), (291, none, .bipush 40, 2, 0, 40, 0), (293, none, .invokevirtual 1274, 3, 1, 475, 0), (296, none, .iload_n 2, 1, 0, 0, 0), (297, none, .bipush 25, 2, 0, 25, 0), (299, none, .if_icmp .lt 32, 3, 331, 0, 0), (302, none, .iload_n 2, 1, 0, 0, 0), (303, none, .bipush 27, 2, 0, 27, 0), (305, none, .if_icmp .gt 26, 3, 331, 0, 0), (308, none, .aload_n 0, 1, 0, 0, 0), (309, none, .aload_n 0, 1, 0, 0, 0), (310, none, .getfield 80, 3, 424, 129, 12), (313, none, .iload_n 1, 1, 0, 0, 0), (314, none, .laload, 1, 0, 0, 0), (315, none, .l2i, 1, 0, 0, 0), (316, none, .invokevirtual 1291, 3, 1, 481, 0), (319, none, .aload_n 0, 1, 0, 0, 0), (320, none, .bipush 44, 2, 0, 44, 0), (322, none, .invokevirtual 1274, 3, 1, 475, 0), (325, none, .aload_n 0, 1, 0, 0, 0)] := fq_of2 cd_704 ow_704 cl_704 rfl (pc := 290) (by decide +kernel)
    j_aldn (pc := 290) D rfl rfl rfl fun D =>
    j_bp (pc := 291) D rfl fun D =>
    j_ivv (pc := 293) (m := 696) (dd := 475) (a := [(0, 40)]) (rest := []) D rfl rfl rfl rfl rfl (by decide) (s0_602 H) (by decide +kernel) (fun h1 e1 D =>
      have T := fj_run_ok _ _ _ _ _ _ H.1 e1
      have H := shp_st H T
      j_ildn (pc := 296) D rfl rfl rfl fun D =>
      j_bp (pc := 297) D rfl fun D =>
      j_ilt (pc := 299) D rfl (fun q =>
        fk_jump cut_704_331 rfl rfl) (fun q D =>
        j_ildn (pc := 302) D rfl rfl rfl fun D =>
        j_bp (pc := 303) D rfl fun D =>
        j_igt (pc := 305) D rfl (fun q =>
          fk_jump cut_704_331 rfl rfl) (fun q D =>
          j_aldn (pc := 308) D rfl rfl rfl fun D =>
          j_aldn (pc := 309) D rfl rfl rfl fun D =>
          j_gfc (pc := 310) (a := 602) D rfl rfl (by decide) rfl (s0_602 H) rfl (sf_424_602 H) fun D =>
          j_ildn (pc := 313) D rfl rfl rfl fun D =>
          j_al (pc := 314) (a := 623) (e := 11) D rfl rfl rfl (by decide) (s0_623 H) (s1_623 H) ⟨rfl, rfl, rfl⟩ rfl gn fun qb4 D =>
          j_l2i (pc := 315) D rfl fun D =>
          j_ivv (pc := 316) (m := 701) (dd := 481) (a := [(0, wI (h1 11 623 x1.toNat))]) (rest := []) D rfl rfl rfl rfl rfl (by decide) (s0_602 H) (by decide +kernel) (fun h5 e1 D =>
            have T := fj_run_ok _ _ _ _ _ _ H.1 e1
            have H := shp_st H T
            j_aldn (pc := 319) D rfl rfl rfl fun D =>
            j_bp (pc := 320) D rfl fun D =>
            j_ivv (pc := 322) (m := 696) (dd := 475) (a := [(0, 44)]) (rest := []) D rfl rfl rfl rfl rfl (by decide) (s0_602 H) (by decide +kernel) (fun h8 e1 D =>
              have T := fj_run_ok _ _ _ _ _ _ H.1 e1
              have H := shp_st H T
              j_aldn (pc := 325) D rfl rfl rfl fun D =>
              have D : fk_D 704 [(326, none, .bipush 32, 2, 0, 32, 0), (328, none, .invokevirtual 1274, 3, 1, 475, 0)] := fq_of2 cd_704 ow_704 cl_704 rfl (pc := 326) (by decide +kernel)
              j_bp (pc := 326) D rfl fun D =>
              j_ivv (pc := 328) (m := 696) (dd := 475) (a := [(0, 32)]) (rest := []) D rfl rfl rfl rfl rfl (by decide) (s0_602 H) (by decide +kernel) (fun h11 e1 D =>
                have T := fj_run_ok _ _ _ _ _ _ H.1 e1
                have H := shp_st H T
                fk_jump cut_704_331 rfl rfl) (fun q13 h11 e1 =>
                j_tx (hx_704 _))) (fun q10 h8 e1 =>
              j_tx (hx_704 _))) (fun q7 h5 e1 =>
            j_tx (hx_704 _))))) (fun q3 h1 e1 =>
      j_tx (hx_704 _))
theorem e_704_331 (d : Nat) (x1 x2 : Int) {h : fi_H} (H : Shp h) : c_704_331 d x1 x2 h =
  if 0 ≤ x1 ∧ x1 < 9300 then
  cv_ (fj_run d 704 h [(4, 602), (0, h 10 619 x1.toNat)])
    (fun h2 =>
    if x2 < 60 then
      c_704_392 d x1 h2
    else
      cv_ (fj_run d 696 h2 [(4, 602), (0, 44)])
        (fun h5 =>
        cv_ (fj_run d 696 h5 [(4, 602), (0, 32)])
          (fun h8 =>
          if lc_ (h8 11 623 x1.toNat) (-1) = 0 then
            cv_ (fj_run d 695 h8 [(4, 602), (0, 76)])
              (fun h11 =>
              c_704_392 d x1 h11)
              (fun q13 h11 => tx_ q13 h11)
          else
            cv_ (fj_run d 701 h8 [(4, 602), (0, wI (h8 11 623 x1.toNat))])
              (fun h14 =>
              c_704_392 d x1 h14)
              (fun q16 h14 => tx_ q16 h14))
          (fun q10 h8 => tx_ q10 h8))
        (fun q7 h5 => tx_ q7 h5))
    (fun q4 h2 => tx_ q4 h2)
  else none := by
  unfold c_704_331
  exact
    have D : fk_D 704 [(331, some [0, 1, 2], .aload_n 0, 1, 0, 0, 0), (332, none, .aload_n 0, 1, 0, 0, 0), (333, none, .getfield 68, 3, 420, 129, 12), (336, none, .iload_n 1, 1, 0, 0, 0), (337, none, .iaload, 1, 0, 0, 0), (338, none, .invokevirtual 1294, 3, 1, 482, 0), (341, none, .iload_n 2, 1, 0, 0, 0), (342, none, .bipush 60, 2, 0, 60, 0), (344, none, .if_icmp .lt 48, 3, 392, 0, 0), (347, none, .aload_n 0, 1, 0, 0, 0), (348, none, .bipush 44, 2, 0, 44, 0), (350, none, .invokevirtual 1274, 3, 1, 475, 0), (353, none, .aload_n 0, 1, 0, 0, 0), (354, none, .bipush 32, 2, 0, 32, 0), (356, none, .invokevirtual 1274, 3, 1, 475, 0), (359, none, .aload_n 0, 1, 0, 0, 0), (360, none, .getfield 80, 3, 424, 129, 12), (363, none, .iload_n 1, 1, 0, 0, 0), (364, none, .laload, 1, 0, 0, 0), (365, none, .ldc2_w 1024, 3, 1, (-1), 0)] := fq_of2 cd_704 ow_704 cl_704 rfl (pc := 331) (by decide +kernel)
    j_aldn (pc := 331) D rfl rfl rfl fun D =>
    j_aldn (pc := 332) D rfl rfl rfl fun D =>
    j_gfc (pc := 333) (a := 602) D rfl rfl (by decide) rfl (s0_602 H) rfl (sf_420_602 H) fun D =>
    j_ildn (pc := 336) D rfl rfl rfl fun D =>
    j_al (pc := 337) (a := 619) (e := 10) D rfl rfl rfl (by decide) (s0_619 H) (s1_619 H) ⟨rfl, rfl, rfl⟩ rfl gn fun qb1 D =>
    j_ivv (pc := 338) (m := 704) (dd := 482) (a := [(0, h 10 619 x1.toNat)]) (rest := []) D rfl rfl rfl rfl rfl (by decide) (s0_602 H) (by decide +kernel) (fun h2 e1 D =>
      have T := fj_run_ok _ _ _ _ _ _ H.1 e1
      have H := shp_st H T
      j_ildn (pc := 341) D rfl rfl rfl fun D =>
      j_bp (pc := 342) D rfl fun D =>
      j_ilt (pc := 344) D rfl (fun q =>
        fk_jump cut_704_392 rfl rfl) (fun q D =>
        j_aldn (pc := 347) D rfl rfl rfl fun D =>
        j_bp (pc := 348) D rfl fun D =>
        j_ivv (pc := 350) (m := 696) (dd := 475) (a := [(0, 44)]) (rest := []) D rfl rfl rfl rfl rfl (by decide) (s0_602 H) (by decide +kernel) (fun h5 e1 D =>
          have T := fj_run_ok _ _ _ _ _ _ H.1 e1
          have H := shp_st H T
          j_aldn (pc := 353) D rfl rfl rfl fun D =>
          j_bp (pc := 354) D rfl fun D =>
          j_ivv (pc := 356) (m := 696) (dd := 475) (a := [(0, 32)]) (rest := []) D rfl rfl rfl rfl rfl (by decide) (s0_602 H) (by decide +kernel) (fun h8 e1 D =>
            have T := fj_run_ok _ _ _ _ _ _ H.1 e1
            have H := shp_st H T
            j_aldn (pc := 359) D rfl rfl rfl fun D =>
            j_gfc (pc := 360) (a := 602) D rfl rfl (by decide) rfl (s0_602 H) rfl (sf_424_602 H) fun D =>
            j_ildn (pc := 363) D rfl rfl rfl fun D =>
            j_al (pc := 364) (a := 623) (e := 11) D rfl rfl rfl (by decide) (s0_623 H) (s1_623 H) ⟨rfl, rfl, rfl⟩ rfl (gy qb1) fun q D =>
            j_ldc2 (pc := 365) D rfl fun D =>
            have D : fk_D 704 [(368, none, .lcmp, 1, 0, 0, 0), (369, none, .ifCond .ne 12, 3, 381, 0, 0), (372, none, .aload_n 0, 1, 0, 0, 0), (373, none, .bipush 76, 2, 0, 76, 0), (375, none, .invokevirtual 1282, 3, 1, 478, 0), (378, none, .goto 14, 3, 392, 0, 0)] := fq_of2 cd_704 ow_704 cl_704 rfl (pc := 368) (by decide +kernel)
            j_lcmp (pc := 368) D rfl fun D =>
            j_ifne (pc := 369) D rfl (fun q D =>
              j_aldn (pc := 372) D rfl rfl rfl fun D =>
              j_bp (pc := 373) D rfl fun D =>
              j_ivv (pc := 375) (m := 695) (dd := 478) (a := [(0, 76)]) (rest := []) D rfl rfl rfl rfl rfl (by decide) (s0_602 H) (by decide +kernel) (fun h11 e1 D =>
                have T := fj_run_ok _ _ _ _ _ _ H.1 e1
                have H := shp_st H T
                j_goto (pc := 378) D rfl <|
                fk_jump cut_704_392 rfl rfl) (fun q13 h11 e1 =>
                j_tx (hx_704 _))) (fun q =>
              have D : fk_D 704 [(381, none, .aload_n 0, 1, 0, 0, 0), (382, none, .aload_n 0, 1, 0, 0, 0), (383, none, .getfield 80, 3, 424, 129, 12), (386, none, .iload_n 1, 1, 0, 0, 0), (387, none, .laload, 1, 0, 0, 0), (388, none, .l2i, 1, 0, 0, 0), (389, none, .invokevirtual 1291, 3, 1, 481, 0)] := fq_of2 cd_704 ow_704 cl_704 rfl (pc := 381) (by decide +kernel)
              j_aldn (pc := 381) D rfl rfl rfl fun D =>
              j_aldn (pc := 382) D rfl rfl rfl fun D =>
              j_gfc (pc := 383) (a := 602) D rfl rfl (by decide) rfl (s0_602 H) rfl (sf_424_602 H) fun D =>
              j_ildn (pc := 386) D rfl rfl rfl fun D =>
              j_al (pc := 387) (a := 623) (e := 11) D rfl rfl rfl (by decide) (s0_623 H) (s1_623 H) ⟨rfl, rfl, rfl⟩ rfl (gy qb1) fun q D =>
              j_l2i (pc := 388) D rfl fun D =>
              j_ivv (pc := 389) (m := 701) (dd := 481) (a := [(0, wI (h8 11 623 x1.toNat))]) (rest := []) D rfl rfl rfl rfl rfl (by decide) (s0_602 H) (by decide +kernel) (fun h14 e1 D =>
                have T := fj_run_ok _ _ _ _ _ _ H.1 e1
                have H := shp_st H T
                fk_jump cut_704_392 rfl rfl) (fun q16 h14 e1 =>
                j_tx (hx_704 _)))) (fun q10 h8 e1 =>
            j_tx (hx_704 _))) (fun q7 h5 e1 =>
          j_tx (hx_704 _)))) (fun q4 h2 e1 =>
      j_tx (hx_704 _))
theorem e_704_392 (d : Nat) (x1 : Int) {h : fi_H} (H : Shp h) : c_704_392 d x1 h =
  c_704_394 d x1 0 h := by
  unfold c_704_392
  exact
    have D : fk_D 704 [(392, some [0, 1], .iconst 0, 1, 0, 0, 0), (393, none, .istore_n 3, 1, 0, 0, 0)] := fq_of2 cd_704 ow_704 cl_704 rfl (pc := 392) (by decide +kernel)
    j_ic (pc := 392) D rfl fun D =>
    j_istn (pc := 393) (L' := [(3, (0, 0)), (0, (4, 602)), (1, (0, x1))]) D rfl nl_704 rfl rfl fun D =>
    fk_jump cut_704_394 rfl rfl
theorem e_704_394 (d : Nat) (x1 x3 : Int) {h : fi_H} (H : Shp h) : c_704_394 d x1 x3 h =
  if x3 < 2 then
    if x3 = 0 then
      if 0 ≤ x1 ∧ x1 < 9300 then
      c_704_418 d x1 x3 (h 10 620 x1.toNat) h
      else none
    else
      if 0 ≤ x1 ∧ x1 < 9300 then
      c_704_418 d x1 x3 (h 10 621 x1.toNat) h
      else none
  else
    cv_ (fj_run d 696 h [(4, 602), (0, 41)])
      (fun h3 =>
      some (.inl none, h3))
      (fun q5 h3 => tx_ q5 h3) := by
  unfold c_704_394
  exact
    have D : fk_D 704 [(394, some [0, 1, 3], .iload_n 3, 1, 0, 0, 0), (395, none, .iconst 2, 1, 0, 2, 0), (396, none, .if_icmp .ge 57, 3, 453, 0, 0), (399, none, .iload_n 3, 1, 0, 0, 0), (400, none, .ifCond .ne 12, 3, 412, 0, 0), (403, none, .aload_n 0, 1, 0, 0, 0), (404, none, .getfield 71, 3, 421, 129, 12), (407, none, .iload_n 1, 1, 0, 0, 0), (408, none, .iaload, 1, 0, 0, 0), (409, none, .goto 9, 3, 418, 0, 0)] := fq_of2 cd_704 ow_704 cl_704 rfl (pc := 394) (by decide +kernel)
    j_ildn (pc := 394) D rfl rfl rfl fun D =>
    j_ic (pc := 395) D rfl fun D =>
    j_ige (pc := 396) D rfl (fun q D =>
      j_ildn (pc := 399) D rfl rfl rfl fun D =>
      j_ifne (pc := 400) D rfl (fun q D =>
        j_aldn (pc := 403) D rfl rfl rfl fun D =>
        j_gfc (pc := 404) (a := 602) D rfl rfl (by decide) rfl (s0_602 H) rfl (sf_421_602 H) fun D =>
        j_ildn (pc := 407) D rfl rfl rfl fun D =>
        j_al (pc := 408) (a := 620) (e := 10) D rfl rfl rfl (by decide) (s0_620 H) (s1_620 H) ⟨rfl, rfl, rfl⟩ rfl gn fun qb1 D =>
        j_goto (pc := 409) D rfl <|
        fk_jump cut_704_418 rfl rfl) (fun q =>
        have D : fk_D 704 [(412, none, .aload_n 0, 1, 0, 0, 0), (413, none, .getfield 74, 3, 422, 129, 12), (416, none, .iload_n 1, 1, 0, 0, 0), (417, none, .iaload, 1, 0, 0, 0)] := fq_of2 cd_704 ow_704 cl_704 rfl (pc := 412) (by decide +kernel)
        j_aldn (pc := 412) D rfl rfl rfl fun D =>
        j_gfc (pc := 413) (a := 602) D rfl rfl (by decide) rfl (s0_602 H) rfl (sf_422_602 H) fun D =>
        j_ildn (pc := 416) D rfl rfl rfl fun D =>
        j_al (pc := 417) (a := 621) (e := 10) D rfl rfl rfl (by decide) (s0_621 H) (s1_621 H) ⟨rfl, rfl, rfl⟩ rfl gn fun qb2 D =>
        fk_jump cut_704_418 rfl rfl)) (fun q =>
      have D : fk_D 704 [(453, none, .aload_n 0, 1, 0, 0, 0), (454, none, .bipush 41, 2, 0, 41, 0), (456, none, .invokevirtual 1274, 3, 1, 475, 0), (459, none, .return_, 1, 0, 0, 0)] := fq_of2 cd_704 ow_704 cl_704 rfl (pc := 453) (by decide +kernel)
      j_aldn (pc := 453) D rfl rfl rfl fun D =>
      j_bp (pc := 454) D rfl fun D =>
      j_ivv (pc := 456) (m := 696) (dd := 475) (a := [(0, 41)]) (rest := []) D rfl rfl rfl rfl rfl (by decide) (s0_602 H) (by decide +kernel) (fun h3 e1 D =>
        have T := fj_run_ok _ _ _ _ _ _ H.1 e1
        have H := shp_st H T
        j_vret D rt_704) (fun q5 h3 e1 =>
        j_tx (hx_704 _)))
theorem e_704_418 (d : Nat) (x1 x3 s0 : Int) {h : fi_H} (H : Shp h) : c_704_418 d x1 x3 s0 h =
  if s0 = (-1) then
    c_704_447 d x1 x3 h
  else
    cv_ (fj_run d 696 h [(4, 602), (0, 44)])
      (fun h1 =>
      cv_ (fj_run d 696 h1 [(4, 602), (0, 32)])
        (fun h4 =>
        cv_ (fj_run d 704 h4 [(4, 602), (0, s0)])
          (fun h7 =>
          c_704_447 d x1 x3 h7)
          (fun q9 h7 => tx_ q9 h7))
        (fun q6 h4 => tx_ q6 h4))
      (fun q3 h1 => tx_ q3 h1) := by
  unfold c_704_418
  exact
    have D : fk_D 704 [(418, some [0, 1, 3], .istore 4, 2, 0, 0, 0), (420, none, .iload 4, 2, 0, 0, 0), (422, none, .iconst (-1), 1, 0, (-1), 0), (423, none, .if_icmp .ne 6, 3, 429, 0, 0), (426, none, .goto 21, 3, 447, 0, 0)] := fq_of2 cd_704 ow_704 cl_704 rfl (pc := 418) (by decide +kernel)
    j_ist (pc := 418) (L' := [(4, (0, s0)), (0, (4, 602)), (1, (0, x1)), (3, (0, x3))]) D rfl nl_704 rfl rfl fun D =>
    j_ild (pc := 420) D rfl rfl rfl fun D =>
    j_ic (pc := 422) D rfl fun D =>
    j_ine (pc := 423) D rfl (fun q D =>
      j_goto (pc := 426) D rfl <|
      fk_jump cut_704_447 rfl rfl) (fun q =>
      have D : fk_D 704 [(429, none, .aload_n 0, 1, 0, 0, 0), (430, none, .bipush 44, 2, 0, 44, 0), (432, none, .invokevirtual 1274, 3, 1, 475, 0), (435, none, .aload_n 0, 1, 0, 0, 0), (436, none, .bipush 32, 2, 0, 32, 0), (438, none, .invokevirtual 1274, 3, 1, 475, 0), (441, none, .aload_n 0, 1, 0, 0, 0), (442, none, .iload 4, 2, 0, 0, 0), (444, none, .invokevirtual 1294, 3, 1, 482, 0)] := fq_of2 cd_704 ow_704 cl_704 rfl (pc := 429) (by decide +kernel)
      j_aldn (pc := 429) D rfl rfl rfl fun D =>
      j_bp (pc := 430) D rfl fun D =>
      j_ivv (pc := 432) (m := 696) (dd := 475) (a := [(0, 44)]) (rest := []) D rfl rfl rfl rfl rfl (by decide) (s0_602 H) (by decide +kernel) (fun h1 e1 D =>
        have T := fj_run_ok _ _ _ _ _ _ H.1 e1
        have H := shp_st H T
        j_aldn (pc := 435) D rfl rfl rfl fun D =>
        j_bp (pc := 436) D rfl fun D =>
        j_ivv (pc := 438) (m := 696) (dd := 475) (a := [(0, 32)]) (rest := []) D rfl rfl rfl rfl rfl (by decide) (s0_602 H) (by decide +kernel) (fun h4 e1 D =>
          have T := fj_run_ok _ _ _ _ _ _ H.1 e1
          have H := shp_st H T
          j_aldn (pc := 441) D rfl rfl rfl fun D =>
          j_ild (pc := 442) D rfl rfl rfl fun D =>
          j_ivv (pc := 444) (m := 704) (dd := 482) (a := [(0, s0)]) (rest := []) D rfl rfl rfl rfl rfl (by decide) (s0_602 H) (by decide +kernel) (fun h7 e1 D =>
            have T := fj_run_ok _ _ _ _ _ _ H.1 e1
            have H := shp_st H T
            fk_jump cut_704_447 rfl rfl) (fun q9 h7 e1 =>
            j_tx (hx_704 _))) (fun q6 h4 e1 =>
          j_tx (hx_704 _))) (fun q3 h1 e1 =>
        j_tx (hx_704 _)))
theorem e_704_447 (d : Nat) (x1 x3 : Int) {h : fi_H} (H : Shp h) : c_704_447 d x1 x3 h =
  c_704_394 d x1 (wI (x3 + 1)) h := by
  unfold c_704_447
  exact
    have D : fk_D 704 [(447, some [0, 1, 3], .iinc 3 1, 3, 0, 1, 0), (450, none, .goto (-56), 3, 394, 0, 0)] := fq_of2 cd_704 ow_704 cl_704 rfl (pc := 447) (by decide +kernel)
    j_inc (pc := 447) (L' := [(3, (0, wI (x3 + 1))), (0, (4, 602)), (1, (0, x1))]) D rfl rfl rfl (by decide +kernel) rfl fun D =>
    j_goto (pc := 450) D rfl <|
    fk_jump cut_704_394 rfl rfl
theorem m_704 (d : Nat) (x1 : Int) {h : fi_H} (H : Shp h) : fj_run (d + 1) 704 h [(4, 602), (0, x1)] =
  if 0 ≤ x1 ∧ x1 < 9300 then
  if h 10 617 x1.toNat = 3 then
    cv_ (fj_run d 696 h [(4, 602), (0, 40)])
      (fun h2 =>
      if h 10 617 x1.toNat = 3 then
        cv_ (fj_run d 695 h2 [(4, 602), (0, 27)])
          (fun h5 =>
          c_704_203 d x1 h5)
          (fun q7 h5 => tx_ q7 h5)
      else
        cv_ (fj_run d 696 h2 [(4, 602), (0, 45)])
          (fun h8 =>
          c_704_203 d x1 h8)
          (fun q10 h8 => tx_ q10 h8))
      (fun q4 h2 => tx_ q4 h2)
  else if h 10 617 x1.toNat = 15 then
    cv_ (fj_run d 696 h [(4, 602), (0, 40)])
      (fun h11 =>
      if h 10 617 x1.toNat = 3 then
        cv_ (fj_run d 695 h11 [(4, 602), (0, 27)])
          (fun h14 =>
          c_704_203 d x1 h14)
          (fun q16 h14 => tx_ q16 h14)
      else
        cv_ (fj_run d 696 h11 [(4, 602), (0, 45)])
          (fun h17 =>
          c_704_203 d x1 h17)
          (fun q19 h17 => tx_ q19 h17))
      (fun q13 h11 => tx_ q13 h11)
  else if h 10 617 x1.toNat = 18 then
    cv_ (fj_run d 705 h [(4, 602), (0, x1)])
      (fun h20 =>
      some (.inl none, h20))
      (fun q22 h20 => tx_ q22 h20)
  else if h 10 617 x1.toNat = 19 then
    cv_ (fj_run d 695 h [(4, 602), (0, 31)])
      (fun h23 =>
      some (.inl none, h23))
      (fun q25 h23 => tx_ q25 h23)
  else if h 10 617 x1.toNat = 20 then
    cv_ (fj_run d 695 h [(4, 602), (0, 32)])
      (fun h26 =>
      some (.inl none, h26))
      (fun q28 h26 => tx_ q28 h26)
  else if h 10 617 x1.toNat = 21 then
    cv_ (fj_run d 695 h [(4, 602), (0, 33)])
      (fun h29 =>
      some (.inl none, h29))
      (fun q31 h29 => tx_ q31 h29)
  else if h 10 617 x1.toNat = 22 then
    cv_ (fj_run d 701 h [(4, 602), (0, wI (h 11 623 x1.toNat))])
      (fun h32 =>
      some (.inl none, h32))
      (fun q34 h32 => tx_ q34 h32)
  else if h 10 617 x1.toNat = 23 then
    cv_ (fj_run d 695 h [(4, 602), (0, 58)])
      (fun h35 =>
      cv_ (fj_run d 696 h35 [(4, 602), (0, 40)])
        (fun h38 =>
        cv_ (fj_run d 701 h38 [(4, 602), (0, wI (h38 11 623 x1.toNat))])
          (fun h41 =>
          c_704_170 d h41)
          (fun q43 h41 => tx_ q43 h41))
        (fun q40 h38 => tx_ q40 h38))
      (fun q37 h35 => tx_ q37 h35)
  else 
    if h 10 617 x1.toNat < 24 then
      cv_ (fj_run d 696 h [(4, 602), (0, 40)])
        (fun h44 =>
        cv_ (fj_run d 704 h44 [(4, 602), (0, h44 10 619 x1.toNat)])
          (fun h47 =>
          cv_ (fj_run d 696 h47 [(4, 602), (0, 32)])
            (fun h50 =>
            cv_ (fj_run d 707 h50 [(4, 602), (0, h 10 617 x1.toNat)])
              (fun h53 =>
              cv_ (fj_run d 696 h53 [(4, 602), (0, 32)])
                (fun h56 =>
                cv_ (fj_run d 704 h56 [(4, 602), (0, h56 10 620 x1.toNat)])
                  (fun h59 =>
                  cv_ (fj_run d 696 h59 [(4, 602), (0, 41)])
                    (fun h62 =>
                    some (.inl none, h62))
                    (fun q64 h62 => tx_ q64 h62))
                  (fun q61 h59 => tx_ q61 h59))
                (fun q58 h56 => tx_ q58 h56))
              (fun q55 h53 => tx_ q55 h53))
            (fun q52 h50 => tx_ q52 h50))
          (fun q49 h47 => tx_ q49 h47))
        (fun q46 h44 => tx_ q46 h44)
    else
      ca_ (fj_run d 708 h [(0, h 10 617 x1.toNat)]) 0
        (fun v66 h65 =>
        cv_ (fj_run d 695 h65 [(4, 602), (0, v66)])
          (fun h68 =>
          c_704_290 d x1 (h 10 617 x1.toNat) h68)
          (fun q70 h68 => tx_ q70 h68))
        (fun q67 h65 => tx_ q67 h65)
  else none := by
  rw [fj_run_eq d (by decide) h [(4, 602), (0, x1)] (Nat.le_of_ble_eq_true (by rw [nl_704]; rfl))]
  show gG (fj_run d) 704 0 [(0, (4, 602)), (1, (0, x1))] [] h = _
  exact
    have D : fk_D 704 [(0, none, .aload_n 0, 1, 0, 0, 0), (1, none, .getfield 62, 3, 418, 129, 12), (4, none, .iload_n 1, 1, 0, 0, 0), (5, none, .iaload, 1, 0, 0, 0), (6, none, .istore_n 2, 1, 0, 0, 0), (7, none, .iload_n 2, 1, 0, 0, 0), (8, none, .tableswitch 218 3 23 #[169, 218, 218, 218, 218, 218, 218, 218, 218, 218, 218, 218, 169, 218, 218, 100, 118, 125, 132, 106, 139], 100, 0, 0, 0)] := fq_of3 cd_704 ow_704 cl_704 rfl (pc := 0) (by decide +kernel)
    j_aldn (pc := 0) D rfl rfl rfl fun D =>
    j_gfc (pc := 1) (a := 602) D rfl rfl (by decide) rfl (s0_602 H) rfl (sf_418_602 H) fun D =>
    j_ildn (pc := 4) D rfl rfl rfl fun D =>
    j_al (pc := 5) (a := 617) (e := 10) D rfl rfl rfl (by decide) (s0_617 H) (s1_617 H) ⟨rfl, rfl, rfl⟩ rfl gn fun qb1 D =>
    j_istn (pc := 6) (L' := [(2, (0, h 10 617 x1.toNat)), (0, (4, 602)), (1, (0, x1))]) D rfl nl_704 rfl rfl fun D =>
    j_ildn (pc := 7) D rfl rfl rfl fun D =>
    have N : fk_ni (h 10 617 x1.toNat) [] := trivial
    j_tc (pc := 8) 3 (t := 177) D N rfl (by decide +kernel) (fun q =>
      have D : fk_D 704 [(177, none, .aload_n 0, 1, 0, 0, 0), (178, none, .bipush 40, 2, 0, 40, 0), (180, none, .invokevirtual 1274, 3, 1, 475, 0), (183, none, .iload_n 2, 1, 0, 0, 0), (184, none, .iconst 3, 1, 0, 3, 0), (185, none, .if_icmp .ne 12, 3, 197, 0, 0), (188, none, .aload_n 0, 1, 0, 0, 0), (189, none, .bipush 27, 2, 0, 27, 0), (191, none, .invokevirtual 1282, 3, 1, 478, 0), (194, none, .goto 9, 3, 203, 0, 0)] := fq_of2 cd_704 ow_704 cl_704 rfl (pc := 177) (by decide +kernel)
      j_aldn (pc := 177) D rfl rfl rfl fun D =>
      j_bp (pc := 178) D rfl fun D =>
      j_ivv (pc := 180) (m := 696) (dd := 475) (a := [(0, 40)]) (rest := []) D rfl rfl rfl rfl rfl (by decide) (s0_602 H) (by decide +kernel) (fun h2 e1 D =>
        have T := fj_run_ok _ _ _ _ _ _ H.1 e1
        have H := shp_st H T
        j_ildn (pc := 183) D rfl rfl rfl fun D =>
        j_ic (pc := 184) D rfl fun D =>
        j_ine (pc := 185) D rfl (fun q D =>
          j_aldn (pc := 188) D rfl rfl rfl fun D =>
          j_bp (pc := 189) D rfl fun D =>
          j_ivv (pc := 191) (m := 695) (dd := 478) (a := [(0, 27)]) (rest := []) D rfl rfl rfl rfl rfl (by decide) (s0_602 H) (by decide +kernel) (fun h5 e1 D =>
            have T := fj_run_ok _ _ _ _ _ _ H.1 e1
            have H := shp_st H T
            j_goto (pc := 194) D rfl <|
            fk_jump cut_704_203 rfl rfl) (fun q7 h5 e1 =>
            j_tx (hx_704 _))) (fun q =>
          have D : fk_D 704 [(197, none, .aload_n 0, 1, 0, 0, 0), (198, none, .bipush 45, 2, 0, 45, 0), (200, none, .invokevirtual 1274, 3, 1, 475, 0)] := fq_of2 cd_704 ow_704 cl_704 rfl (pc := 197) (by decide +kernel)
          j_aldn (pc := 197) D rfl rfl rfl fun D =>
          j_bp (pc := 198) D rfl fun D =>
          j_ivv (pc := 200) (m := 696) (dd := 475) (a := [(0, 45)]) (rest := []) D rfl rfl rfl rfl rfl (by decide) (s0_602 H) (by decide +kernel) (fun h8 e1 D =>
            have T := fj_run_ok _ _ _ _ _ _ H.1 e1
            have H := shp_st H T
            fk_jump cut_704_203 rfl rfl) (fun q10 h8 e1 =>
            j_tx (hx_704 _)))) (fun q4 h2 e1 =>
        j_tx (hx_704 _))) (fun N =>
      j_tc 15 (t := 177) D N rfl (by decide +kernel) (fun q =>
        have D : fk_D 704 [(177, none, .aload_n 0, 1, 0, 0, 0), (178, none, .bipush 40, 2, 0, 40, 0), (180, none, .invokevirtual 1274, 3, 1, 475, 0), (183, none, .iload_n 2, 1, 0, 0, 0), (184, none, .iconst 3, 1, 0, 3, 0), (185, none, .if_icmp .ne 12, 3, 197, 0, 0), (188, none, .aload_n 0, 1, 0, 0, 0), (189, none, .bipush 27, 2, 0, 27, 0), (191, none, .invokevirtual 1282, 3, 1, 478, 0), (194, none, .goto 9, 3, 203, 0, 0)] := fq_of2 cd_704 ow_704 cl_704 rfl (pc := 177) (by decide +kernel)
        j_aldn (pc := 177) D rfl rfl rfl fun D =>
        j_bp (pc := 178) D rfl fun D =>
        j_ivv (pc := 180) (m := 696) (dd := 475) (a := [(0, 40)]) (rest := []) D rfl rfl rfl rfl rfl (by decide) (s0_602 H) (by decide +kernel) (fun h11 e1 D =>
          have T := fj_run_ok _ _ _ _ _ _ H.1 e1
          have H := shp_st H T
          j_ildn (pc := 183) D rfl rfl rfl fun D =>
          j_ic (pc := 184) D rfl fun D =>
          j_ine (pc := 185) D rfl (fun q D =>
            j_aldn (pc := 188) D rfl rfl rfl fun D =>
            j_bp (pc := 189) D rfl fun D =>
            j_ivv (pc := 191) (m := 695) (dd := 478) (a := [(0, 27)]) (rest := []) D rfl rfl rfl rfl rfl (by decide) (s0_602 H) (by decide +kernel) (fun h14 e1 D =>
              have T := fj_run_ok _ _ _ _ _ _ H.1 e1
              have H := shp_st H T
              j_goto (pc := 194) D rfl <|
              fk_jump cut_704_203 rfl rfl) (fun q16 h14 e1 =>
              j_tx (hx_704 _))) (fun q =>
            have D : fk_D 704 [(197, none, .aload_n 0, 1, 0, 0, 0), (198, none, .bipush 45, 2, 0, 45, 0), (200, none, .invokevirtual 1274, 3, 1, 475, 0)] := fq_of2 cd_704 ow_704 cl_704 rfl (pc := 197) (by decide +kernel)
            j_aldn (pc := 197) D rfl rfl rfl fun D =>
            j_bp (pc := 198) D rfl fun D =>
            j_ivv (pc := 200) (m := 696) (dd := 475) (a := [(0, 45)]) (rest := []) D rfl rfl rfl rfl rfl (by decide) (s0_602 H) (by decide +kernel) (fun h17 e1 D =>
              have T := fj_run_ok _ _ _ _ _ _ H.1 e1
              have H := shp_st H T
              fk_jump cut_704_203 rfl rfl) (fun q19 h17 e1 =>
              j_tx (hx_704 _)))) (fun q13 h11 e1 =>
          j_tx (hx_704 _))) (fun N =>
        j_tc 18 (t := 108) D N rfl (by decide +kernel) (fun q =>
          have D : fk_D 704 [(108, none, .aload_n 0, 1, 0, 0, 0), (109, none, .iload_n 1, 1, 0, 0, 0), (110, none, .invokevirtual 1288, 3, 1, 480, 0), (113, none, .return_, 1, 0, 0, 0)] := fq_of2 cd_704 ow_704 cl_704 rfl (pc := 108) (by decide +kernel)
          j_aldn (pc := 108) D rfl rfl rfl fun D =>
          j_ildn (pc := 109) D rfl rfl rfl fun D =>
          j_ivv (pc := 110) (m := 705) (dd := 480) (a := [(0, x1)]) (rest := []) D rfl rfl rfl rfl rfl (by decide) (s0_602 H) (by decide +kernel) (fun h20 e1 D =>
            have T := fj_run_ok _ _ _ _ _ _ H.1 e1
            have H := shp_st H T
            j_vret D rt_704) (fun q22 h20 e1 =>
            j_tx (hx_704 _))) (fun N =>
          j_tc 19 (t := 126) D N rfl (by decide +kernel) (fun q =>
            have D : fk_D 704 [(126, none, .aload_n 0, 1, 0, 0, 0), (127, none, .bipush 31, 2, 0, 31, 0), (129, none, .invokevirtual 1282, 3, 1, 478, 0), (132, none, .return_, 1, 0, 0, 0)] := fq_of2 cd_704 ow_704 cl_704 rfl (pc := 126) (by decide +kernel)
            j_aldn (pc := 126) D rfl rfl rfl fun D =>
            j_bp (pc := 127) D rfl fun D =>
            j_ivv (pc := 129) (m := 695) (dd := 478) (a := [(0, 31)]) (rest := []) D rfl rfl rfl rfl rfl (by decide) (s0_602 H) (by decide +kernel) (fun h23 e1 D =>
              have T := fj_run_ok _ _ _ _ _ _ H.1 e1
              have H := shp_st H T
              j_vret D rt_704) (fun q25 h23 e1 =>
              j_tx (hx_704 _))) (fun N =>
            j_tc 20 (t := 133) D N rfl (by decide +kernel) (fun q =>
              have D : fk_D 704 [(133, none, .aload_n 0, 1, 0, 0, 0), (134, none, .bipush 32, 2, 0, 32, 0), (136, none, .invokevirtual 1282, 3, 1, 478, 0), (139, none, .return_, 1, 0, 0, 0)] := fq_of2 cd_704 ow_704 cl_704 rfl (pc := 133) (by decide +kernel)
              j_aldn (pc := 133) D rfl rfl rfl fun D =>
              j_bp (pc := 134) D rfl fun D =>
              j_ivv (pc := 136) (m := 695) (dd := 478) (a := [(0, 32)]) (rest := []) D rfl rfl rfl rfl rfl (by decide) (s0_602 H) (by decide +kernel) (fun h26 e1 D =>
                have T := fj_run_ok _ _ _ _ _ _ H.1 e1
                have H := shp_st H T
                j_vret D rt_704) (fun q28 h26 e1 =>
                j_tx (hx_704 _))) (fun N =>
              j_tc 21 (t := 140) D N rfl (by decide +kernel) (fun q =>
                have D : fk_D 704 [(140, none, .aload_n 0, 1, 0, 0, 0), (141, none, .bipush 33, 2, 0, 33, 0), (143, none, .invokevirtual 1282, 3, 1, 478, 0), (146, none, .return_, 1, 0, 0, 0)] := fq_of2 cd_704 ow_704 cl_704 rfl (pc := 140) (by decide +kernel)
                j_aldn (pc := 140) D rfl rfl rfl fun D =>
                j_bp (pc := 141) D rfl fun D =>
                j_ivv (pc := 143) (m := 695) (dd := 478) (a := [(0, 33)]) (rest := []) D rfl rfl rfl rfl rfl (by decide) (s0_602 H) (by decide +kernel) (fun h29 e1 D =>
                  have T := fj_run_ok _ _ _ _ _ _ H.1 e1
                  have H := shp_st H T
                  j_vret D rt_704) (fun q31 h29 e1 =>
                  j_tx (hx_704 _))) (fun N =>
                j_tc 22 (t := 114) D N rfl (by decide +kernel) (fun q =>
                  have D : fk_D 704 [(114, none, .aload_n 0, 1, 0, 0, 0), (115, none, .aload_n 0, 1, 0, 0, 0), (116, none, .getfield 80, 3, 424, 129, 12), (119, none, .iload_n 1, 1, 0, 0, 0), (120, none, .laload, 1, 0, 0, 0), (121, none, .l2i, 1, 0, 0, 0), (122, none, .invokevirtual 1291, 3, 1, 481, 0), (125, none, .return_, 1, 0, 0, 0)] := fq_of2 cd_704 ow_704 cl_704 rfl (pc := 114) (by decide +kernel)
                  j_aldn (pc := 114) D rfl rfl rfl fun D =>
                  j_aldn (pc := 115) D rfl rfl rfl fun D =>
                  j_gfc (pc := 116) (a := 602) D rfl rfl (by decide) rfl (s0_602 H) rfl (sf_424_602 H) fun D =>
                  j_ildn (pc := 119) D rfl rfl rfl fun D =>
                  j_al (pc := 120) (a := 623) (e := 11) D rfl rfl rfl (by decide) (s0_623 H) (s1_623 H) ⟨rfl, rfl, rfl⟩ rfl (gy qb1) fun q D =>
                  j_l2i (pc := 121) D rfl fun D =>
                  j_ivv (pc := 122) (m := 701) (dd := 481) (a := [(0, wI (h 11 623 x1.toNat))]) (rest := []) D rfl rfl rfl rfl rfl (by decide) (s0_602 H) (by decide +kernel) (fun h32 e1 D =>
                    have T := fj_run_ok _ _ _ _ _ _ H.1 e1
                    have H := shp_st H T
                    j_vret D rt_704) (fun q34 h32 e1 =>
                    j_tx (hx_704 _))) (fun N =>
                  j_tc 23 (t := 147) D N rfl (by decide +kernel) (fun q =>
                    have D : fk_D 704 [(147, none, .aload_n 0, 1, 0, 0, 0), (148, none, .bipush 58, 2, 0, 58, 0), (150, none, .invokevirtual 1282, 3, 1, 478, 0), (153, none, .aload_n 0, 1, 0, 0, 0), (154, none, .bipush 40, 2, 0, 40, 0), (156, none, .invokevirtual 1274, 3, 1, 475, 0), (159, none, .aload_n 0, 1, 0, 0, 0), (160, none, .aload_n 0, 1, 0, 0, 0), (161, none, .getfield 80, 3, 424, 129, 12), (164, none, .iload_n 1, 1, 0, 0, 0), (165, none, .laload, 1, 0, 0, 0), (166, none, .l2i, 1, 0, 0, 0), (167, none, .invokevirtual 1291, 3, 1, 481, 0)] := fq_of2 cd_704 ow_704 cl_704 rfl (pc := 147) (by decide +kernel)
                    j_aldn (pc := 147) D rfl rfl rfl fun D =>
                    j_bp (pc := 148) D rfl fun D =>
                    j_ivv (pc := 150) (m := 695) (dd := 478) (a := [(0, 58)]) (rest := []) D rfl rfl rfl rfl rfl (by decide) (s0_602 H) (by decide +kernel) (fun h35 e1 D =>
                      have T := fj_run_ok _ _ _ _ _ _ H.1 e1
                      have H := shp_st H T
                      j_aldn (pc := 153) D rfl rfl rfl fun D =>
                      j_bp (pc := 154) D rfl fun D =>
                      j_ivv (pc := 156) (m := 696) (dd := 475) (a := [(0, 40)]) (rest := []) D rfl rfl rfl rfl rfl (by decide) (s0_602 H) (by decide +kernel) (fun h38 e1 D =>
                        have T := fj_run_ok _ _ _ _ _ _ H.1 e1
                        have H := shp_st H T
                        j_aldn (pc := 159) D rfl rfl rfl fun D =>
                        j_aldn (pc := 160) D rfl rfl rfl fun D =>
                        j_gfc (pc := 161) (a := 602) D rfl rfl (by decide) rfl (s0_602 H) rfl (sf_424_602 H) fun D =>
                        j_ildn (pc := 164) D rfl rfl rfl fun D =>
                        j_al (pc := 165) (a := 623) (e := 11) D rfl rfl rfl (by decide) (s0_623 H) (s1_623 H) ⟨rfl, rfl, rfl⟩ rfl (gy qb1) fun q D =>
                        j_l2i (pc := 166) D rfl fun D =>
                        j_ivv (pc := 167) (m := 701) (dd := 481) (a := [(0, wI (h38 11 623 x1.toNat))]) (rest := []) D rfl rfl rfl rfl rfl (by decide) (s0_602 H) (by decide +kernel) (fun h41 e1 D =>
                          have T := fj_run_ok _ _ _ _ _ _ H.1 e1
                          have H := shp_st H T
                          fk_jump cut_704_170 rfl rfl) (fun q43 h41 e1 =>
                          j_tx (hx_704 _))) (fun q40 h38 e1 =>
                        j_tx (hx_704 _))) (fun q37 h35 e1 =>
                      j_tx (hx_704 _))) (fun N =>
                    j_td (t := 226) D N rfl (by decide +kernel) (by decide +kernel) <|
                    have D : fk_D 704 [(226, none, .iload_n 2, 1, 0, 0, 0), (227, none, .bipush 24, 2, 0, 24, 0), (229, none, .if_icmp .ge 53, 3, 282, 0, 0), (232, none, .aload_n 0, 1, 0, 0, 0), (233, none, .bipush 40, 2, 0, 40, 0), (235, none, .invokevirtual 1274, 3, 1, 475, 0), (238, none, .aload_n 0, 1, 0, 0, 0), (239, none, .aload_n 0, 1, 0, 0, 0), (240, none, .getfield 68, 3, 420, 129, 12), (243, none, .iload_n 1, 1, 0, 0, 0), (244, none, .iaload, 1, 0, 0, 0), (245, none, .invokevirtual 1294, 3, 1, 482, 0), (248, none, .aload_n 0, 1, 0, 0, 0), (249, none, .bipush 32, 2, 0, 32, 0), (251, none, .invokevirtual 1274, 3, 1, 475, 0), (254, none, .aload_n 0, 1, 0, 0, 0), (255, none, .iload_n 2, 1, 0, 0, 0), (256, none, .invokevirtual 1297, 3, 1, 483, 0), (259, none, .aload_n 0, 1, 0, 0, 0), (260, none, .bipush 32, 2, 0, 32, 0)] := fq_of2 cd_704 ow_704 cl_704 rfl (pc := 226) (by decide +kernel)
                    j_ildn (pc := 226) D rfl rfl rfl fun D =>
                    j_bp (pc := 227) D rfl fun D =>
                    j_ige (pc := 229) D rfl (fun q D =>
                      j_aldn (pc := 232) D rfl rfl rfl fun D =>
                      j_bp (pc := 233) D rfl fun D =>
                      j_ivv (pc := 235) (m := 696) (dd := 475) (a := [(0, 40)]) (rest := []) D rfl rfl rfl rfl rfl (by decide) (s0_602 H) (by decide +kernel) (fun h44 e1 D =>
                        have T := fj_run_ok _ _ _ _ _ _ H.1 e1
                        have H := shp_st H T
                        j_aldn (pc := 238) D rfl rfl rfl fun D =>
                        j_aldn (pc := 239) D rfl rfl rfl fun D =>
                        j_gfc (pc := 240) (a := 602) D rfl rfl (by decide) rfl (s0_602 H) rfl (sf_420_602 H) fun D =>
                        j_ildn (pc := 243) D rfl rfl rfl fun D =>
                        j_al (pc := 244) (a := 619) (e := 10) D rfl rfl rfl (by decide) (s0_619 H) (s1_619 H) ⟨rfl, rfl, rfl⟩ rfl (gy qb1) fun q D =>
                        j_ivv (pc := 245) (m := 704) (dd := 482) (a := [(0, h44 10 619 x1.toNat)]) (rest := []) D rfl rfl rfl rfl rfl (by decide) (s0_602 H) (by decide +kernel) (fun h47 e1 D =>
                          have T := fj_run_ok _ _ _ _ _ _ H.1 e1
                          have H := shp_st H T
                          j_aldn (pc := 248) D rfl rfl rfl fun D =>
                          j_bp (pc := 249) D rfl fun D =>
                          j_ivv (pc := 251) (m := 696) (dd := 475) (a := [(0, 32)]) (rest := []) D rfl rfl rfl rfl rfl (by decide) (s0_602 H) (by decide +kernel) (fun h50 e1 D =>
                            have T := fj_run_ok _ _ _ _ _ _ H.1 e1
                            have H := shp_st H T
                            j_aldn (pc := 254) D rfl rfl rfl fun D =>
                            j_ildn (pc := 255) D rfl rfl rfl fun D =>
                            j_ivv (pc := 256) (m := 707) (dd := 483) (a := [(0, h 10 617 x1.toNat)]) (rest := []) D rfl rfl rfl rfl rfl (by decide) (s0_602 H) (by decide +kernel) (fun h53 e1 D =>
                              have T := fj_run_ok _ _ _ _ _ _ H.1 e1
                              have H := shp_st H T
                              j_aldn (pc := 259) D rfl rfl rfl fun D =>
                              j_bp (pc := 260) D rfl fun D =>
                              have D : fk_D 704 [(262, none, .invokevirtual 1274, 3, 1, 475, 0), (265, none, .aload_n 0, 1, 0, 0, 0), (266, none, .aload_n 0, 1, 0, 0, 0), (267, none, .getfield 71, 3, 421, 129, 12), (270, none, .iload_n 1, 1, 0, 0, 0), (271, none, .iaload, 1, 0, 0, 0), (272, none, .invokevirtual 1294, 3, 1, 482, 0), (275, none, .aload_n 0, 1, 0, 0, 0), (276, none, .bipush 41, 2, 0, 41, 0), (278, none, .invokevirtual 1274, 3, 1, 475, 0), (281, none, .return_, 1, 0, 0, 0)] := fq_of2 cd_704 ow_704 cl_704 rfl (pc := 262) (by decide +kernel)
                              j_ivv (pc := 262) (m := 696) (dd := 475) (a := [(0, 32)]) (rest := []) D rfl rfl rfl rfl rfl (by decide) (s0_602 H) (by decide +kernel) (fun h56 e1 D =>
                                have T := fj_run_ok _ _ _ _ _ _ H.1 e1
                                have H := shp_st H T
                                j_aldn (pc := 265) D rfl rfl rfl fun D =>
                                j_aldn (pc := 266) D rfl rfl rfl fun D =>
                                j_gfc (pc := 267) (a := 602) D rfl rfl (by decide) rfl (s0_602 H) rfl (sf_421_602 H) fun D =>
                                j_ildn (pc := 270) D rfl rfl rfl fun D =>
                                j_al (pc := 271) (a := 620) (e := 10) D rfl rfl rfl (by decide) (s0_620 H) (s1_620 H) ⟨rfl, rfl, rfl⟩ rfl (gy qb1) fun q D =>
                                j_ivv (pc := 272) (m := 704) (dd := 482) (a := [(0, h56 10 620 x1.toNat)]) (rest := []) D rfl rfl rfl rfl rfl (by decide) (s0_602 H) (by decide +kernel) (fun h59 e1 D =>
                                  have T := fj_run_ok _ _ _ _ _ _ H.1 e1
                                  have H := shp_st H T
                                  j_aldn (pc := 275) D rfl rfl rfl fun D =>
                                  j_bp (pc := 276) D rfl fun D =>
                                  j_ivv (pc := 278) (m := 696) (dd := 475) (a := [(0, 41)]) (rest := []) D rfl rfl rfl rfl rfl (by decide) (s0_602 H) (by decide +kernel) (fun h62 e1 D =>
                                    have T := fj_run_ok _ _ _ _ _ _ H.1 e1
                                    have H := shp_st H T
                                    j_vret D rt_704) (fun q64 h62 e1 =>
                                    j_tx (hx_704 _))) (fun q61 h59 e1 =>
                                  j_tx (hx_704 _))) (fun q58 h56 e1 =>
                                j_tx (hx_704 _))) (fun q55 h53 e1 =>
                              j_tx (hx_704 _))) (fun q52 h50 e1 =>
                            j_tx (hx_704 _))) (fun q49 h47 e1 =>
                          j_tx (hx_704 _))) (fun q46 h44 e1 =>
                        j_tx (hx_704 _))) (fun q =>
                      have D : fk_D 704 [(282, none, .aload_n 0, 1, 0, 0, 0), (283, none, .iload_n 2, 1, 0, 0, 0), (284, none, .invokestatic 1300, 3, 1, 708, 1), (287, none, .invokevirtual 1282, 3, 1, 478, 0)] := fq_of2 cd_704 ow_704 cl_704 rfl (pc := 282) (by decide +kernel)
                      j_aldn (pc := 282) D rfl rfl rfl fun D =>
                      j_ildn (pc := 283) D rfl rfl rfl fun D =>
                      j_is (pc := 284) (m := 708) (a := [(0, h 10 617 x1.toNat)]) (rest := [(4, 602)]) D rfl rfl rfl rfl (fun v66 h65 e1 D =>
                        have T := fj_run_ok _ _ _ _ _ _ H.1 e1
                        have H := shp_st H T
                        j_ivv (pc := 287) (m := 695) (dd := 478) (a := [(0, v66)]) (rest := []) D rfl rfl rfl rfl rfl (by decide) (s0_602 H) (by decide +kernel) (fun h68 e1 D =>
                          have T := fj_run_ok _ _ _ _ _ _ H.1 e1
                          have H := shp_st H T
                          fk_jump cut_704_290 rfl rfl) (fun q70 h68 e1 =>
                          j_tx (hx_704 _))) (fun q67 h65 e1 =>
                        j_tx (hx_704 _)))))))))))
/-! 705 StatuteHouseModel.putConstant(I)V -/
theorem cd_705 : fi_code 705 = prog_69_method_218_code := rfl
theorem hx_705 : ∀ pc, fi_hat 705 pc = none := fun pc => by unfold fi_hat; rw [show fi_hh 705 = [] from rfl]; rfl
theorem rt_705 : fi_ret 705 = none := rfl
theorem nl_705 : fi_nl 705 = 2 := rfl
theorem ow_705 : fi_ow 705 = 29 := rfl
theorem cl_705 : fj_cutT.getD 705 [] = [(59, []), (129, [0]), (179, [0, 1]), (207, [])] := rfl
theorem cut_705_59 : fj_cut 705 59 = some [] := by decide +kernel
noncomputable def c_705_59 (d : Nat) (s0 s1 : Int) (h : fi_H) : fk_R := gG (fj_run d) 705 59 [] [(0, s1), (4, s0)] h
theorem cut_705_129 : fj_cut 705 129 = some [0] := by decide +kernel
noncomputable def c_705_129 (d : Nat) (h : fi_H) : fk_R := gG (fj_run d) 705 129 [(0, (4, 602))] [] h
theorem cut_705_179 : fj_cut 705 179 = some [0, 1] := by decide +kernel
noncomputable def c_705_179 (d : Nat) (x1 s0 s1 : Int) (h : fi_H) : fk_R := gG (fj_run d) 705 179 [(0, (4, 602)), (1, (0, x1))] [(1, s1), (4, s0)] h
theorem cut_705_207 : fj_cut 705 207 = some [] := by decide +kernel
noncomputable def c_705_207 (d : Nat) (s0 s1 : Int) (h : fi_H) : fk_R := gG (fj_run d) 705 207 [] [(0, s1), (4, s0)] h
theorem e_705_59 (d : Nat) (s0 s1 : Int) {h : fi_H} (H : Shp h) : c_705_59 d s0 s1 h =
  dv_ (fi_vt 478 (h 0 s0.toNat 0)) fun m4 => cv_ (fj_run d m4 h [(4, s0), (0, s1)])
    (fun h1 =>
    some (.inl none, h1))
    (fun q3 h1 => tx_ q3 h1) := by
  unfold c_705_59
  exact
    have D : fk_D 705 [(59, some [], .invokevirtual 1282, 3, 1, 478, 0), (62, none, .goto 148, 3, 210, 0, 0)] := fq_of2 cd_705 ow_705 cl_705 rfl (pc := 59) (by decide +kernel)
    j_ivuv (pc := 59) (dd := 478) (a := [(0, s1)]) (rest := []) H.2.1 D rfl rfl rfl rfl rfl (fun m4 h1 e1 D =>
      have T := fj_run_ok _ _ _ _ _ _ H.1 e1
      have H := shp_st H T
      j_goto (pc := 62) D rfl <|
      have D : fk_D 705 [(210, none, .return_, 1, 0, 0, 0)] := fq_of2 cd_705 ow_705 cl_705 rfl (pc := 210) (by decide +kernel)
      j_vret D rt_705) (fun m4 q3 h1 e1 =>
      j_tx (hx_705 _))
theorem e_705_129 (d : Nat) {h : fi_H} (H : Shp h) : c_705_129 d h =
  cv_ (fj_run d 696 h [(4, 602), (0, 37)])
    (fun h1 =>
    some (.inl none, h1))
    (fun q3 h1 => tx_ q3 h1) := by
  unfold c_705_129
  exact
    have D : fk_D 705 [(129, some [0], .aload_n 0, 1, 0, 0, 0), (130, none, .bipush 37, 2, 0, 37, 0), (132, none, .invokevirtual 1274, 3, 1, 475, 0), (135, none, .goto 75, 3, 210, 0, 0)] := fq_of2 cd_705 ow_705 cl_705 rfl (pc := 129) (by decide +kernel)
    j_aldn (pc := 129) D rfl rfl rfl fun D =>
    j_bp (pc := 130) D rfl fun D =>
    j_ivv (pc := 132) (m := 696) (dd := 475) (a := [(0, 37)]) (rest := []) D rfl rfl rfl rfl rfl (by decide) (s0_602 H) (by decide +kernel) (fun h1 e1 D =>
      have T := fj_run_ok _ _ _ _ _ _ H.1 e1
      have H := shp_st H T
      j_goto (pc := 135) D rfl <|
      have D : fk_D 705 [(210, none, .return_, 1, 0, 0, 0)] := fq_of2 cd_705 ow_705 cl_705 rfl (pc := 210) (by decide +kernel)
      j_vret D rt_705) (fun q3 h1 e1 =>
      j_tx (hx_705 _))
theorem e_705_179 (d : Nat) (x1 s0 s1 : Int) {h : fi_H} (H : Shp h) : c_705_179 d x1 s0 s1 h =
  dv_ (fi_vt 476 (h 0 s0.toNat 0)) fun m4 => cv_ (fj_run d m4 h [(4, s0), (1, s1)])
    (fun h1 =>
    cv_ (fj_run d 696 h1 [(4, 602), (0, 32)])
      (fun h5 =>
      if 0 ≤ x1 ∧ x1 < 9300 then
      if lc_ (h5 11 623 x1.toNat) 0 = 0 then
        c_705_207 d 602 15 h5
      else
        c_705_207 d 602 16 h5
      else none)
      (fun q7 h5 => tx_ q7 h5))
    (fun q3 h1 => tx_ q3 h1) := by
  unfold c_705_179
  exact
    have D : fk_D 705 [(179, some [0, 1], .invokevirtual 1276, 3, 1, 476, 0), (182, none, .aload_n 0, 1, 0, 0, 0), (183, none, .bipush 32, 2, 0, 32, 0), (185, none, .invokevirtual 1274, 3, 1, 475, 0), (188, none, .aload_n 0, 1, 0, 0, 0), (189, none, .aload_n 0, 1, 0, 0, 0), (190, none, .getfield 80, 3, 424, 129, 12), (193, none, .iload_n 1, 1, 0, 0, 0), (194, none, .laload, 1, 0, 0, 0), (195, none, .lconst 0, 1, 0, 0, 0), (196, none, .lcmp, 1, 0, 0, 0), (197, none, .ifCond .eq 8, 3, 205, 0, 0), (200, none, .bipush 16, 2, 0, 16, 0), (202, none, .goto 5, 3, 207, 0, 0)] := fq_of2 cd_705 ow_705 cl_705 rfl (pc := 179) (by decide +kernel)
    j_ivuv (pc := 179) (dd := 476) (a := [(1, s1)]) (rest := []) H.2.1 D rfl rfl rfl rfl rfl (fun m4 h1 e1 D =>
      have T := fj_run_ok _ _ _ _ _ _ H.1 e1
      have H := shp_st H T
      j_aldn (pc := 182) D rfl rfl rfl fun D =>
      j_bp (pc := 183) D rfl fun D =>
      j_ivv (pc := 185) (m := 696) (dd := 475) (a := [(0, 32)]) (rest := []) D rfl rfl rfl rfl rfl (by decide) (s0_602 H) (by decide +kernel) (fun h5 e1 D =>
        have T := fj_run_ok _ _ _ _ _ _ H.1 e1
        have H := shp_st H T
        j_aldn (pc := 188) D rfl rfl rfl fun D =>
        j_aldn (pc := 189) D rfl rfl rfl fun D =>
        j_gfc (pc := 190) (a := 602) D rfl rfl (by decide) rfl (s0_602 H) rfl (sf_424_602 H) fun D =>
        j_ildn (pc := 193) D rfl rfl rfl fun D =>
        j_al (pc := 194) (a := 623) (e := 11) D rfl rfl rfl (by decide) (s0_623 H) (s1_623 H) ⟨rfl, rfl, rfl⟩ rfl gn fun qb8 D =>
        j_c0 (pc := 195) (v := (1, 0)) D rfl rfl (by decide +kernel) fun D =>
        j_lcmp (pc := 196) D rfl fun D =>
        j_ifeq (pc := 197) D rfl (fun q =>
          have D : fk_D 705 [(205, none, .bipush 15, 2, 0, 15, 0)] := fq_of2 cd_705 ow_705 cl_705 rfl (pc := 205) (by decide +kernel)
          j_bp (pc := 205) D rfl fun D =>
          fk_jump cut_705_207 rfl rfl) (fun q D =>
          j_bp (pc := 200) D rfl fun D =>
          j_goto (pc := 202) D rfl <|
          fk_jump cut_705_207 rfl rfl)) (fun q7 h5 e1 =>
        j_tx (hx_705 _))) (fun m4 q3 h1 e1 =>
      j_tx (hx_705 _))
theorem e_705_207 (d : Nat) (s0 s1 : Int) {h : fi_H} (H : Shp h) : c_705_207 d s0 s1 h =
  dv_ (fi_vt 478 (h 0 s0.toNat 0)) fun m4 => cv_ (fj_run d m4 h [(4, s0), (0, s1)])
    (fun h1 =>
    some (.inl none, h1))
    (fun q3 h1 => tx_ q3 h1) := by
  unfold c_705_207
  exact
    have D : fk_D 705 [(207, some [], .invokevirtual 1282, 3, 1, 478, 0), (210, none, .return_, 1, 0, 0, 0)] := fq_of2 cd_705 ow_705 cl_705 rfl (pc := 207) (by decide +kernel)
    j_ivuv (pc := 207) (dd := 478) (a := [(0, s1)]) (rest := []) H.2.1 D rfl rfl rfl rfl rfl (fun m4 h1 e1 D =>
      have T := fj_run_ok _ _ _ _ _ _ H.1 e1
      have H := shp_st H T
      j_vret D rt_705) (fun m4 q3 h1 e1 =>
      j_tx (hx_705 _))
theorem m_705 (d : Nat) (x1 : Int) {h : fi_H} (H : Shp h) : fj_run (d + 1) 705 h [(4, 602), (0, x1)] =
  if 0 ≤ x1 ∧ x1 < 9300 then
  if h 10 618 x1.toNat = 0 then
    if lc_ (h 11 623 x1.toNat) 1 = 0 then
      c_705_59 d 602 18 h
    else
      c_705_59 d 602 19 h
  else if h 10 618 x1.toNat = 1 then
    cv_ (fj_run d 698 h [(4, 602), (1, h 11 623 x1.toNat)])
      (fun h2 =>
      some (.inl none, h2))
      (fun q4 h2 => tx_ q4 h2)
  else if h 10 618 x1.toNat = 2 then
    cv_ (fj_run d 698 h [(4, 602), (1, lq_ (h 11 623 x1.toNat) 100)])
      (fun h5 =>
      cv_ (fj_run d 696 h5 [(4, 602), (0, 46)])
        (fun h8 =>
        cv_ (fj_run d 703 h8 [(4, 602), (1, lr_ (h8 11 623 x1.toNat) 100)])
          (fun h11 =>
          some (.inl none, h11))
          (fun q13 h11 => tx_ q13 h11))
        (fun q10 h8 => tx_ q10 h8))
      (fun q7 h5 => tx_ q7 h5)
  else if h 10 618 x1.toNat = 3 then
    cv_ (fj_run d 698 h [(4, 602), (1, wI (wI ((-2) - (h 10 619 x1.toNat))))])
      (fun h14 =>
      c_705_129 d h14)
      (fun q16 h14 => tx_ q16 h14)
  else if h 10 618 x1.toNat = 4 then
    cv_ (fj_run d 706 h [(4, 602), (0, wI (h 11 623 x1.toNat))])
      (fun h17 =>
      some (.inl none, h17))
      (fun q19 h17 => tx_ q19 h17)
  else 
    if lc_ (h 11 623 x1.toNat) 0 = 0 then
      c_705_179 d x1 602 (h 11 624 x1.toNat) h
    else
      c_705_179 d x1 602 (h 11 623 x1.toNat) h
  else none := by
  rw [fj_run_eq d (by decide) h [(4, 602), (0, x1)] (Nat.le_of_ble_eq_true (by rw [nl_705]; rfl))]
  show gG (fj_run d) 705 0 [(0, (4, 602)), (1, (0, x1))] [] h = _
  exact
    have D : fk_D 705 [(0, none, .aload_n 0, 1, 0, 0, 0), (1, none, .getfield 65, 3, 419, 129, 12), (4, none, .iload_n 1, 1, 0, 0, 0), (5, none, .iaload, 1, 0, 0, 0), (6, none, .tableswitch 146 0 4 #[34, 59, 72, 109, 132], 34, 0, 0, 0)] := fq_of3 cd_705 ow_705 cl_705 rfl (pc := 0) (by decide +kernel)
    j_aldn (pc := 0) D rfl rfl rfl fun D =>
    j_gfc (pc := 1) (a := 602) D rfl rfl (by decide) rfl (s0_602 H) rfl (sf_419_602 H) fun D =>
    j_ildn (pc := 4) D rfl rfl rfl fun D =>
    j_al (pc := 5) (a := 618) (e := 10) D rfl rfl rfl (by decide) (s0_618 H) (s1_618 H) ⟨rfl, rfl, rfl⟩ rfl gn fun qb1 D =>
    have N : fk_ni (h 10 618 x1.toNat) [] := trivial
    j_tc (pc := 6) 0 (t := 40) D N rfl (by decide +kernel) (fun q =>
      have D : fk_D 705 [(40, none, .aload_n 0, 1, 0, 0, 0), (41, none, .aload_n 0, 1, 0, 0, 0), (42, none, .getfield 80, 3, 424, 129, 12), (45, none, .iload_n 1, 1, 0, 0, 0), (46, none, .laload, 1, 0, 0, 0), (47, none, .lconst 1, 1, 0, 0, 0), (48, none, .lcmp, 1, 0, 0, 0), (49, none, .ifCond .ne 8, 3, 57, 0, 0), (52, none, .bipush 18, 2, 0, 18, 0), (54, none, .goto 5, 3, 59, 0, 0)] := fq_of2 cd_705 ow_705 cl_705 rfl (pc := 40) (by decide +kernel)
      j_aldn (pc := 40) D rfl rfl rfl fun D =>
      j_aldn (pc := 41) D rfl rfl rfl fun D =>
      j_gfc (pc := 42) (a := 602) D rfl rfl (by decide) rfl (s0_602 H) rfl (sf_424_602 H) fun D =>
      j_ildn (pc := 45) D rfl rfl rfl fun D =>
      j_al (pc := 46) (a := 623) (e := 11) D rfl rfl rfl (by decide) (s0_623 H) (s1_623 H) ⟨rfl, rfl, rfl⟩ rfl (gy qb1) fun q D =>
      j_c0 (pc := 47) (v := (1, 1)) D rfl rfl (by decide +kernel) fun D =>
      j_lcmp (pc := 48) D rfl fun D =>
      j_ifne (pc := 49) D rfl (fun q D =>
        j_bp (pc := 52) D rfl fun D =>
        j_goto (pc := 54) D rfl <|
        fk_jump cut_705_59 rfl rfl) (fun q =>
        have D : fk_D 705 [(57, none, .bipush 19, 2, 0, 19, 0)] := fq_of2 cd_705 ow_705 cl_705 rfl (pc := 57) (by decide +kernel)
        j_bp (pc := 57) D rfl fun D =>
        fk_jump cut_705_59 rfl rfl)) (fun N =>
      j_tc 1 (t := 65) D N rfl (by decide +kernel) (fun q =>
        have D : fk_D 705 [(65, none, .aload_n 0, 1, 0, 0, 0), (66, none, .aload_n 0, 1, 0, 0, 0), (67, none, .getfield 80, 3, 424, 129, 12), (70, none, .iload_n 1, 1, 0, 0, 0), (71, none, .laload, 1, 0, 0, 0), (72, none, .invokevirtual 1276, 3, 1, 476, 0), (75, none, .goto 135, 3, 210, 0, 0)] := fq_of2 cd_705 ow_705 cl_705 rfl (pc := 65) (by decide +kernel)
        j_aldn (pc := 65) D rfl rfl rfl fun D =>
        j_aldn (pc := 66) D rfl rfl rfl fun D =>
        j_gfc (pc := 67) (a := 602) D rfl rfl (by decide) rfl (s0_602 H) rfl (sf_424_602 H) fun D =>
        j_ildn (pc := 70) D rfl rfl rfl fun D =>
        j_al (pc := 71) (a := 623) (e := 11) D rfl rfl rfl (by decide) (s0_623 H) (s1_623 H) ⟨rfl, rfl, rfl⟩ rfl (gy qb1) fun q D =>
        j_ivv (pc := 72) (m := 698) (dd := 476) (a := [(1, h 11 623 x1.toNat)]) (rest := []) D rfl rfl rfl rfl rfl (by decide) (s0_602 H) (by decide +kernel) (fun h2 e1 D =>
          have T := fj_run_ok _ _ _ _ _ _ H.1 e1
          have H := shp_st H T
          j_goto (pc := 75) D rfl <|
          have D : fk_D 705 [(210, none, .return_, 1, 0, 0, 0)] := fq_of2 cd_705 ow_705 cl_705 rfl (pc := 210) (by decide +kernel)
          j_vret D rt_705) (fun q4 h2 e1 =>
          j_tx (hx_705 _))) (fun N =>
        j_tc 2 (t := 78) D N rfl (by decide +kernel) (fun q =>
          have D : fk_D 705 [(78, none, .aload_n 0, 1, 0, 0, 0), (79, none, .aload_n 0, 1, 0, 0, 0), (80, none, .getfield 80, 3, 424, 129, 12), (83, none, .iload_n 1, 1, 0, 0, 0), (84, none, .laload, 1, 0, 0, 0), (85, none, .ldc2_w 555, 3, 1, 100, 0), (88, none, .ldiv, 1, 0, 0, 0), (89, none, .invokevirtual 1276, 3, 1, 476, 0), (92, none, .aload_n 0, 1, 0, 0, 0), (93, none, .bipush 46, 2, 0, 46, 0), (95, none, .invokevirtual 1274, 3, 1, 475, 0), (98, none, .aload_n 0, 1, 0, 0, 0), (99, none, .aload_n 0, 1, 0, 0, 0), (100, none, .getfield 80, 3, 424, 129, 12), (103, none, .iload_n 1, 1, 0, 0, 0), (104, none, .laload, 1, 0, 0, 0), (105, none, .ldc2_w 555, 3, 1, 100, 0), (108, none, .lrem, 1, 0, 0, 0), (109, none, .invokevirtual 1279, 3, 1, 477, 0), (112, none, .goto 98, 3, 210, 0, 0)] := fq_of2 cd_705 ow_705 cl_705 rfl (pc := 78) (by decide +kernel)
          j_aldn (pc := 78) D rfl rfl rfl fun D =>
          j_aldn (pc := 79) D rfl rfl rfl fun D =>
          j_gfc (pc := 80) (a := 602) D rfl rfl (by decide) rfl (s0_602 H) rfl (sf_424_602 H) fun D =>
          j_ildn (pc := 83) D rfl rfl rfl fun D =>
          j_al (pc := 84) (a := 623) (e := 11) D rfl rfl rfl (by decide) (s0_623 H) (s1_623 H) ⟨rfl, rfl, rfl⟩ rfl (gy qb1) fun q D =>
          j_ldc2 (pc := 85) D rfl fun D =>
          j_ldivk (pc := 88) D rfl (by decide) fun D =>
          j_ivv (pc := 89) (m := 698) (dd := 476) (a := [(1, lq_ (h 11 623 x1.toNat) 100)]) (rest := []) D rfl rfl rfl rfl rfl (by decide) (s0_602 H) (by decide +kernel) (fun h5 e1 D =>
            have T := fj_run_ok _ _ _ _ _ _ H.1 e1
            have H := shp_st H T
            j_aldn (pc := 92) D rfl rfl rfl fun D =>
            j_bp (pc := 93) D rfl fun D =>
            j_ivv (pc := 95) (m := 696) (dd := 475) (a := [(0, 46)]) (rest := []) D rfl rfl rfl rfl rfl (by decide) (s0_602 H) (by decide +kernel) (fun h8 e1 D =>
              have T := fj_run_ok _ _ _ _ _ _ H.1 e1
              have H := shp_st H T
              j_aldn (pc := 98) D rfl rfl rfl fun D =>
              j_aldn (pc := 99) D rfl rfl rfl fun D =>
              j_gfc (pc := 100) (a := 602) D rfl rfl (by decide) rfl (s0_602 H) rfl (sf_424_602 H) fun D =>
              j_ildn (pc := 103) D rfl rfl rfl fun D =>
              j_al (pc := 104) (a := 623) (e := 11) D rfl rfl rfl (by decide) (s0_623 H) (s1_623 H) ⟨rfl, rfl, rfl⟩ rfl (gy qb1) fun q D =>
              j_ldc2 (pc := 105) D rfl fun D =>
              j_lremk (pc := 108) D rfl (by decide) fun D =>
              j_ivv (pc := 109) (m := 703) (dd := 477) (a := [(1, lr_ (h8 11 623 x1.toNat) 100)]) (rest := []) D rfl rfl rfl rfl rfl (by decide) (s0_602 H) (by decide +kernel) (fun h11 e1 D =>
                have T := fj_run_ok _ _ _ _ _ _ H.1 e1
                have H := shp_st H T
                j_goto (pc := 112) D rfl <|
                have D : fk_D 705 [(210, none, .return_, 1, 0, 0, 0)] := fq_of2 cd_705 ow_705 cl_705 rfl (pc := 210) (by decide +kernel)
                j_vret D rt_705) (fun q13 h11 e1 =>
                j_tx (hx_705 _))) (fun q10 h8 e1 =>
              j_tx (hx_705 _))) (fun q7 h5 e1 =>
            j_tx (hx_705 _))) (fun N =>
          j_tc 3 (t := 115) D N rfl (by decide +kernel) (fun q =>
            have D : fk_D 705 [(115, none, .aload_n 0, 1, 0, 0, 0), (116, none, .bipush (-2), 2, 0, (-2), 0), (118, none, .aload_n 0, 1, 0, 0, 0), (119, none, .getfield 68, 3, 420, 129, 12), (122, none, .iload_n 1, 1, 0, 0, 0), (123, none, .iaload, 1, 0, 0, 0), (124, none, .isub, 1, 0, 0, 0), (125, none, .i2l, 1, 0, 0, 0), (126, none, .invokevirtual 1276, 3, 1, 476, 0)] := fq_of2 cd_705 ow_705 cl_705 rfl (pc := 115) (by decide +kernel)
            j_aldn (pc := 115) D rfl rfl rfl fun D =>
            j_bp (pc := 116) D rfl fun D =>
            j_aldn (pc := 118) D rfl rfl rfl fun D =>
            j_gfc (pc := 119) (a := 602) D rfl rfl (by decide) rfl (s0_602 H) rfl (sf_420_602 H) fun D =>
            j_ildn (pc := 122) D rfl rfl rfl fun D =>
            j_al (pc := 123) (a := 619) (e := 10) D rfl rfl rfl (by decide) (s0_619 H) (s1_619 H) ⟨rfl, rfl, rfl⟩ rfl (gy qb1) fun q D =>
            j_isub (pc := 124) D rfl fun D =>
            j_i2l (pc := 125) D rfl fun D =>
            j_ivv (pc := 126) (m := 698) (dd := 476) (a := [(1, wI (wI ((-2) - (h 10 619 x1.toNat))))]) (rest := []) D rfl rfl rfl rfl rfl (by decide) (s0_602 H) (by decide +kernel) (fun h14 e1 D =>
              have T := fj_run_ok _ _ _ _ _ _ H.1 e1
              have H := shp_st H T
              fk_jump cut_705_129 rfl rfl) (fun q16 h14 e1 =>
              j_tx (hx_705 _))) (fun N =>
            j_tc 4 (t := 138) D N rfl (by decide +kernel) (fun q =>
              have D : fk_D 705 [(138, none, .aload_n 0, 1, 0, 0, 0), (139, none, .aload_n 0, 1, 0, 0, 0), (140, none, .getfield 80, 3, 424, 129, 12), (143, none, .iload_n 1, 1, 0, 0, 0), (144, none, .laload, 1, 0, 0, 0), (145, none, .l2i, 1, 0, 0, 0), (146, none, .invokevirtual 1285, 3, 1, 479, 0), (149, none, .goto 61, 3, 210, 0, 0)] := fq_of2 cd_705 ow_705 cl_705 rfl (pc := 138) (by decide +kernel)
              j_aldn (pc := 138) D rfl rfl rfl fun D =>
              j_aldn (pc := 139) D rfl rfl rfl fun D =>
              j_gfc (pc := 140) (a := 602) D rfl rfl (by decide) rfl (s0_602 H) rfl (sf_424_602 H) fun D =>
              j_ildn (pc := 143) D rfl rfl rfl fun D =>
              j_al (pc := 144) (a := 623) (e := 11) D rfl rfl rfl (by decide) (s0_623 H) (s1_623 H) ⟨rfl, rfl, rfl⟩ rfl (gy qb1) fun q D =>
              j_l2i (pc := 145) D rfl fun D =>
              j_ivv (pc := 146) (m := 706) (dd := 479) (a := [(0, wI (h 11 623 x1.toNat))]) (rest := []) D rfl rfl rfl rfl rfl (by decide) (s0_602 H) (by decide +kernel) (fun h17 e1 D =>
                have T := fj_run_ok _ _ _ _ _ _ H.1 e1
                have H := shp_st H T
                j_goto (pc := 149) D rfl <|
                have D : fk_D 705 [(210, none, .return_, 1, 0, 0, 0)] := fq_of2 cd_705 ow_705 cl_705 rfl (pc := 210) (by decide +kernel)
                j_vret D rt_705) (fun q19 h17 e1 =>
                j_tx (hx_705 _))) (fun N =>
              j_td (t := 152) D N rfl (by decide +kernel) (by decide +kernel) <|
              have D : fk_D 705 [(152, none, .aload_n 0, 1, 0, 0, 0), (153, none, .aload_n 0, 1, 0, 0, 0), (154, none, .getfield 80, 3, 424, 129, 12), (157, none, .iload_n 1, 1, 0, 0, 0), (158, none, .laload, 1, 0, 0, 0), (159, none, .lconst 0, 1, 0, 0, 0), (160, none, .lcmp, 1, 0, 0, 0), (161, none, .ifCond .eq 12, 3, 173, 0, 0), (164, none, .aload_n 0, 1, 0, 0, 0), (165, none, .getfield 80, 3, 424, 129, 12), (168, none, .iload_n 1, 1, 0, 0, 0), (169, none, .laload, 1, 0, 0, 0), (170, none, .goto 9, 3, 179, 0, 0)] := fq_of2 cd_705 ow_705 cl_705 rfl (pc := 152) (by decide +kernel)
              j_aldn (pc := 152) D rfl rfl rfl fun D =>
              j_aldn (pc := 153) D rfl rfl rfl fun D =>
              j_gfc (pc := 154) (a := 602) D rfl rfl (by decide) rfl (s0_602 H) rfl (sf_424_602 H) fun D =>
              j_ildn (pc := 157) D rfl rfl rfl fun D =>
              j_al (pc := 158) (a := 623) (e := 11) D rfl rfl rfl (by decide) (s0_623 H) (s1_623 H) ⟨rfl, rfl, rfl⟩ rfl (gy qb1) fun q D =>
              j_c0 (pc := 159) (v := (1, 0)) D rfl rfl (by decide +kernel) fun D =>
              j_lcmp (pc := 160) D rfl fun D =>
              j_ifeq (pc := 161) D rfl (fun q =>
                have D : fk_D 705 [(173, none, .aload_n 0, 1, 0, 0, 0), (174, none, .getfield 83, 3, 425, 129, 12), (177, none, .iload_n 1, 1, 0, 0, 0), (178, none, .laload, 1, 0, 0, 0)] := fq_of2 cd_705 ow_705 cl_705 rfl (pc := 173) (by decide +kernel)
                j_aldn (pc := 173) D rfl rfl rfl fun D =>
                j_gfc (pc := 174) (a := 602) D rfl rfl (by decide) rfl (s0_602 H) rfl (sf_425_602 H) fun D =>
                j_ildn (pc := 177) D rfl rfl rfl fun D =>
                j_al (pc := 178) (a := 624) (e := 11) D rfl rfl rfl (by decide) (s0_624 H) (s1_624 H) ⟨rfl, rfl, rfl⟩ rfl (gy qb1) fun q D =>
                fk_jump cut_705_179 rfl rfl) (fun q D =>
                j_aldn (pc := 164) D rfl rfl rfl fun D =>
                j_gfc (pc := 165) (a := 602) D rfl rfl (by decide) rfl (s0_602 H) rfl (sf_424_602 H) fun D =>
                j_ildn (pc := 168) D rfl rfl rfl fun D =>
                j_al (pc := 169) (a := 623) (e := 11) D rfl rfl rfl (by decide) (s0_623 H) (s1_623 H) ⟨rfl, rfl, rfl⟩ rfl (gy qb1) fun q D =>
                j_goto (pc := 170) D rfl <|
                fk_jump cut_705_179 rfl rfl))))))
/-! 706 StatuteHouseModel.putDate(I)V -/
theorem cd_706 : fi_code 706 = prog_69_method_217_code := rfl
theorem hx_706 : ∀ pc, fi_hat 706 pc = none := fun pc => by unfold fi_hat; rw [show fi_hh 706 = [] from rfl]; rfl
theorem rt_706 : fi_ret 706 = none := rfl
theorem nl_706 : fi_nl 706 = 2 := rfl
theorem ow_706 : fi_ow 706 = 29 := rfl
theorem cl_706 : fj_cutT.getD 706 [] = [(59, [])] := rfl
theorem cut_706_59 : fj_cut 706 59 = some [] := by decide +kernel
noncomputable def c_706_59 (d : Nat) (h : fi_H) : fk_R := gG (fj_run d) 706 59 [] [] h
theorem e_706_59 (d : Nat) {h : fi_H} (H : Shp h) : c_706_59 d h =
  some (.inl none, h) := by
  unfold c_706_59
  exact
    have D : fk_D 706 [(59, some [], .return_, 1, 0, 0, 0)] := fq_of2 cd_706 ow_706 cl_706 rfl (pc := 59) (by decide +kernel)
    j_vret D rt_706
theorem m_706 (d : Nat) (x1 : Int) {h : fi_H} (H : Shp h) : fj_run (d + 1) 706 h [(4, 602), (0, x1)] =
  cv_ (fj_run d 593 h [(4, 602), (0, x1)])
    (fun h1 =>
    cv_ (fj_run d 703 h1 [(4, 602), (1, wI (iq_ (h1 384 602 0) 100))])
      (fun h4 =>
      cv_ (fj_run d 703 h4 [(4, 602), (1, wI (ir_ (h4 384 602 0) 100))])
        (fun h7 =>
        cv_ (fj_run d 696 h7 [(4, 602), (0, 45)])
          (fun h10 =>
          cv_ (fj_run d 703 h10 [(4, 602), (1, wI (h10 385 602 0))])
            (fun h13 =>
            cv_ (fj_run d 696 h13 [(4, 602), (0, 45)])
              (fun h16 =>
              cv_ (fj_run d 703 h16 [(4, 602), (1, wI (h16 386 602 0))])
                (fun h19 =>
                c_706_59 d h19)
                (fun q21 h19 => tx_ q21 h19))
              (fun q18 h16 => tx_ q18 h16))
            (fun q15 h13 => tx_ q15 h13))
          (fun q12 h10 => tx_ q12 h10))
        (fun q9 h7 => tx_ q9 h7))
      (fun q6 h4 => tx_ q6 h4))
    (fun q3 h1 => tx_ q3 h1) := by
  rw [fj_run_eq d (by decide) h [(4, 602), (0, x1)] (Nat.le_of_ble_eq_true (by rw [nl_706]; rfl))]
  show gG (fj_run d) 706 0 [(0, (4, 602)), (1, (0, x1))] [] h = _
  exact
    have D : fk_D 706 [(0, none, .aload_n 0, 1, 0, 0, 0), (1, none, .iload_n 1, 1, 0, 0, 0), (2, none, .invokevirtual 438, 3, 1, 335, 0), (5, none, .aload_n 0, 1, 0, 0, 0), (6, none, .aload_n 0, 1, 0, 0, 0), (7, none, .getfield 423, 3, 384, 129, 10), (10, none, .bipush 100, 2, 0, 100, 0), (12, none, .idiv, 1, 0, 0, 0), (13, none, .i2l, 1, 0, 0, 0), (14, none, .invokevirtual 1279, 3, 1, 477, 0), (17, none, .aload_n 0, 1, 0, 0, 0), (18, none, .aload_n 0, 1, 0, 0, 0), (19, none, .getfield 423, 3, 384, 129, 10), (22, none, .bipush 100, 2, 0, 100, 0), (24, none, .irem, 1, 0, 0, 0), (25, none, .i2l, 1, 0, 0, 0), (26, none, .invokevirtual 1279, 3, 1, 477, 0), (29, none, .aload_n 0, 1, 0, 0, 0), (30, none, .bipush 45, 2, 0, 45, 0), (32, none, .invokevirtual 1274, 3, 1, 475, 0)] := fq_of2 cd_706 ow_706 cl_706 rfl (pc := 0) (by decide +kernel)
    j_aldn (pc := 0) D rfl rfl rfl fun D =>
    j_ildn (pc := 1) D rfl rfl rfl fun D =>
    j_ivv (pc := 2) (m := 593) (dd := 335) (a := [(0, x1)]) (rest := []) D rfl rfl rfl rfl rfl (by decide) (s0_602 H) (by decide +kernel) (fun h1 e1 D =>
      have T := fj_run_ok _ _ _ _ _ _ H.1 e1
      have H := shp_st H T
      j_aldn (pc := 5) D rfl rfl rfl fun D =>
      j_aldn (pc := 6) D rfl rfl rfl fun D =>
      j_gf (pc := 7) (a := 602) D rfl rfl (by decide) rfl (s0_602 H) rfl fun D =>
      j_bp (pc := 10) D rfl fun D =>
      j_idivk (pc := 12) D rfl (by decide) fun D =>
      j_i2l (pc := 13) D rfl fun D =>
      j_ivv (pc := 14) (m := 703) (dd := 477) (a := [(1, wI (iq_ (h1 384 602 0) 100))]) (rest := []) D rfl rfl rfl rfl rfl (by decide) (s0_602 H) (by decide +kernel) (fun h4 e1 D =>
        have T := fj_run_ok _ _ _ _ _ _ H.1 e1
        have H := shp_st H T
        j_aldn (pc := 17) D rfl rfl rfl fun D =>
        j_aldn (pc := 18) D rfl rfl rfl fun D =>
        j_gf (pc := 19) (a := 602) D rfl rfl (by decide) rfl (s0_602 H) rfl fun D =>
        j_bp (pc := 22) D rfl fun D =>
        j_iremk (pc := 24) D rfl (by decide) fun D =>
        j_i2l (pc := 25) D rfl fun D =>
        j_ivv (pc := 26) (m := 703) (dd := 477) (a := [(1, wI (ir_ (h4 384 602 0) 100))]) (rest := []) D rfl rfl rfl rfl rfl (by decide) (s0_602 H) (by decide +kernel) (fun h7 e1 D =>
          have T := fj_run_ok _ _ _ _ _ _ H.1 e1
          have H := shp_st H T
          j_aldn (pc := 29) D rfl rfl rfl fun D =>
          j_bp (pc := 30) D rfl fun D =>
          j_ivv (pc := 32) (m := 696) (dd := 475) (a := [(0, 45)]) (rest := []) D rfl rfl rfl rfl rfl (by decide) (s0_602 H) (by decide +kernel) (fun h10 e1 D =>
            have T := fj_run_ok _ _ _ _ _ _ H.1 e1
            have H := shp_st H T
            have D : fk_D 706 [(35, none, .aload_n 0, 1, 0, 0, 0), (36, none, .aload_n 0, 1, 0, 0, 0), (37, none, .getfield 426, 3, 385, 129, 10), (40, none, .i2l, 1, 0, 0, 0), (41, none, .invokevirtual 1279, 3, 1, 477, 0), (44, none, .aload_n 0, 1, 0, 0, 0), (45, none, .bipush 45, 2, 0, 45, 0), (47, none, .invokevirtual 1274, 3, 1, 475, 0), (50, none, .aload_n 0, 1, 0, 0, 0), (51, none, .aload_n 0, 1, 0, 0, 0), (52, none, .getfield 429, 3, 386, 129, 10), (55, none, .i2l, 1, 0, 0, 0), (56, none, .invokevirtual 1279, 3, 1, 477, 0)] := fq_of2 cd_706 ow_706 cl_706 rfl (pc := 35) (by decide +kernel)
            j_aldn (pc := 35) D rfl rfl rfl fun D =>
            j_aldn (pc := 36) D rfl rfl rfl fun D =>
            j_gf (pc := 37) (a := 602) D rfl rfl (by decide) rfl (s0_602 H) rfl fun D =>
            j_i2l (pc := 40) D rfl fun D =>
            j_ivv (pc := 41) (m := 703) (dd := 477) (a := [(1, wI (h10 385 602 0))]) (rest := []) D rfl rfl rfl rfl rfl (by decide) (s0_602 H) (by decide +kernel) (fun h13 e1 D =>
              have T := fj_run_ok _ _ _ _ _ _ H.1 e1
              have H := shp_st H T
              j_aldn (pc := 44) D rfl rfl rfl fun D =>
              j_bp (pc := 45) D rfl fun D =>
              j_ivv (pc := 47) (m := 696) (dd := 475) (a := [(0, 45)]) (rest := []) D rfl rfl rfl rfl rfl (by decide) (s0_602 H) (by decide +kernel) (fun h16 e1 D =>
                have T := fj_run_ok _ _ _ _ _ _ H.1 e1
                have H := shp_st H T
                j_aldn (pc := 50) D rfl rfl rfl fun D =>
                j_aldn (pc := 51) D rfl rfl rfl fun D =>
                j_gf (pc := 52) (a := 602) D rfl rfl (by decide) rfl (s0_602 H) rfl fun D =>
                j_i2l (pc := 55) D rfl fun D =>
                j_ivv (pc := 56) (m := 703) (dd := 477) (a := [(1, wI (h16 386 602 0))]) (rest := []) D rfl rfl rfl rfl rfl (by decide) (s0_602 H) (by decide +kernel) (fun h19 e1 D =>
                  have T := fj_run_ok _ _ _ _ _ _ H.1 e1
                  have H := shp_st H T
                  fk_jump cut_706_59 rfl rfl) (fun q21 h19 e1 =>
                  j_tx (hx_706 _))) (fun q18 h16 e1 =>
                j_tx (hx_706 _))) (fun q15 h13 e1 =>
              j_tx (hx_706 _))) (fun q12 h10 e1 =>
            j_tx (hx_706 _))) (fun q9 h7 e1 =>
          j_tx (hx_706 _))) (fun q6 h4 e1 =>
        j_tx (hx_706 _))) (fun q3 h1 e1 =>
      j_tx (hx_706 _))
/-! 707 StatuteHouseModel.putSign(I)V -/
theorem cd_707 : fi_code 707 = prog_69_method_219_code := rfl
theorem hx_707 : ∀ pc, fi_hat 707 pc = none := fun pc => by unfold fi_hat; rw [show fi_hh 707 = [] from rfl]; rfl
theorem rt_707 : fi_ret 707 = none := rfl
theorem nl_707 : fi_nl 707 = 2 := rfl
theorem ow_707 : fi_ow 707 = 29 := rfl
theorem cl_707 : fj_cutT.getD 707 [] = [(80, [0]), (89, [0]), (98, [0]), (107, [0]), (116, [0]), (125, [0]), (140, [0]), (149, [0]), (164, [0]), (173, [0]), (182, [0]), (191, [0]), (200, [0]), (209, [0]), (218, [0])] := rfl
theorem cut_707_80 : fj_cut 707 80 = some [0] := by decide +kernel
noncomputable def c_707_80 (d : Nat) (h : fi_H) : fk_R := gG (fj_run d) 707 80 [(0, (4, 602))] [] h
theorem cut_707_89 : fj_cut 707 89 = some [0] := by decide +kernel
noncomputable def c_707_89 (d : Nat) (h : fi_H) : fk_R := gG (fj_run d) 707 89 [(0, (4, 602))] [] h
theorem cut_707_98 : fj_cut 707 98 = some [0] := by decide +kernel
noncomputable def c_707_98 (d : Nat) (h : fi_H) : fk_R := gG (fj_run d) 707 98 [(0, (4, 602))] [] h
theorem cut_707_107 : fj_cut 707 107 = some [0] := by decide +kernel
noncomputable def c_707_107 (d : Nat) (h : fi_H) : fk_R := gG (fj_run d) 707 107 [(0, (4, 602))] [] h
theorem cut_707_116 : fj_cut 707 116 = some [0] := by decide +kernel
noncomputable def c_707_116 (d : Nat) (h : fi_H) : fk_R := gG (fj_run d) 707 116 [(0, (4, 602))] [] h
theorem cut_707_125 : fj_cut 707 125 = some [0] := by decide +kernel
noncomputable def c_707_125 (d : Nat) (h : fi_H) : fk_R := gG (fj_run d) 707 125 [(0, (4, 602))] [] h
theorem cut_707_140 : fj_cut 707 140 = some [0] := by decide +kernel
noncomputable def c_707_140 (d : Nat) (h : fi_H) : fk_R := gG (fj_run d) 707 140 [(0, (4, 602))] [] h
theorem cut_707_149 : fj_cut 707 149 = some [0] := by decide +kernel
noncomputable def c_707_149 (d : Nat) (h : fi_H) : fk_R := gG (fj_run d) 707 149 [(0, (4, 602))] [] h
theorem cut_707_164 : fj_cut 707 164 = some [0] := by decide +kernel
noncomputable def c_707_164 (d : Nat) (h : fi_H) : fk_R := gG (fj_run d) 707 164 [(0, (4, 602))] [] h
theorem cut_707_173 : fj_cut 707 173 = some [0] := by decide +kernel
noncomputable def c_707_173 (d : Nat) (h : fi_H) : fk_R := gG (fj_run d) 707 173 [(0, (4, 602))] [] h
theorem cut_707_182 : fj_cut 707 182 = some [0] := by decide +kernel
noncomputable def c_707_182 (d : Nat) (h : fi_H) : fk_R := gG (fj_run d) 707 182 [(0, (4, 602))] [] h
theorem cut_707_191 : fj_cut 707 191 = some [0] := by decide +kernel
noncomputable def c_707_191 (d : Nat) (h : fi_H) : fk_R := gG (fj_run d) 707 191 [(0, (4, 602))] [] h
theorem cut_707_200 : fj_cut 707 200 = some [0] := by decide +kernel
noncomputable def c_707_200 (d : Nat) (h : fi_H) : fk_R := gG (fj_run d) 707 200 [(0, (4, 602))] [] h
theorem cut_707_209 : fj_cut 707 209 = some [0] := by decide +kernel
noncomputable def c_707_209 (d : Nat) (h : fi_H) : fk_R := gG (fj_run d) 707 209 [(0, (4, 602))] [] h
theorem cut_707_218 : fj_cut 707 218 = some [0] := by decide +kernel
noncomputable def c_707_218 (d : Nat) (h : fi_H) : fk_R := gG (fj_run d) 707 218 [(0, (4, 602))] [] h
theorem e_707_80 (d : Nat) {h : fi_H} (H : Shp h) : c_707_80 d h =
  cv_ (fj_run d 695 h [(4, 602), (0, 25)])
    (fun h1 =>
    some (.inl none, h1))
    (fun q3 h1 => tx_ q3 h1) := by
  unfold c_707_80
  exact
    have D : fk_D 707 [(80, some [0], .aload_n 0, 1, 0, 0, 0), (81, none, .bipush 25, 2, 0, 25, 0), (83, none, .invokevirtual 1282, 3, 1, 478, 0), (86, none, .goto 138, 3, 224, 0, 0)] := fq_of2 cd_707 ow_707 cl_707 rfl (pc := 80) (by decide +kernel)
    j_aldn (pc := 80) D rfl rfl rfl fun D =>
    j_bp (pc := 81) D rfl fun D =>
    j_ivv (pc := 83) (m := 695) (dd := 478) (a := [(0, 25)]) (rest := []) D rfl rfl rfl rfl rfl (by decide) (s0_602 H) (by decide +kernel) (fun h1 e1 D =>
      have T := fj_run_ok _ _ _ _ _ _ H.1 e1
      have H := shp_st H T
      j_goto (pc := 86) D rfl <|
      have D : fk_D 707 [(224, none, .return_, 1, 0, 0, 0)] := fq_of2 cd_707 ow_707 cl_707 rfl (pc := 224) (by decide +kernel)
      j_vret D rt_707) (fun q3 h1 e1 =>
      j_tx (hx_707 _))
theorem e_707_89 (d : Nat) {h : fi_H} (H : Shp h) : c_707_89 d h =
  cv_ (fj_run d 695 h [(4, 602), (0, 26)])
    (fun h1 =>
    some (.inl none, h1))
    (fun q3 h1 => tx_ q3 h1) := by
  unfold c_707_89
  exact
    have D : fk_D 707 [(89, some [0], .aload_n 0, 1, 0, 0, 0), (90, none, .bipush 26, 2, 0, 26, 0), (92, none, .invokevirtual 1282, 3, 1, 478, 0), (95, none, .goto 129, 3, 224, 0, 0)] := fq_of2 cd_707 ow_707 cl_707 rfl (pc := 89) (by decide +kernel)
    j_aldn (pc := 89) D rfl rfl rfl fun D =>
    j_bp (pc := 90) D rfl fun D =>
    j_ivv (pc := 92) (m := 695) (dd := 478) (a := [(0, 26)]) (rest := []) D rfl rfl rfl rfl rfl (by decide) (s0_602 H) (by decide +kernel) (fun h1 e1 D =>
      have T := fj_run_ok _ _ _ _ _ _ H.1 e1
      have H := shp_st H T
      j_goto (pc := 95) D rfl <|
      have D : fk_D 707 [(224, none, .return_, 1, 0, 0, 0)] := fq_of2 cd_707 ow_707 cl_707 rfl (pc := 224) (by decide +kernel)
      j_vret D rt_707) (fun q3 h1 e1 =>
      j_tx (hx_707 _))
theorem e_707_98 (d : Nat) {h : fi_H} (H : Shp h) : c_707_98 d h =
  cv_ (fj_run d 696 h [(4, 602), (0, 61)])
    (fun h1 =>
    some (.inl none, h1))
    (fun q3 h1 => tx_ q3 h1) := by
  unfold c_707_98
  exact
    have D : fk_D 707 [(98, some [0], .aload_n 0, 1, 0, 0, 0), (99, none, .bipush 61, 2, 0, 61, 0), (101, none, .invokevirtual 1274, 3, 1, 475, 0), (104, none, .goto 120, 3, 224, 0, 0)] := fq_of2 cd_707 ow_707 cl_707 rfl (pc := 98) (by decide +kernel)
    j_aldn (pc := 98) D rfl rfl rfl fun D =>
    j_bp (pc := 99) D rfl fun D =>
    j_ivv (pc := 101) (m := 696) (dd := 475) (a := [(0, 61)]) (rest := []) D rfl rfl rfl rfl rfl (by decide) (s0_602 H) (by decide +kernel) (fun h1 e1 D =>
      have T := fj_run_ok _ _ _ _ _ _ H.1 e1
      have H := shp_st H T
      j_goto (pc := 104) D rfl <|
      have D : fk_D 707 [(224, none, .return_, 1, 0, 0, 0)] := fq_of2 cd_707 ow_707 cl_707 rfl (pc := 224) (by decide +kernel)
      j_vret D rt_707) (fun q3 h1 e1 =>
      j_tx (hx_707 _))
theorem e_707_107 (d : Nat) {h : fi_H} (H : Shp h) : c_707_107 d h =
  cv_ (fj_run d 696 h [(4, 602), (0, 35)])
    (fun h1 =>
    some (.inl none, h1))
    (fun q3 h1 => tx_ q3 h1) := by
  unfold c_707_107
  exact
    have D : fk_D 707 [(107, some [0], .aload_n 0, 1, 0, 0, 0), (108, none, .bipush 35, 2, 0, 35, 0), (110, none, .invokevirtual 1274, 3, 1, 475, 0), (113, none, .goto 111, 3, 224, 0, 0)] := fq_of2 cd_707 ow_707 cl_707 rfl (pc := 107) (by decide +kernel)
    j_aldn (pc := 107) D rfl rfl rfl fun D =>
    j_bp (pc := 108) D rfl fun D =>
    j_ivv (pc := 110) (m := 696) (dd := 475) (a := [(0, 35)]) (rest := []) D rfl rfl rfl rfl rfl (by decide) (s0_602 H) (by decide +kernel) (fun h1 e1 D =>
      have T := fj_run_ok _ _ _ _ _ _ H.1 e1
      have H := shp_st H T
      j_goto (pc := 113) D rfl <|
      have D : fk_D 707 [(224, none, .return_, 1, 0, 0, 0)] := fq_of2 cd_707 ow_707 cl_707 rfl (pc := 224) (by decide +kernel)
      j_vret D rt_707) (fun q3 h1 e1 =>
      j_tx (hx_707 _))
theorem e_707_116 (d : Nat) {h : fi_H} (H : Shp h) : c_707_116 d h =
  cv_ (fj_run d 696 h [(4, 602), (0, 60)])
    (fun h1 =>
    some (.inl none, h1))
    (fun q3 h1 => tx_ q3 h1) := by
  unfold c_707_116
  exact
    have D : fk_D 707 [(116, some [0], .aload_n 0, 1, 0, 0, 0), (117, none, .bipush 60, 2, 0, 60, 0), (119, none, .invokevirtual 1274, 3, 1, 475, 0), (122, none, .goto 102, 3, 224, 0, 0)] := fq_of2 cd_707 ow_707 cl_707 rfl (pc := 116) (by decide +kernel)
    j_aldn (pc := 116) D rfl rfl rfl fun D =>
    j_bp (pc := 117) D rfl fun D =>
    j_ivv (pc := 119) (m := 696) (dd := 475) (a := [(0, 60)]) (rest := []) D rfl rfl rfl rfl rfl (by decide) (s0_602 H) (by decide +kernel) (fun h1 e1 D =>
      have T := fj_run_ok _ _ _ _ _ _ H.1 e1
      have H := shp_st H T
      j_goto (pc := 122) D rfl <|
      have D : fk_D 707 [(224, none, .return_, 1, 0, 0, 0)] := fq_of2 cd_707 ow_707 cl_707 rfl (pc := 224) (by decide +kernel)
      j_vret D rt_707) (fun q3 h1 e1 =>
      j_tx (hx_707 _))
theorem e_707_125 (d : Nat) {h : fi_H} (H : Shp h) : c_707_125 d h =
  cv_ (fj_run d 696 h [(4, 602), (0, 60)])
    (fun h1 =>
    cv_ (fj_run d 696 h1 [(4, 602), (0, 61)])
      (fun h4 =>
      some (.inl none, h4))
      (fun q6 h4 => tx_ q6 h4))
    (fun q3 h1 => tx_ q3 h1) := by
  unfold c_707_125
  exact
    have D : fk_D 707 [(125, some [0], .aload_n 0, 1, 0, 0, 0), (126, none, .bipush 60, 2, 0, 60, 0), (128, none, .invokevirtual 1274, 3, 1, 475, 0), (131, none, .aload_n 0, 1, 0, 0, 0), (132, none, .bipush 61, 2, 0, 61, 0), (134, none, .invokevirtual 1274, 3, 1, 475, 0), (137, none, .goto 87, 3, 224, 0, 0)] := fq_of2 cd_707 ow_707 cl_707 rfl (pc := 125) (by decide +kernel)
    j_aldn (pc := 125) D rfl rfl rfl fun D =>
    j_bp (pc := 126) D rfl fun D =>
    j_ivv (pc := 128) (m := 696) (dd := 475) (a := [(0, 60)]) (rest := []) D rfl rfl rfl rfl rfl (by decide) (s0_602 H) (by decide +kernel) (fun h1 e1 D =>
      have T := fj_run_ok _ _ _ _ _ _ H.1 e1
      have H := shp_st H T
      j_aldn (pc := 131) D rfl rfl rfl fun D =>
      j_bp (pc := 132) D rfl fun D =>
      j_ivv (pc := 134) (m := 696) (dd := 475) (a := [(0, 61)]) (rest := []) D rfl rfl rfl rfl rfl (by decide) (s0_602 H) (by decide +kernel) (fun h4 e1 D =>
        have T := fj_run_ok _ _ _ _ _ _ H.1 e1
        have H := shp_st H T
        j_goto (pc := 137) D rfl <|
        have D : fk_D 707 [(224, none, .return_, 1, 0, 0, 0)] := fq_of2 cd_707 ow_707 cl_707 rfl (pc := 224) (by decide +kernel)
        j_vret D rt_707) (fun q6 h4 e1 =>
        j_tx (hx_707 _))) (fun q3 h1 e1 =>
      j_tx (hx_707 _))
theorem e_707_140 (d : Nat) {h : fi_H} (H : Shp h) : c_707_140 d h =
  cv_ (fj_run d 696 h [(4, 602), (0, 62)])
    (fun h1 =>
    some (.inl none, h1))
    (fun q3 h1 => tx_ q3 h1) := by
  unfold c_707_140
  exact
    have D : fk_D 707 [(140, some [0], .aload_n 0, 1, 0, 0, 0), (141, none, .bipush 62, 2, 0, 62, 0), (143, none, .invokevirtual 1274, 3, 1, 475, 0), (146, none, .goto 78, 3, 224, 0, 0)] := fq_of2 cd_707 ow_707 cl_707 rfl (pc := 140) (by decide +kernel)
    j_aldn (pc := 140) D rfl rfl rfl fun D =>
    j_bp (pc := 141) D rfl fun D =>
    j_ivv (pc := 143) (m := 696) (dd := 475) (a := [(0, 62)]) (rest := []) D rfl rfl rfl rfl rfl (by decide) (s0_602 H) (by decide +kernel) (fun h1 e1 D =>
      have T := fj_run_ok _ _ _ _ _ _ H.1 e1
      have H := shp_st H T
      j_goto (pc := 146) D rfl <|
      have D : fk_D 707 [(224, none, .return_, 1, 0, 0, 0)] := fq_of2 cd_707 ow_707 cl_707 rfl (pc := 224) (by decide +kernel)
      j_vret D rt_707) (fun q3 h1 e1 =>
      j_tx (hx_707 _))
theorem e_707_149 (d : Nat) {h : fi_H} (H : Shp h) : c_707_149 d h =
  cv_ (fj_run d 696 h [(4, 602), (0, 62)])
    (fun h1 =>
    cv_ (fj_run d 696 h1 [(4, 602), (0, 61)])
      (fun h4 =>
      some (.inl none, h4))
      (fun q6 h4 => tx_ q6 h4))
    (fun q3 h1 => tx_ q3 h1) := by
  unfold c_707_149
  exact
    have D : fk_D 707 [(149, some [0], .aload_n 0, 1, 0, 0, 0), (150, none, .bipush 62, 2, 0, 62, 0), (152, none, .invokevirtual 1274, 3, 1, 475, 0), (155, none, .aload_n 0, 1, 0, 0, 0), (156, none, .bipush 61, 2, 0, 61, 0), (158, none, .invokevirtual 1274, 3, 1, 475, 0), (161, none, .goto 63, 3, 224, 0, 0)] := fq_of2 cd_707 ow_707 cl_707 rfl (pc := 149) (by decide +kernel)
    j_aldn (pc := 149) D rfl rfl rfl fun D =>
    j_bp (pc := 150) D rfl fun D =>
    j_ivv (pc := 152) (m := 696) (dd := 475) (a := [(0, 62)]) (rest := []) D rfl rfl rfl rfl rfl (by decide) (s0_602 H) (by decide +kernel) (fun h1 e1 D =>
      have T := fj_run_ok _ _ _ _ _ _ H.1 e1
      have H := shp_st H T
      j_aldn (pc := 155) D rfl rfl rfl fun D =>
      j_bp (pc := 156) D rfl fun D =>
      j_ivv (pc := 158) (m := 696) (dd := 475) (a := [(0, 61)]) (rest := []) D rfl rfl rfl rfl rfl (by decide) (s0_602 H) (by decide +kernel) (fun h4 e1 D =>
        have T := fj_run_ok _ _ _ _ _ _ H.1 e1
        have H := shp_st H T
        j_goto (pc := 161) D rfl <|
        have D : fk_D 707 [(224, none, .return_, 1, 0, 0, 0)] := fq_of2 cd_707 ow_707 cl_707 rfl (pc := 224) (by decide +kernel)
        j_vret D rt_707) (fun q6 h4 e1 =>
        j_tx (hx_707 _))) (fun q3 h1 e1 =>
      j_tx (hx_707 _))
theorem e_707_164 (d : Nat) {h : fi_H} (H : Shp h) : c_707_164 d h =
  cv_ (fj_run d 696 h [(4, 602), (0, 43)])
    (fun h1 =>
    some (.inl none, h1))
    (fun q3 h1 => tx_ q3 h1) := by
  unfold c_707_164
  exact
    have D : fk_D 707 [(164, some [0], .aload_n 0, 1, 0, 0, 0), (165, none, .bipush 43, 2, 0, 43, 0), (167, none, .invokevirtual 1274, 3, 1, 475, 0), (170, none, .goto 54, 3, 224, 0, 0)] := fq_of2 cd_707 ow_707 cl_707 rfl (pc := 164) (by decide +kernel)
    j_aldn (pc := 164) D rfl rfl rfl fun D =>
    j_bp (pc := 165) D rfl fun D =>
    j_ivv (pc := 167) (m := 696) (dd := 475) (a := [(0, 43)]) (rest := []) D rfl rfl rfl rfl rfl (by decide) (s0_602 H) (by decide +kernel) (fun h1 e1 D =>
      have T := fj_run_ok _ _ _ _ _ _ H.1 e1
      have H := shp_st H T
      j_goto (pc := 170) D rfl <|
      have D : fk_D 707 [(224, none, .return_, 1, 0, 0, 0)] := fq_of2 cd_707 ow_707 cl_707 rfl (pc := 224) (by decide +kernel)
      j_vret D rt_707) (fun q3 h1 e1 =>
      j_tx (hx_707 _))
theorem e_707_173 (d : Nat) {h : fi_H} (H : Shp h) : c_707_173 d h =
  cv_ (fj_run d 696 h [(4, 602), (0, 45)])
    (fun h1 =>
    some (.inl none, h1))
    (fun q3 h1 => tx_ q3 h1) := by
  unfold c_707_173
  exact
    have D : fk_D 707 [(173, some [0], .aload_n 0, 1, 0, 0, 0), (174, none, .bipush 45, 2, 0, 45, 0), (176, none, .invokevirtual 1274, 3, 1, 475, 0), (179, none, .goto 45, 3, 224, 0, 0)] := fq_of2 cd_707 ow_707 cl_707 rfl (pc := 173) (by decide +kernel)
    j_aldn (pc := 173) D rfl rfl rfl fun D =>
    j_bp (pc := 174) D rfl fun D =>
    j_ivv (pc := 176) (m := 696) (dd := 475) (a := [(0, 45)]) (rest := []) D rfl rfl rfl rfl rfl (by decide) (s0_602 H) (by decide +kernel) (fun h1 e1 D =>
      have T := fj_run_ok _ _ _ _ _ _ H.1 e1
      have H := shp_st H T
      j_goto (pc := 179) D rfl <|
      have D : fk_D 707 [(224, none, .return_, 1, 0, 0, 0)] := fq_of2 cd_707 ow_707 cl_707 rfl (pc := 224) (by decide +kernel)
      j_vret D rt_707) (fun q3 h1 e1 =>
      j_tx (hx_707 _))
theorem e_707_182 (d : Nat) {h : fi_H} (H : Shp h) : c_707_182 d h =
  cv_ (fj_run d 696 h [(4, 602), (0, 42)])
    (fun h1 =>
    some (.inl none, h1))
    (fun q3 h1 => tx_ q3 h1) := by
  unfold c_707_182
  exact
    have D : fk_D 707 [(182, some [0], .aload_n 0, 1, 0, 0, 0), (183, none, .bipush 42, 2, 0, 42, 0), (185, none, .invokevirtual 1274, 3, 1, 475, 0), (188, none, .goto 36, 3, 224, 0, 0)] := fq_of2 cd_707 ow_707 cl_707 rfl (pc := 182) (by decide +kernel)
    j_aldn (pc := 182) D rfl rfl rfl fun D =>
    j_bp (pc := 183) D rfl fun D =>
    j_ivv (pc := 185) (m := 696) (dd := 475) (a := [(0, 42)]) (rest := []) D rfl rfl rfl rfl rfl (by decide) (s0_602 H) (by decide +kernel) (fun h1 e1 D =>
      have T := fj_run_ok _ _ _ _ _ _ H.1 e1
      have H := shp_st H T
      j_goto (pc := 188) D rfl <|
      have D : fk_D 707 [(224, none, .return_, 1, 0, 0, 0)] := fq_of2 cd_707 ow_707 cl_707 rfl (pc := 224) (by decide +kernel)
      j_vret D rt_707) (fun q3 h1 e1 =>
      j_tx (hx_707 _))
theorem e_707_191 (d : Nat) {h : fi_H} (H : Shp h) : c_707_191 d h =
  cv_ (fj_run d 696 h [(4, 602), (0, 47)])
    (fun h1 =>
    some (.inl none, h1))
    (fun q3 h1 => tx_ q3 h1) := by
  unfold c_707_191
  exact
    have D : fk_D 707 [(191, some [0], .aload_n 0, 1, 0, 0, 0), (192, none, .bipush 47, 2, 0, 47, 0), (194, none, .invokevirtual 1274, 3, 1, 475, 0), (197, none, .goto 27, 3, 224, 0, 0)] := fq_of2 cd_707 ow_707 cl_707 rfl (pc := 191) (by decide +kernel)
    j_aldn (pc := 191) D rfl rfl rfl fun D =>
    j_bp (pc := 192) D rfl fun D =>
    j_ivv (pc := 194) (m := 696) (dd := 475) (a := [(0, 47)]) (rest := []) D rfl rfl rfl rfl rfl (by decide) (s0_602 H) (by decide +kernel) (fun h1 e1 D =>
      have T := fj_run_ok _ _ _ _ _ _ H.1 e1
      have H := shp_st H T
      j_goto (pc := 197) D rfl <|
      have D : fk_D 707 [(224, none, .return_, 1, 0, 0, 0)] := fq_of2 cd_707 ow_707 cl_707 rfl (pc := 224) (by decide +kernel)
      j_vret D rt_707) (fun q3 h1 e1 =>
      j_tx (hx_707 _))
theorem e_707_200 (d : Nat) {h : fi_H} (H : Shp h) : c_707_200 d h =
  cv_ (fj_run d 695 h [(4, 602), (0, 28)])
    (fun h1 =>
    some (.inl none, h1))
    (fun q3 h1 => tx_ q3 h1) := by
  unfold c_707_200
  exact
    have D : fk_D 707 [(200, some [0], .aload_n 0, 1, 0, 0, 0), (201, none, .bipush 28, 2, 0, 28, 0), (203, none, .invokevirtual 1282, 3, 1, 478, 0), (206, none, .goto 18, 3, 224, 0, 0)] := fq_of2 cd_707 ow_707 cl_707 rfl (pc := 200) (by decide +kernel)
    j_aldn (pc := 200) D rfl rfl rfl fun D =>
    j_bp (pc := 201) D rfl fun D =>
    j_ivv (pc := 203) (m := 695) (dd := 478) (a := [(0, 28)]) (rest := []) D rfl rfl rfl rfl rfl (by decide) (s0_602 H) (by decide +kernel) (fun h1 e1 D =>
      have T := fj_run_ok _ _ _ _ _ _ H.1 e1
      have H := shp_st H T
      j_goto (pc := 206) D rfl <|
      have D : fk_D 707 [(224, none, .return_, 1, 0, 0, 0)] := fq_of2 cd_707 ow_707 cl_707 rfl (pc := 224) (by decide +kernel)
      j_vret D rt_707) (fun q3 h1 e1 =>
      j_tx (hx_707 _))
theorem e_707_209 (d : Nat) {h : fi_H} (H : Shp h) : c_707_209 d h =
  cv_ (fj_run d 695 h [(4, 602), (0, 30)])
    (fun h1 =>
    some (.inl none, h1))
    (fun q3 h1 => tx_ q3 h1) := by
  unfold c_707_209
  exact
    have D : fk_D 707 [(209, some [0], .aload_n 0, 1, 0, 0, 0), (210, none, .bipush 30, 2, 0, 30, 0), (212, none, .invokevirtual 1282, 3, 1, 478, 0), (215, none, .goto 9, 3, 224, 0, 0)] := fq_of2 cd_707 ow_707 cl_707 rfl (pc := 209) (by decide +kernel)
    j_aldn (pc := 209) D rfl rfl rfl fun D =>
    j_bp (pc := 210) D rfl fun D =>
    j_ivv (pc := 212) (m := 695) (dd := 478) (a := [(0, 30)]) (rest := []) D rfl rfl rfl rfl rfl (by decide) (s0_602 H) (by decide +kernel) (fun h1 e1 D =>
      have T := fj_run_ok _ _ _ _ _ _ H.1 e1
      have H := shp_st H T
      j_goto (pc := 215) D rfl <|
      have D : fk_D 707 [(224, none, .return_, 1, 0, 0, 0)] := fq_of2 cd_707 ow_707 cl_707 rfl (pc := 224) (by decide +kernel)
      j_vret D rt_707) (fun q3 h1 e1 =>
      j_tx (hx_707 _))
theorem e_707_218 (d : Nat) {h : fi_H} (H : Shp h) : c_707_218 d h =
  cv_ (fj_run d 695 h [(4, 602), (0, 29)])
    (fun h1 =>
    some (.inl none, h1))
    (fun q3 h1 => tx_ q3 h1) := by
  unfold c_707_218
  exact
    have D : fk_D 707 [(218, some [0], .aload_n 0, 1, 0, 0, 0), (219, none, .bipush 29, 2, 0, 29, 0), (221, none, .invokevirtual 1282, 3, 1, 478, 0), (224, none, .return_, 1, 0, 0, 0)] := fq_of2 cd_707 ow_707 cl_707 rfl (pc := 218) (by decide +kernel)
    j_aldn (pc := 218) D rfl rfl rfl fun D =>
    j_bp (pc := 219) D rfl fun D =>
    j_ivv (pc := 221) (m := 695) (dd := 478) (a := [(0, 29)]) (rest := []) D rfl rfl rfl rfl rfl (by decide) (s0_602 H) (by decide +kernel) (fun h1 e1 D =>
      have T := fj_run_ok _ _ _ _ _ _ H.1 e1
      have H := shp_st H T
      j_vret D rt_707) (fun q3 h1 e1 =>
      j_tx (hx_707 _))
theorem m_707 (d : Nat) (x1 : Int) {h : fi_H} (H : Shp h) : fj_run (d + 1) 707 h [(4, 602), (0, x1)] =
  if x1 = 1 then
    c_707_80 d h
  else if x1 = 2 then
    c_707_89 d h
  else if x1 = 4 then
    c_707_98 d h
  else if x1 = 5 then
    c_707_107 d h
  else if x1 = 6 then
    c_707_116 d h
  else if x1 = 7 then
    c_707_125 d h
  else if x1 = 8 then
    c_707_140 d h
  else if x1 = 9 then
    c_707_149 d h
  else if x1 = 10 then
    c_707_164 d h
  else if x1 = 11 then
    c_707_173 d h
  else if x1 = 12 then
    c_707_182 d h
  else if x1 = 13 then
    c_707_191 d h
  else if x1 = 14 then
    c_707_200 d h
  else if x1 = 16 then
    c_707_209 d h
  else 
    c_707_218 d h := by
  rw [fj_run_eq d (by decide) h [(4, 602), (0, x1)] (Nat.le_of_ble_eq_true (by rw [nl_707]; rfl))]
  show gG (fj_run d) 707 0 [(0, (4, 602)), (1, (0, x1))] [] h = _
  exact
    have D : fk_D 707 [(0, none, .iload_n 1, 1, 0, 0, 0), (1, none, .tableswitch 217 1 16 #[79, 88, 217, 97, 106, 115, 124, 139, 148, 163, 172, 181, 190, 199, 217, 208], 79, 0, 0, 0)] := fq_of3 cd_707 ow_707 cl_707 rfl (pc := 0) (by decide +kernel)
    j_ildn (pc := 0) D rfl rfl rfl fun D =>
    have N : fk_ni (x1) [] := trivial
    j_tc (pc := 1) 1 (t := 80) D N rfl (by decide +kernel) (fun q =>
      fk_jump cut_707_80 rfl rfl) (fun N =>
      j_tc 2 (t := 89) D N rfl (by decide +kernel) (fun q =>
        fk_jump cut_707_89 rfl rfl) (fun N =>
        j_tc 4 (t := 98) D N rfl (by decide +kernel) (fun q =>
          fk_jump cut_707_98 rfl rfl) (fun N =>
          j_tc 5 (t := 107) D N rfl (by decide +kernel) (fun q =>
            fk_jump cut_707_107 rfl rfl) (fun N =>
            j_tc 6 (t := 116) D N rfl (by decide +kernel) (fun q =>
              fk_jump cut_707_116 rfl rfl) (fun N =>
              j_tc 7 (t := 125) D N rfl (by decide +kernel) (fun q =>
                fk_jump cut_707_125 rfl rfl) (fun N =>
                j_tc 8 (t := 140) D N rfl (by decide +kernel) (fun q =>
                  fk_jump cut_707_140 rfl rfl) (fun N =>
                  j_tc 9 (t := 149) D N rfl (by decide +kernel) (fun q =>
                    fk_jump cut_707_149 rfl rfl) (fun N =>
                    j_tc 10 (t := 164) D N rfl (by decide +kernel) (fun q =>
                      fk_jump cut_707_164 rfl rfl) (fun N =>
                      j_tc 11 (t := 173) D N rfl (by decide +kernel) (fun q =>
                        fk_jump cut_707_173 rfl rfl) (fun N =>
                        j_tc 12 (t := 182) D N rfl (by decide +kernel) (fun q =>
                          fk_jump cut_707_182 rfl rfl) (fun N =>
                          j_tc 13 (t := 191) D N rfl (by decide +kernel) (fun q =>
                            fk_jump cut_707_191 rfl rfl) (fun N =>
                            j_tc 14 (t := 200) D N rfl (by decide +kernel) (fun q =>
                              fk_jump cut_707_200 rfl rfl) (fun N =>
                              j_tc 16 (t := 209) D N rfl (by decide +kernel) (fun q =>
                                fk_jump cut_707_209 rfl rfl) (fun N =>
                                j_td (t := 218) D N rfl (by decide +kernel) (by decide +kernel) <|
                                fk_jump cut_707_218 rfl rfl))))))))))))))
/-! 708 StatuteHouseModel.wordOf(I)I -/
theorem cd_708 : fi_code 708 = prog_69_method_220_code := rfl
theorem hx_708 : ∀ pc, fi_hat 708 pc = none := fun pc => by unfold fi_hat; rw [show fi_hh 708 = [] from rfl]; rfl
theorem rt_708 : fi_ret 708 = some .int := rfl
theorem nl_708 : fi_nl 708 = 1 := rfl
theorem ow_708 : fi_ow 708 = 29 := rfl
theorem cl_708 : fj_cutT.getD 708 [] = [] := rfl
theorem m_708 (d : Nat) (x0 : Int) {h : fi_H} (H : Shp h) : fj_run (d + 1) 708 h [(0, x0)] =
  if x0 < 60 then
    if 27 < x0 then
      if 35 < x0 then
        if 47 < x0 then
          if 51 < x0 then
            if x0 = 52 then
              some (.inl (some (0, 6)), h)
            else
              some (.inl (some (0, 8)), h)
          else
            some (.inl (some (0, wI ((wI (10 + x0)) - 48))), h)
        else
          some (.inl (some (0, wI ((wI (40 + x0)) - 36))), h)
      else
        some (.inl (some (0, wI ((wI (34 + x0)) - 30))), h)
    else
      if x0 = 24 then
        some (.inl (some (0, 57)), h)
      else
        some (.inl (some (0, wI ((wI (77 + x0)) - 25))), h)
  else
    if x0 = 60 then
      some (.inl (some (0, 52)), h)
    else
      if x0 = 61 then
        some (.inl (some (0, 3)), h)
      else
        some (.inl (some (0, wI ((wI (53 + x0)) - 62))), h) := by
  rw [fj_run_eq d (by decide) h [(0, x0)] (Nat.le_of_ble_eq_true (by rw [nl_708]; rfl))]
  show gG (fj_run d) 708 0 [(0, (0, x0))] [] h = _
  exact
    have D : fk_D 708 [(0, none, .iload_n 0, 1, 0, 0, 0), (1, none, .bipush 60, 2, 0, 60, 0), (3, none, .if_icmp .lt 32, 3, 35, 0, 0), (6, none, .iload_n 0, 1, 0, 0, 0), (7, none, .bipush 60, 2, 0, 60, 0), (9, none, .if_icmp .ne 8, 3, 17, 0, 0), (12, none, .bipush 52, 2, 0, 52, 0), (14, none, .goto 20, 3, 34, 0, 0)] := fq_of2 cd_708 ow_708 cl_708 rfl (pc := 0) (by decide +kernel)
    j_ildn (pc := 0) D rfl rfl rfl fun D =>
    j_bp (pc := 1) D rfl fun D =>
    j_ilt (pc := 3) D rfl (fun q =>
      have D : fk_D 708 [(35, none, .iload_n 0, 1, 0, 0, 0), (36, none, .bipush 27, 2, 0, 27, 0), (38, none, .if_icmp .gt 22, 3, 60, 0, 0), (41, none, .iload_n 0, 1, 0, 0, 0), (42, none, .bipush 24, 2, 0, 24, 0), (44, none, .if_icmp .ne 8, 3, 52, 0, 0), (47, none, .bipush 57, 2, 0, 57, 0), (49, none, .goto 10, 3, 59, 0, 0)] := fq_of2 cd_708 ow_708 cl_708 rfl (pc := 35) (by decide +kernel)
      j_ildn (pc := 35) D rfl rfl rfl fun D =>
      j_bp (pc := 36) D rfl fun D =>
      j_igt (pc := 38) D rfl (fun q =>
        have D : fk_D 708 [(60, none, .iload_n 0, 1, 0, 0, 0), (61, none, .bipush 35, 2, 0, 35, 0), (63, none, .if_icmp .gt 11, 3, 74, 0, 0), (66, none, .bipush 34, 2, 0, 34, 0), (68, none, .iload_n 0, 1, 0, 0, 0), (69, none, .iadd, 1, 0, 0, 0), (70, none, .bipush 30, 2, 0, 30, 0), (72, none, .isub, 1, 0, 0, 0), (73, none, .ireturn, 1, 0, 0, 0)] := fq_of2 cd_708 ow_708 cl_708 rfl (pc := 60) (by decide +kernel)
        j_ildn (pc := 60) D rfl rfl rfl fun D =>
        j_bp (pc := 61) D rfl fun D =>
        j_igt (pc := 63) D rfl (fun q =>
          have D : fk_D 708 [(74, none, .iload_n 0, 1, 0, 0, 0), (75, none, .bipush 47, 2, 0, 47, 0), (77, none, .if_icmp .gt 11, 3, 88, 0, 0), (80, none, .bipush 40, 2, 0, 40, 0), (82, none, .iload_n 0, 1, 0, 0, 0), (83, none, .iadd, 1, 0, 0, 0), (84, none, .bipush 36, 2, 0, 36, 0), (86, none, .isub, 1, 0, 0, 0), (87, none, .ireturn, 1, 0, 0, 0)] := fq_of2 cd_708 ow_708 cl_708 rfl (pc := 74) (by decide +kernel)
          j_ildn (pc := 74) D rfl rfl rfl fun D =>
          j_bp (pc := 75) D rfl fun D =>
          j_igt (pc := 77) D rfl (fun q =>
            have D : fk_D 708 [(88, none, .iload_n 0, 1, 0, 0, 0), (89, none, .bipush 51, 2, 0, 51, 0), (91, none, .if_icmp .gt 13, 3, 104, 0, 0), (94, none, .bipush 10, 2, 0, 10, 0), (96, none, .iload_n 0, 1, 0, 0, 0), (97, none, .iadd, 1, 0, 0, 0), (98, none, .bipush 48, 2, 0, 48, 0), (100, none, .isub, 1, 0, 0, 0), (101, none, .goto 16, 3, 117, 0, 0)] := fq_of2 cd_708 ow_708 cl_708 rfl (pc := 88) (by decide +kernel)
            j_ildn (pc := 88) D rfl rfl rfl fun D =>
            j_bp (pc := 89) D rfl fun D =>
            j_igt (pc := 91) D rfl (fun q =>
              have D : fk_D 708 [(104, none, .iload_n 0, 1, 0, 0, 0), (105, none, .bipush 52, 2, 0, 52, 0), (107, none, .if_icmp .ne 8, 3, 115, 0, 0), (110, none, .bipush 6, 2, 0, 6, 0), (112, none, .goto 5, 3, 117, 0, 0)] := fq_of2 cd_708 ow_708 cl_708 rfl (pc := 104) (by decide +kernel)
              j_ildn (pc := 104) D rfl rfl rfl fun D =>
              j_bp (pc := 105) D rfl fun D =>
              j_ine (pc := 107) D rfl (fun q D =>
                j_bp (pc := 110) D rfl fun D =>
                j_goto (pc := 112) D rfl <|
                have D : fk_D 708 [(117, none, .ireturn, 1, 0, 0, 0)] := fq_of2 cd_708 ow_708 cl_708 rfl (pc := 117) (by decide +kernel)
                j_iret D rt_708) (fun q =>
                have D : fk_D 708 [(115, none, .bipush 8, 2, 0, 8, 0), (117, none, .ireturn, 1, 0, 0, 0)] := fq_of2 cd_708 ow_708 cl_708 rfl (pc := 115) (by decide +kernel)
                j_bp (pc := 115) D rfl fun D =>
                j_iret D rt_708)) (fun q D =>
              j_bp (pc := 94) D rfl fun D =>
              j_ildn (pc := 96) D rfl rfl rfl fun D =>
              j_iadd (pc := 97) D rfl fun D =>
              j_bp (pc := 98) D rfl fun D =>
              j_isub (pc := 100) D rfl fun D =>
              j_goto (pc := 101) D rfl <|
              have D : fk_D 708 [(117, none, .ireturn, 1, 0, 0, 0)] := fq_of2 cd_708 ow_708 cl_708 rfl (pc := 117) (by decide +kernel)
              j_iret D rt_708)) (fun q D =>
            j_bp (pc := 80) D rfl fun D =>
            j_ildn (pc := 82) D rfl rfl rfl fun D =>
            j_iadd (pc := 83) D rfl fun D =>
            j_bp (pc := 84) D rfl fun D =>
            j_isub (pc := 86) D rfl fun D =>
            j_iret D rt_708)) (fun q D =>
          j_bp (pc := 66) D rfl fun D =>
          j_ildn (pc := 68) D rfl rfl rfl fun D =>
          j_iadd (pc := 69) D rfl fun D =>
          j_bp (pc := 70) D rfl fun D =>
          j_isub (pc := 72) D rfl fun D =>
          j_iret D rt_708)) (fun q D =>
        j_ildn (pc := 41) D rfl rfl rfl fun D =>
        j_bp (pc := 42) D rfl fun D =>
        j_ine (pc := 44) D rfl (fun q D =>
          j_bp (pc := 47) D rfl fun D =>
          j_goto (pc := 49) D rfl <|
          have D : fk_D 708 [(59, none, .ireturn, 1, 0, 0, 0)] := fq_of2 cd_708 ow_708 cl_708 rfl (pc := 59) (by decide +kernel)
          j_iret D rt_708) (fun q =>
          have D : fk_D 708 [(52, none, .bipush 77, 2, 0, 77, 0), (54, none, .iload_n 0, 1, 0, 0, 0), (55, none, .iadd, 1, 0, 0, 0), (56, none, .bipush 25, 2, 0, 25, 0), (58, none, .isub, 1, 0, 0, 0), (59, none, .ireturn, 1, 0, 0, 0)] := fq_of2 cd_708 ow_708 cl_708 rfl (pc := 52) (by decide +kernel)
          j_bp (pc := 52) D rfl fun D =>
          j_ildn (pc := 54) D rfl rfl rfl fun D =>
          j_iadd (pc := 55) D rfl fun D =>
          j_bp (pc := 56) D rfl fun D =>
          j_isub (pc := 58) D rfl fun D =>
          j_iret D rt_708))) (fun q D =>
      j_ildn (pc := 6) D rfl rfl rfl fun D =>
      j_bp (pc := 7) D rfl fun D =>
      j_ine (pc := 9) D rfl (fun q D =>
        j_bp (pc := 12) D rfl fun D =>
        j_goto (pc := 14) D rfl <|
        have D : fk_D 708 [(34, none, .ireturn, 1, 0, 0, 0)] := fq_of2 cd_708 ow_708 cl_708 rfl (pc := 34) (by decide +kernel)
        j_iret D rt_708) (fun q =>
        have D : fk_D 708 [(17, none, .iload_n 0, 1, 0, 0, 0), (18, none, .bipush 61, 2, 0, 61, 0), (20, none, .if_icmp .ne 7, 3, 27, 0, 0), (23, none, .iconst 3, 1, 0, 3, 0), (24, none, .goto 10, 3, 34, 0, 0)] := fq_of2 cd_708 ow_708 cl_708 rfl (pc := 17) (by decide +kernel)
        j_ildn (pc := 17) D rfl rfl rfl fun D =>
        j_bp (pc := 18) D rfl fun D =>
        j_ine (pc := 20) D rfl (fun q D =>
          j_ic (pc := 23) D rfl fun D =>
          j_goto (pc := 24) D rfl <|
          have D : fk_D 708 [(34, none, .ireturn, 1, 0, 0, 0)] := fq_of2 cd_708 ow_708 cl_708 rfl (pc := 34) (by decide +kernel)
          j_iret D rt_708) (fun q =>
          have D : fk_D 708 [(27, none, .bipush 53, 2, 0, 53, 0), (29, none, .iload_n 0, 1, 0, 0, 0), (30, none, .iadd, 1, 0, 0, 0), (31, none, .bipush 62, 2, 0, 62, 0), (33, none, .isub, 1, 0, 0, 0), (34, none, .ireturn, 1, 0, 0, 0)] := fq_of2 cd_708 ow_708 cl_708 rfl (pc := 27) (by decide +kernel)
          j_bp (pc := 27) D rfl fun D =>
          j_ildn (pc := 29) D rfl rfl rfl fun D =>
          j_iadd (pc := 30) D rfl fun D =>
          j_bp (pc := 31) D rfl fun D =>
          j_isub (pc := 33) D rfl fun D =>
          j_iret D rt_708)))
/-! 709 StatuteHouseModel.tell()I -/
theorem cd_709 : fi_code 709 = prog_69_method_229_code := rfl
theorem hx_709 : ∀ pc, fi_hat 709 pc = none := fun pc => by unfold fi_hat; rw [show fi_hh 709 = [] from rfl]; rfl
theorem rt_709 : fi_ret 709 = some .int := rfl
theorem nl_709 : fi_nl 709 = 3 := rfl
theorem ow_709 : fi_ow 709 = 29 := rfl
theorem cl_709 : fj_cutT.getD 709 [] = [(7, [0, 1]), (24, [0, 1, 2]), (60, [0, 1]), (125, [0, 1]), (194, [0, 1, 2]), (261, [0, 1, 2]), (311, [0, 1]), (323, [0]), (338, [0, 1])] := rfl
theorem cut_709_7 : fj_cut 709 7 = some [0, 1] := by decide +kernel
noncomputable def c_709_7 (d : Nat) (x1 : Int) (h : fi_H) : fk_R := gG (fj_run d) 709 7 [(0, (4, 602)), (1, (0, x1))] [] h
theorem cut_709_24 : fj_cut 709 24 = some [0, 1, 2] := by decide +kernel
noncomputable def c_709_24 (d : Nat) (x1 x2 : Int) (h : fi_H) : fk_R := gG (fj_run d) 709 24 [(0, (4, 602)), (1, (0, x1)), (2, (0, x2))] [] h
theorem cut_709_60 : fj_cut 709 60 = some [0, 1] := by decide +kernel
noncomputable def c_709_60 (d : Nat) (x1 s0 : Int) (h : fi_H) : fk_R := gG (fj_run d) 709 60 [(0, (4, 602)), (1, (0, x1))] [(0, s0)] h
theorem cut_709_125 : fj_cut 709 125 = some [0, 1] := by decide +kernel
noncomputable def c_709_125 (d : Nat) (x1 : Int) (h : fi_H) : fk_R := gG (fj_run d) 709 125 [(0, (4, 602)), (1, (0, x1))] [] h
theorem cut_709_194 : fj_cut 709 194 = some [0, 1, 2] := by decide +kernel
noncomputable def c_709_194 (d : Nat) (x1 x2 : Int) (h : fi_H) : fk_R := gG (fj_run d) 709 194 [(0, (4, 602)), (1, (0, x1)), (2, (0, x2))] [] h
theorem cut_709_261 : fj_cut 709 261 = some [0, 1, 2] := by decide +kernel
noncomputable def c_709_261 (d : Nat) (x1 x2 : Int) (h : fi_H) : fk_R := gG (fj_run d) 709 261 [(0, (4, 602)), (1, (0, x1)), (2, (0, x2))] [] h
theorem cut_709_311 : fj_cut 709 311 = some [0, 1] := by decide +kernel
noncomputable def c_709_311 (d : Nat) (x1 : Int) (h : fi_H) : fk_R := gG (fj_run d) 709 311 [(0, (4, 602)), (1, (0, x1))] [] h
theorem cut_709_323 : fj_cut 709 323 = some [0] := by decide +kernel
noncomputable def c_709_323 (d : Nat) (h : fi_H) : fk_R := gG (fj_run d) 709 323 [(0, (4, 602))] [] h
theorem cut_709_338 : fj_cut 709 338 = some [0, 1] := by decide +kernel
noncomputable def c_709_338 (d : Nat) (x1 : Int) (h : fi_H) : fk_R := gG (fj_run d) 709 338 [(0, (4, 602)), (1, (0, x1))] [] h
theorem e_709_7 (d : Nat) (x1 : Int) {h : fi_H} (H : Shp h) : c_709_7 d x1 h =
  if x1 < h 495 602 0 then
    if x1 < 300 then
      c_709_24 d x1 0 h
    else
      c_709_323 d h
  else
    c_709_323 d h := by
  unfold c_709_7
  exact
    have D : fk_D 709 [(7, some [0, 1], .iload_n 1, 1, 0, 0, 0), (8, none, .aload_n 0, 1, 0, 0, 0), (9, none, .getfield 860, 3, 495, 129, 10), (12, none, .if_icmp .ge 311, 3, 323, 0, 0), (15, none, .iload_n 1, 1, 0, 0, 0), (16, none, .sipush 300, 3, 0, 300, 0), (19, none, .if_icmp .ge 304, 3, 323, 0, 0), (22, none, .iconst 0, 1, 0, 0, 0), (23, none, .istore_n 2, 1, 0, 0, 0)] := fq_of2 cd_709 ow_709 cl_709 rfl (pc := 7) (by decide +kernel)
    j_ildn (pc := 7) D rfl rfl rfl fun D =>
    j_aldn (pc := 8) D rfl rfl rfl fun D =>
    j_gf (pc := 9) (a := 602) D rfl rfl (by decide) rfl (s0_602 H) rfl fun D =>
    j_ige (pc := 12) D rfl (fun q D =>
      j_ildn (pc := 15) D rfl rfl rfl fun D =>
      j_sp (pc := 16) D rfl fun D =>
      j_ige (pc := 19) D rfl (fun q D =>
        j_ic (pc := 22) D rfl fun D =>
        j_istn (pc := 23) (L' := [(2, (0, 0)), (0, (4, 602)), (1, (0, x1))]) D rfl nl_709 rfl rfl fun D =>
        fk_jump cut_709_24 rfl rfl) (fun q =>
        fk_jump cut_709_323 rfl rfl)) (fun q =>
      fk_jump cut_709_323 rfl rfl)
theorem e_709_24 (d : Nat) (x1 x2 : Int) {h : fi_H} (H : Shp h) : c_709_24 d x1 x2 h =
  if 0 ≤ x1 ∧ x1 < 300 then
  if x2 < h 10 667 x1.toNat then
    cv_ (fj_run d 696 h [(4, 602), (0, 32)])
      (fun h2 =>
      c_709_24 d x1 (wI (x2 + 1)) h2)
      (fun q4 h2 => tx_ q4 h2)
  else
    if h 4 676 x1.toNat = 0 then
      c_709_60 d x1 1 h
    else
      c_709_60 d x1 0 h
  else none := by
  unfold c_709_24
  exact
    have D : fk_D 709 [(24, some [0, 1, 2], .iload_n 2, 1, 0, 0, 0), (25, none, .aload_n 0, 1, 0, 0, 0), (26, none, .getfield 239, 3, 497, 129, 12), (29, none, .iload_n 1, 1, 0, 0, 0), (30, none, .iaload, 1, 0, 0, 0), (31, none, .if_icmp .ge 15, 3, 46, 0, 0), (34, none, .aload_n 0, 1, 0, 0, 0), (35, none, .bipush 32, 2, 0, 32, 0), (37, none, .invokevirtual 1274, 3, 1, 475, 0), (40, none, .iinc 2 1, 3, 0, 1, 0), (43, none, .goto (-19), 3, 24, 0, 0)] := fq_of2 cd_709 ow_709 cl_709 rfl (pc := 24) (by decide +kernel)
    j_ildn (pc := 24) D rfl rfl rfl fun D =>
    j_aldn (pc := 25) D rfl rfl rfl fun D =>
    j_gfc (pc := 26) (a := 602) D rfl rfl (by decide) rfl (s0_602 H) rfl (sf_497_602 H) fun D =>
    j_ildn (pc := 29) D rfl rfl rfl fun D =>
    j_al (pc := 30) (a := 667) (e := 10) D rfl rfl rfl (by decide) (s0_667 H) (s1_667 H) ⟨rfl, rfl, rfl⟩ rfl gn fun qb1 D =>
    j_ige (pc := 31) D rfl (fun q D =>
      j_aldn (pc := 34) D rfl rfl rfl fun D =>
      j_bp (pc := 35) D rfl fun D =>
      j_ivv (pc := 37) (m := 696) (dd := 475) (a := [(0, 32)]) (rest := []) D rfl rfl rfl rfl rfl (by decide) (s0_602 H) (by decide +kernel) (fun h2 e1 D =>
        have T := fj_run_ok _ _ _ _ _ _ H.1 e1
        have H := shp_st H T
        j_inc (pc := 40) (L' := [(2, (0, wI (x2 + 1))), (0, (4, 602)), (1, (0, x1))]) D rfl rfl rfl (by decide +kernel) rfl fun D =>
        j_goto (pc := 43) D rfl <|
        fk_jump cut_709_24 rfl rfl) (fun q4 h2 e1 =>
        j_tx (hx_709 _))) (fun q =>
      have D : fk_D 709 [(46, none, .aload_n 0, 1, 0, 0, 0), (47, none, .getfield 266, 3, 506, 129, 12), (50, none, .iload_n 1, 1, 0, 0, 0), (51, none, .baload, 1, 0, 0, 0), (52, none, .ifCond .ne 7, 3, 59, 0, 0), (55, none, .iconst 1, 1, 0, 1, 0), (56, none, .goto 4, 3, 60, 0, 0)] := fq_of2 cd_709 ow_709 cl_709 rfl (pc := 46) (by decide +kernel)
      j_aldn (pc := 46) D rfl rfl rfl fun D =>
      j_gfc (pc := 47) (a := 602) D rfl rfl (by decide) rfl (s0_602 H) rfl (sf_506_602 H) fun D =>
      j_ildn (pc := 50) D rfl rfl rfl fun D =>
      j_al (pc := 51) (a := 676) (e := 4) D rfl rfl rfl (by decide) (s0_676 H) (s1_676 H) ⟨rfl, rfl, rfl⟩ rfl (gy qb1) fun q D =>
      j_ifne (pc := 52) D rfl (fun q D =>
        j_ic (pc := 55) D rfl fun D =>
        j_goto (pc := 56) D rfl <|
        fk_jump cut_709_60 rfl rfl) (fun q =>
        have D : fk_D 709 [(59, none, .iconst 0, 1, 0, 0, 0)] := fq_of2 cd_709 ow_709 cl_709 rfl (pc := 59) (by decide +kernel)
        j_ic (pc := 59) D rfl fun D =>
        fk_jump cut_709_60 rfl rfl))
theorem e_709_60 (d : Nat) (x1 s0 : Int) {h : fi_H} (H : Shp h) : c_709_60 d x1 s0 h =
  if 0 ≤ x1 ∧ x1 < 300 then
  if h 10 666 x1.toNat = 2 then
    cv_ (fj_run d 697 h [(4, 602), (0, h 10 671 x1.toNat)])
      (fun h2 =>
      cv_ (fj_run d 696 h2 [(4, 602), (0, 47)])
        (fun h5 =>
        cv_ (fj_run d 698 h5 [(4, 602), (1, wI (h5 10 672 x1.toNat))])
          (fun h8 =>
          cv_ (fj_run d 696 h8 [(4, 602), (0, 58)])
            (fun h11 =>
            cv_ (fj_run d 696 h11 [(4, 602), (0, 32)])
              (fun h14 =>
              if h14 10 673 x1.toNat = 2 then
                cv_ (fj_run d 710 h14 [(4, 602), (0, 1)])
                  (fun h17 =>
                  c_709_125 d x1 h17)
                  (fun q19 h17 => tx_ q19 h17)
              else
                c_709_125 d x1 h14)
              (fun q16 h14 => tx_ q16 h14))
            (fun q13 h11 => tx_ q13 h11))
          (fun q10 h8 => tx_ q10 h8))
        (fun q7 h5 => tx_ q7 h5))
      (fun q4 h2 => tx_ q4 h2)
  else
    if h 10 666 x1.toNat = 3 then
      cv_ (fj_run d 696 h [(4, 602), (0, 61)])
        (fun h20 =>
        cv_ (fj_run d 696 h20 [(4, 602), (0, 32)])
          (fun h23 =>
          c_709_194 d x1 s0 h23)
          (fun q25 h23 => tx_ q25 h23))
        (fun q22 h20 => tx_ q22 h20)
    else
      c_709_194 d x1 s0 h
  else none := by
  unfold c_709_60
  exact
    have D : fk_D 709 [(60, some [0, 1], .istore_n 2, 1, 0, 0, 0), (61, none, .aload_n 0, 1, 0, 0, 0), (62, none, .getfield 236, 3, 496, 129, 12), (65, none, .iload_n 1, 1, 0, 0, 0), (66, none, .iaload, 1, 0, 0, 0), (67, none, .iconst 2, 1, 0, 2, 0), (68, none, .if_icmp .ne 104, 3, 172, 0, 0), (71, none, .aload_n 0, 1, 0, 0, 0), (72, none, .aload_n 0, 1, 0, 0, 0), (73, none, .getfield 251, 3, 501, 129, 12), (76, none, .iload_n 1, 1, 0, 0, 0), (77, none, .iaload, 1, 0, 0, 0), (78, none, .invokevirtual 1309, 3, 1, 486, 0), (81, none, .aload_n 0, 1, 0, 0, 0), (82, none, .bipush 47, 2, 0, 47, 0), (84, none, .invokevirtual 1274, 3, 1, 475, 0), (87, none, .aload_n 0, 1, 0, 0, 0), (88, none, .aload_n 0, 1, 0, 0, 0), (89, none, .getfield 254, 3, 502, 129, 12), (92, none, .iload_n 1, 1, 0, 0, 0)] := fq_of2 cd_709 ow_709 cl_709 rfl (pc := 60) (by decide +kernel)
    j_istn (pc := 60) (L' := [(2, (0, s0)), (0, (4, 602)), (1, (0, x1))]) D rfl nl_709 rfl rfl fun D =>
    j_aldn (pc := 61) D rfl rfl rfl fun D =>
    j_gfc (pc := 62) (a := 602) D rfl rfl (by decide) rfl (s0_602 H) rfl (sf_496_602 H) fun D =>
    j_ildn (pc := 65) D rfl rfl rfl fun D =>
    j_al (pc := 66) (a := 666) (e := 10) D rfl rfl rfl (by decide) (s0_666 H) (s1_666 H) ⟨rfl, rfl, rfl⟩ rfl gn fun qb1 D =>
    j_ic (pc := 67) D rfl fun D =>
    j_ine (pc := 68) D rfl (fun q D =>
      j_aldn (pc := 71) D rfl rfl rfl fun D =>
      j_aldn (pc := 72) D rfl rfl rfl fun D =>
      j_gfc (pc := 73) (a := 602) D rfl rfl (by decide) rfl (s0_602 H) rfl (sf_501_602 H) fun D =>
      j_ildn (pc := 76) D rfl rfl rfl fun D =>
      j_al (pc := 77) (a := 671) (e := 10) D rfl rfl rfl (by decide) (s0_671 H) (s1_671 H) ⟨rfl, rfl, rfl⟩ rfl (gy qb1) fun q D =>
      j_ivv (pc := 78) (m := 697) (dd := 486) (a := [(0, h 10 671 x1.toNat)]) (rest := []) D rfl rfl rfl rfl rfl (by decide) (s0_602 H) (by decide +kernel) (fun h2 e1 D =>
        have T := fj_run_ok _ _ _ _ _ _ H.1 e1
        have H := shp_st H T
        j_aldn (pc := 81) D rfl rfl rfl fun D =>
        j_bp (pc := 82) D rfl fun D =>
        j_ivv (pc := 84) (m := 696) (dd := 475) (a := [(0, 47)]) (rest := []) D rfl rfl rfl rfl rfl (by decide) (s0_602 H) (by decide +kernel) (fun h5 e1 D =>
          have T := fj_run_ok _ _ _ _ _ _ H.1 e1
          have H := shp_st H T
          j_aldn (pc := 87) D rfl rfl rfl fun D =>
          j_aldn (pc := 88) D rfl rfl rfl fun D =>
          j_gfc (pc := 89) (a := 602) D rfl rfl (by decide) rfl (s0_602 H) rfl (sf_502_602 H) fun D =>
          j_ildn (pc := 92) D rfl rfl rfl fun D =>
          have D : fk_D 709 [(93, none, .iaload, 1, 0, 0, 0), (94, none, .i2l, 1, 0, 0, 0), (95, none, .invokevirtual 1276, 3, 1, 476, 0), (98, none, .aload_n 0, 1, 0, 0, 0), (99, none, .bipush 58, 2, 0, 58, 0), (101, none, .invokevirtual 1274, 3, 1, 475, 0), (104, none, .aload_n 0, 1, 0, 0, 0), (105, none, .bipush 32, 2, 0, 32, 0), (107, none, .invokevirtual 1274, 3, 1, 475, 0), (110, none, .aload_n 0, 1, 0, 0, 0), (111, none, .getfield 257, 3, 503, 129, 12), (114, none, .iload_n 1, 1, 0, 0, 0), (115, none, .iaload, 1, 0, 0, 0), (116, none, .iconst 2, 1, 0, 2, 0), (117, none, .if_icmp .ne 8, 3, 125, 0, 0), (120, none, .aload_n 0, 1, 0, 0, 0), (121, none, .iconst 1, 1, 0, 1, 0), (122, none, .invokevirtual 1321, 3, 1, 489, 0)] := fq_of2 cd_709 ow_709 cl_709 rfl (pc := 93) (by decide +kernel)
          j_al (pc := 93) (a := 672) (e := 10) D rfl rfl rfl (by decide) (s0_672 H) (s1_672 H) ⟨rfl, rfl, rfl⟩ rfl (gy qb1) fun q D =>
          j_i2l (pc := 94) D rfl fun D =>
          j_ivv (pc := 95) (m := 698) (dd := 476) (a := [(1, wI (h5 10 672 x1.toNat))]) (rest := []) D rfl rfl rfl rfl rfl (by decide) (s0_602 H) (by decide +kernel) (fun h8 e1 D =>
            have T := fj_run_ok _ _ _ _ _ _ H.1 e1
            have H := shp_st H T
            j_aldn (pc := 98) D rfl rfl rfl fun D =>
            j_bp (pc := 99) D rfl fun D =>
            j_ivv (pc := 101) (m := 696) (dd := 475) (a := [(0, 58)]) (rest := []) D rfl rfl rfl rfl rfl (by decide) (s0_602 H) (by decide +kernel) (fun h11 e1 D =>
              have T := fj_run_ok _ _ _ _ _ _ H.1 e1
              have H := shp_st H T
              j_aldn (pc := 104) D rfl rfl rfl fun D =>
              j_bp (pc := 105) D rfl fun D =>
              j_ivv (pc := 107) (m := 696) (dd := 475) (a := [(0, 32)]) (rest := []) D rfl rfl rfl rfl rfl (by decide) (s0_602 H) (by decide +kernel) (fun h14 e1 D =>
                have T := fj_run_ok _ _ _ _ _ _ H.1 e1
                have H := shp_st H T
                j_aldn (pc := 110) D rfl rfl rfl fun D =>
                j_gfc (pc := 111) (a := 602) D rfl rfl (by decide) rfl (s0_602 H) rfl (sf_503_602 H) fun D =>
                j_ildn (pc := 114) D rfl rfl rfl fun D =>
                j_al (pc := 115) (a := 673) (e := 10) D rfl rfl rfl (by decide) (s0_673 H) (s1_673 H) ⟨rfl, rfl, rfl⟩ rfl (gy qb1) fun q D =>
                j_ic (pc := 116) D rfl fun D =>
                j_ine (pc := 117) D rfl (fun q D =>
                  j_aldn (pc := 120) D rfl rfl rfl fun D =>
                  j_ic (pc := 121) D rfl fun D =>
                  j_ivv (pc := 122) (m := 710) (dd := 489) (a := [(0, 1)]) (rest := []) D rfl rfl rfl rfl rfl (by decide) (s0_602 H) (by decide +kernel) (fun h17 e1 D =>
                    have T := fj_run_ok _ _ _ _ _ _ H.1 e1
                    have H := shp_st H T
                    fk_jump cut_709_125 rfl rfl) (fun q19 h17 e1 =>
                    j_tx (hx_709 _))) (fun q =>
                  fk_jump cut_709_125 rfl rfl)) (fun q16 h14 e1 =>
                j_tx (hx_709 _))) (fun q13 h11 e1 =>
              j_tx (hx_709 _))) (fun q10 h8 e1 =>
            j_tx (hx_709 _))) (fun q7 h5 e1 =>
          j_tx (hx_709 _))) (fun q4 h2 e1 =>
        j_tx (hx_709 _))) (fun q =>
      have D : fk_D 709 [(172, none, .aload_n 0, 1, 0, 0, 0), (173, none, .getfield 236, 3, 496, 129, 12), (176, none, .iload_n 1, 1, 0, 0, 0), (177, none, .iaload, 1, 0, 0, 0), (178, none, .iconst 3, 1, 0, 3, 0), (179, none, .if_icmp .ne 15, 3, 194, 0, 0), (182, none, .aload_n 0, 1, 0, 0, 0), (183, none, .bipush 61, 2, 0, 61, 0), (185, none, .invokevirtual 1274, 3, 1, 475, 0), (188, none, .aload_n 0, 1, 0, 0, 0), (189, none, .bipush 32, 2, 0, 32, 0), (191, none, .invokevirtual 1274, 3, 1, 475, 0)] := fq_of2 cd_709 ow_709 cl_709 rfl (pc := 172) (by decide +kernel)
      j_aldn (pc := 172) D rfl rfl rfl fun D =>
      j_gfc (pc := 173) (a := 602) D rfl rfl (by decide) rfl (s0_602 H) rfl (sf_496_602 H) fun D =>
      j_ildn (pc := 176) D rfl rfl rfl fun D =>
      j_al (pc := 177) (a := 666) (e := 10) D rfl rfl rfl (by decide) (s0_666 H) (s1_666 H) ⟨rfl, rfl, rfl⟩ rfl (gy qb1) fun q D =>
      j_ic (pc := 178) D rfl fun D =>
      j_ine (pc := 179) D rfl (fun q D =>
        j_aldn (pc := 182) D rfl rfl rfl fun D =>
        j_bp (pc := 183) D rfl fun D =>
        j_ivv (pc := 185) (m := 696) (dd := 475) (a := [(0, 61)]) (rest := []) D rfl rfl rfl rfl rfl (by decide) (s0_602 H) (by decide +kernel) (fun h20 e1 D =>
          have T := fj_run_ok _ _ _ _ _ _ H.1 e1
          have H := shp_st H T
          j_aldn (pc := 188) D rfl rfl rfl fun D =>
          j_bp (pc := 189) D rfl fun D =>
          j_ivv (pc := 191) (m := 696) (dd := 475) (a := [(0, 32)]) (rest := []) D rfl rfl rfl rfl rfl (by decide) (s0_602 H) (by decide +kernel) (fun h23 e1 D =>
            have T := fj_run_ok _ _ _ _ _ _ H.1 e1
            have H := shp_st H T
            fk_jump cut_709_194 rfl rfl) (fun q25 h23 e1 =>
            j_tx (hx_709 _))) (fun q22 h20 e1 =>
          j_tx (hx_709 _))) (fun q =>
        fk_jump cut_709_194 rfl rfl))
theorem e_709_125 (d : Nat) (x1 : Int) {h : fi_H} (H : Shp h) : c_709_125 d x1 h =
  if 0 ≤ x1 ∧ x1 < 300 then
  if h 10 673 x1.toNat = 0 then
    cv_ (fj_run d 710 h [(4, 602), (0, 0)])
      (fun h2 =>
      c_709_311 d x1 h2)
      (fun q4 h2 => tx_ q4 h2)
  else
    if 0 ≤ h 10 668 x1.toNat ∧ h 10 668 x1.toNat < 41 then
    cv_ (fj_run d 711 h [(4, 602), (0, h 10 611 (h 10 668 x1.toNat).toNat), (1, h 11 674 x1.toNat), (1, h 11 675 x1.toNat)])
      (fun h6 =>
      c_709_311 d x1 h6)
      (fun q8 h6 => tx_ q8 h6)
    else none
  else none := by
  unfold c_709_125
  exact
    have D : fk_D 709 [(125, some [0, 1], .aload_n 0, 1, 0, 0, 0), (126, none, .getfield 257, 3, 503, 129, 12), (129, none, .iload_n 1, 1, 0, 0, 0), (130, none, .iaload, 1, 0, 0, 0), (131, none, .ifCond .ne 11, 3, 142, 0, 0), (134, none, .aload_n 0, 1, 0, 0, 0), (135, none, .iconst 0, 1, 0, 0, 0), (136, none, .invokevirtual 1321, 3, 1, 489, 0), (139, none, .goto 172, 3, 311, 0, 0)] := fq_of2 cd_709 ow_709 cl_709 rfl (pc := 125) (by decide +kernel)
    j_aldn (pc := 125) D rfl rfl rfl fun D =>
    j_gfc (pc := 126) (a := 602) D rfl rfl (by decide) rfl (s0_602 H) rfl (sf_503_602 H) fun D =>
    j_ildn (pc := 129) D rfl rfl rfl fun D =>
    j_al (pc := 130) (a := 673) (e := 10) D rfl rfl rfl (by decide) (s0_673 H) (s1_673 H) ⟨rfl, rfl, rfl⟩ rfl gn fun qb1 D =>
    j_ifne (pc := 131) D rfl (fun q D =>
      j_aldn (pc := 134) D rfl rfl rfl fun D =>
      j_ic (pc := 135) D rfl fun D =>
      j_ivv (pc := 136) (m := 710) (dd := 489) (a := [(0, 0)]) (rest := []) D rfl rfl rfl rfl rfl (by decide) (s0_602 H) (by decide +kernel) (fun h2 e1 D =>
        have T := fj_run_ok _ _ _ _ _ _ H.1 e1
        have H := shp_st H T
        j_goto (pc := 139) D rfl <|
        fk_jump cut_709_311 rfl rfl) (fun q4 h2 e1 =>
        j_tx (hx_709 _))) (fun q =>
      have D : fk_D 709 [(142, none, .aload_n 0, 1, 0, 0, 0), (143, none, .aload_n 0, 1, 0, 0, 0), (144, none, .getfield 43, 3, 407, 129, 12), (147, none, .aload_n 0, 1, 0, 0, 0), (148, none, .getfield 242, 3, 498, 129, 12), (151, none, .iload_n 1, 1, 0, 0, 0), (152, none, .iaload, 1, 0, 0, 0), (153, none, .iaload, 1, 0, 0, 0), (154, none, .aload_n 0, 1, 0, 0, 0), (155, none, .getfield 260, 3, 504, 129, 12), (158, none, .iload_n 1, 1, 0, 0, 0), (159, none, .laload, 1, 0, 0, 0), (160, none, .aload_n 0, 1, 0, 0, 0), (161, none, .getfield 263, 3, 505, 129, 12), (164, none, .iload_n 1, 1, 0, 0, 0), (165, none, .laload, 1, 0, 0, 0), (166, none, .invokevirtual 1324, 3, 3, 490, 0), (169, none, .goto 142, 3, 311, 0, 0)] := fq_of2 cd_709 ow_709 cl_709 rfl (pc := 142) (by decide +kernel)
      j_aldn (pc := 142) D rfl rfl rfl fun D =>
      j_aldn (pc := 143) D rfl rfl rfl fun D =>
      j_gfc (pc := 144) (a := 602) D rfl rfl (by decide) rfl (s0_602 H) rfl (sf_407_602 H) fun D =>
      j_aldn (pc := 147) D rfl rfl rfl fun D =>
      j_gfc (pc := 148) (a := 602) D rfl rfl (by decide) rfl (s0_602 H) rfl (sf_498_602 H) fun D =>
      j_ildn (pc := 151) D rfl rfl rfl fun D =>
      j_al (pc := 152) (a := 668) (e := 10) D rfl rfl rfl (by decide) (s0_668 H) (s1_668 H) ⟨rfl, rfl, rfl⟩ rfl (gy qb1) fun q D =>
      j_al (pc := 153) (a := 611) (e := 10) D rfl rfl rfl (by decide) (s0_611 H) (s1_611 H) ⟨rfl, rfl, rfl⟩ rfl gn fun qb5 D =>
      j_aldn (pc := 154) D rfl rfl rfl fun D =>
      j_gfc (pc := 155) (a := 602) D rfl rfl (by decide) rfl (s0_602 H) rfl (sf_504_602 H) fun D =>
      j_ildn (pc := 158) D rfl rfl rfl fun D =>
      j_al (pc := 159) (a := 674) (e := 11) D rfl rfl rfl (by decide) (s0_674 H) (s1_674 H) ⟨rfl, rfl, rfl⟩ rfl (gy qb1) fun q D =>
      j_aldn (pc := 160) D rfl rfl rfl fun D =>
      j_gfc (pc := 161) (a := 602) D rfl rfl (by decide) rfl (s0_602 H) rfl (sf_505_602 H) fun D =>
      j_ildn (pc := 164) D rfl rfl rfl fun D =>
      j_al (pc := 165) (a := 675) (e := 11) D rfl rfl rfl (by decide) (s0_675 H) (s1_675 H) ⟨rfl, rfl, rfl⟩ rfl (gy qb1) fun q D =>
      j_ivv (pc := 166) (m := 711) (dd := 490) (a := [(0, h 10 611 (h 10 668 x1.toNat).toNat), (1, h 11 674 x1.toNat), (1, h 11 675 x1.toNat)]) (rest := []) D rfl rfl rfl rfl rfl (by decide) (s0_602 H) (by decide +kernel) (fun h6 e1 D =>
        have T := fj_run_ok _ _ _ _ _ _ H.1 e1
        have H := shp_st H T
        j_goto (pc := 169) D rfl <|
        fk_jump cut_709_311 rfl rfl) (fun q8 h6 e1 =>
        j_tx (hx_709 _)))
theorem e_709_194 (d : Nat) (x1 x2 : Int) {h : fi_H} (H : Shp h) : c_709_194 d x1 x2 h =
  if 0 ≤ x1 ∧ x1 < 300 then
  cv_ (fj_run d 701 h [(4, 602), (0, h 10 668 x1.toNat)])
    (fun h2 =>
    cv_ (fj_run d 696 h2 [(4, 602), (0, 32)])
      (fun h5 =>
      cv_ (fj_run d 695 h5 [(4, 602), (0, 30)])
        (fun h8 =>
        cv_ (fj_run d 696 h8 [(4, 602), (0, 32)])
          (fun h11 =>
          cv_ (fj_run d 698 h11 [(4, 602), (1, wI (h11 10 669 x1.toNat))])
            (fun h14 =>
            cv_ (fj_run d 696 h14 [(4, 602), (0, 32)])
              (fun h17 =>
              cv_ (fj_run d 695 h17 [(4, 602), (0, 29)])
                (fun h20 =>
                cv_ (fj_run d 696 h20 [(4, 602), (0, 32)])
                  (fun h23 =>
                  cv_ (fj_run d 706 h23 [(4, 602), (0, h23 10 670 x1.toNat)])
                    (fun h26 =>
                    c_709_261 d x1 x2 h26)
                    (fun q28 h26 => tx_ q28 h26))
                  (fun q25 h23 => tx_ q25 h23))
                (fun q22 h20 => tx_ q22 h20))
              (fun q19 h17 => tx_ q19 h17))
            (fun q16 h14 => tx_ q16 h14))
          (fun q13 h11 => tx_ q13 h11))
        (fun q10 h8 => tx_ q10 h8))
      (fun q7 h5 => tx_ q7 h5))
    (fun q4 h2 => tx_ q4 h2)
  else none := by
  unfold c_709_194
  exact
    have D : fk_D 709 [(194, some [0, 1, 2], .aload_n 0, 1, 0, 0, 0), (195, none, .aload_n 0, 1, 0, 0, 0), (196, none, .getfield 242, 3, 498, 129, 12), (199, none, .iload_n 1, 1, 0, 0, 0), (200, none, .iaload, 1, 0, 0, 0), (201, none, .invokevirtual 1291, 3, 1, 481, 0), (204, none, .aload_n 0, 1, 0, 0, 0), (205, none, .bipush 32, 2, 0, 32, 0), (207, none, .invokevirtual 1274, 3, 1, 475, 0), (210, none, .aload_n 0, 1, 0, 0, 0), (211, none, .bipush 30, 2, 0, 30, 0), (213, none, .invokevirtual 1282, 3, 1, 478, 0), (216, none, .aload_n 0, 1, 0, 0, 0), (217, none, .bipush 32, 2, 0, 32, 0), (219, none, .invokevirtual 1274, 3, 1, 475, 0), (222, none, .aload_n 0, 1, 0, 0, 0), (223, none, .aload_n 0, 1, 0, 0, 0), (224, none, .getfield 245, 3, 499, 129, 12), (227, none, .iload_n 1, 1, 0, 0, 0), (228, none, .iaload, 1, 0, 0, 0)] := fq_of2 cd_709 ow_709 cl_709 rfl (pc := 194) (by decide +kernel)
    j_aldn (pc := 194) D rfl rfl rfl fun D =>
    j_aldn (pc := 195) D rfl rfl rfl fun D =>
    j_gfc (pc := 196) (a := 602) D rfl rfl (by decide) rfl (s0_602 H) rfl (sf_498_602 H) fun D =>
    j_ildn (pc := 199) D rfl rfl rfl fun D =>
    j_al (pc := 200) (a := 668) (e := 10) D rfl rfl rfl (by decide) (s0_668 H) (s1_668 H) ⟨rfl, rfl, rfl⟩ rfl gn fun qb1 D =>
    j_ivv (pc := 201) (m := 701) (dd := 481) (a := [(0, h 10 668 x1.toNat)]) (rest := []) D rfl rfl rfl rfl rfl (by decide) (s0_602 H) (by decide +kernel) (fun h2 e1 D =>
      have T := fj_run_ok _ _ _ _ _ _ H.1 e1
      have H := shp_st H T
      j_aldn (pc := 204) D rfl rfl rfl fun D =>
      j_bp (pc := 205) D rfl fun D =>
      j_ivv (pc := 207) (m := 696) (dd := 475) (a := [(0, 32)]) (rest := []) D rfl rfl rfl rfl rfl (by decide) (s0_602 H) (by decide +kernel) (fun h5 e1 D =>
        have T := fj_run_ok _ _ _ _ _ _ H.1 e1
        have H := shp_st H T
        j_aldn (pc := 210) D rfl rfl rfl fun D =>
        j_bp (pc := 211) D rfl fun D =>
        j_ivv (pc := 213) (m := 695) (dd := 478) (a := [(0, 30)]) (rest := []) D rfl rfl rfl rfl rfl (by decide) (s0_602 H) (by decide +kernel) (fun h8 e1 D =>
          have T := fj_run_ok _ _ _ _ _ _ H.1 e1
          have H := shp_st H T
          j_aldn (pc := 216) D rfl rfl rfl fun D =>
          j_bp (pc := 217) D rfl fun D =>
          j_ivv (pc := 219) (m := 696) (dd := 475) (a := [(0, 32)]) (rest := []) D rfl rfl rfl rfl rfl (by decide) (s0_602 H) (by decide +kernel) (fun h11 e1 D =>
            have T := fj_run_ok _ _ _ _ _ _ H.1 e1
            have H := shp_st H T
            j_aldn (pc := 222) D rfl rfl rfl fun D =>
            j_aldn (pc := 223) D rfl rfl rfl fun D =>
            j_gfc (pc := 224) (a := 602) D rfl rfl (by decide) rfl (s0_602 H) rfl (sf_499_602 H) fun D =>
            j_ildn (pc := 227) D rfl rfl rfl fun D =>
            j_al (pc := 228) (a := 669) (e := 10) D rfl rfl rfl (by decide) (s0_669 H) (s1_669 H) ⟨rfl, rfl, rfl⟩ rfl (gy qb1) fun q D =>
            have D : fk_D 709 [(229, none, .i2l, 1, 0, 0, 0), (230, none, .invokevirtual 1276, 3, 1, 476, 0), (233, none, .aload_n 0, 1, 0, 0, 0), (234, none, .bipush 32, 2, 0, 32, 0), (236, none, .invokevirtual 1274, 3, 1, 475, 0), (239, none, .aload_n 0, 1, 0, 0, 0), (240, none, .bipush 29, 2, 0, 29, 0), (242, none, .invokevirtual 1282, 3, 1, 478, 0), (245, none, .aload_n 0, 1, 0, 0, 0), (246, none, .bipush 32, 2, 0, 32, 0), (248, none, .invokevirtual 1274, 3, 1, 475, 0), (251, none, .aload_n 0, 1, 0, 0, 0), (252, none, .aload_n 0, 1, 0, 0, 0), (253, none, .getfield 248, 3, 500, 129, 12), (256, none, .iload_n 1, 1, 0, 0, 0), (257, none, .iaload, 1, 0, 0, 0), (258, none, .invokevirtual 1285, 3, 1, 479, 0)] := fq_of2 cd_709 ow_709 cl_709 rfl (pc := 229) (by decide +kernel)
            j_i2l (pc := 229) D rfl fun D =>
            j_ivv (pc := 230) (m := 698) (dd := 476) (a := [(1, wI (h11 10 669 x1.toNat))]) (rest := []) D rfl rfl rfl rfl rfl (by decide) (s0_602 H) (by decide +kernel) (fun h14 e1 D =>
              have T := fj_run_ok _ _ _ _ _ _ H.1 e1
              have H := shp_st H T
              j_aldn (pc := 233) D rfl rfl rfl fun D =>
              j_bp (pc := 234) D rfl fun D =>
              j_ivv (pc := 236) (m := 696) (dd := 475) (a := [(0, 32)]) (rest := []) D rfl rfl rfl rfl rfl (by decide) (s0_602 H) (by decide +kernel) (fun h17 e1 D =>
                have T := fj_run_ok _ _ _ _ _ _ H.1 e1
                have H := shp_st H T
                j_aldn (pc := 239) D rfl rfl rfl fun D =>
                j_bp (pc := 240) D rfl fun D =>
                j_ivv (pc := 242) (m := 695) (dd := 478) (a := [(0, 29)]) (rest := []) D rfl rfl rfl rfl rfl (by decide) (s0_602 H) (by decide +kernel) (fun h20 e1 D =>
                  have T := fj_run_ok _ _ _ _ _ _ H.1 e1
                  have H := shp_st H T
                  j_aldn (pc := 245) D rfl rfl rfl fun D =>
                  j_bp (pc := 246) D rfl fun D =>
                  j_ivv (pc := 248) (m := 696) (dd := 475) (a := [(0, 32)]) (rest := []) D rfl rfl rfl rfl rfl (by decide) (s0_602 H) (by decide +kernel) (fun h23 e1 D =>
                    have T := fj_run_ok _ _ _ _ _ _ H.1 e1
                    have H := shp_st H T
                    j_aldn (pc := 251) D rfl rfl rfl fun D =>
                    j_aldn (pc := 252) D rfl rfl rfl fun D =>
                    j_gfc (pc := 253) (a := 602) D rfl rfl (by decide) rfl (s0_602 H) rfl (sf_500_602 H) fun D =>
                    j_ildn (pc := 256) D rfl rfl rfl fun D =>
                    j_al (pc := 257) (a := 670) (e := 10) D rfl rfl rfl (by decide) (s0_670 H) (s1_670 H) ⟨rfl, rfl, rfl⟩ rfl (gy qb1) fun q D =>
                    j_ivv (pc := 258) (m := 706) (dd := 479) (a := [(0, h23 10 670 x1.toNat)]) (rest := []) D rfl rfl rfl rfl rfl (by decide) (s0_602 H) (by decide +kernel) (fun h26 e1 D =>
                      have T := fj_run_ok _ _ _ _ _ _ H.1 e1
                      have H := shp_st H T
                      fk_jump cut_709_261 rfl rfl) (fun q28 h26 e1 =>
                      j_tx (hx_709 _))) (fun q25 h23 e1 =>
                    j_tx (hx_709 _))) (fun q22 h20 e1 =>
                  j_tx (hx_709 _))) (fun q19 h17 e1 =>
                j_tx (hx_709 _))) (fun q16 h14 e1 =>
              j_tx (hx_709 _))) (fun q13 h11 e1 =>
            j_tx (hx_709 _))) (fun q10 h8 e1 =>
          j_tx (hx_709 _))) (fun q7 h5 e1 =>
        j_tx (hx_709 _))) (fun q4 h2 e1 =>
      j_tx (hx_709 _))
theorem e_709_261 (d : Nat) (x1 x2 : Int) {h : fi_H} (H : Shp h) : c_709_261 d x1 x2 h =
  cv_ (fj_run d 696 h [(4, 602), (0, 58)])
    (fun h1 =>
    cv_ (fj_run d 696 h1 [(4, 602), (0, 32)])
      (fun h4 =>
      if x2 = 0 then
        if 0 ≤ x1 ∧ x1 < 300 then
        if 0 ≤ h4 10 668 x1.toNat ∧ h4 10 668 x1.toNat < 41 then
        cv_ (fj_run d 711 h4 [(4, 602), (0, h4 10 611 (h4 10 668 x1.toNat).toNat), (1, h4 11 674 x1.toNat), (1, h4 11 675 x1.toNat)])
          (fun h9 =>
          c_709_311 d x1 h9)
          (fun q11 h9 => tx_ q11 h9)
        else none
        else none
      else
        cv_ (fj_run d 713 h4 [(4, 602)])
          (fun h12 =>
          c_709_311 d x1 h12)
          (fun q14 h12 => tx_ q14 h12))
      (fun q6 h4 => tx_ q6 h4))
    (fun q3 h1 => tx_ q3 h1) := by
  unfold c_709_261
  exact
    have D : fk_D 709 [(261, some [0, 1, 2], .aload_n 0, 1, 0, 0, 0), (262, none, .bipush 58, 2, 0, 58, 0), (264, none, .invokevirtual 1274, 3, 1, 475, 0), (267, none, .aload_n 0, 1, 0, 0, 0), (268, none, .bipush 32, 2, 0, 32, 0), (270, none, .invokevirtual 1274, 3, 1, 475, 0), (273, none, .iload_n 2, 1, 0, 0, 0), (274, none, .ifCond .eq 10, 3, 284, 0, 0), (277, none, .aload_n 0, 1, 0, 0, 0), (278, none, .invokevirtual 1327, 3, 0, 491, 0), (281, none, .goto 30, 3, 311, 0, 0)] := fq_of2 cd_709 ow_709 cl_709 rfl (pc := 261) (by decide +kernel)
    j_aldn (pc := 261) D rfl rfl rfl fun D =>
    j_bp (pc := 262) D rfl fun D =>
    j_ivv (pc := 264) (m := 696) (dd := 475) (a := [(0, 58)]) (rest := []) D rfl rfl rfl rfl rfl (by decide) (s0_602 H) (by decide +kernel) (fun h1 e1 D =>
      have T := fj_run_ok _ _ _ _ _ _ H.1 e1
      have H := shp_st H T
      j_aldn (pc := 267) D rfl rfl rfl fun D =>
      j_bp (pc := 268) D rfl fun D =>
      j_ivv (pc := 270) (m := 696) (dd := 475) (a := [(0, 32)]) (rest := []) D rfl rfl rfl rfl rfl (by decide) (s0_602 H) (by decide +kernel) (fun h4 e1 D =>
        have T := fj_run_ok _ _ _ _ _ _ H.1 e1
        have H := shp_st H T
        j_ildn (pc := 273) D rfl rfl rfl fun D =>
        j_ifeq (pc := 274) D rfl (fun q =>
          have D : fk_D 709 [(284, none, .aload_n 0, 1, 0, 0, 0), (285, none, .aload_n 0, 1, 0, 0, 0), (286, none, .getfield 43, 3, 407, 129, 12), (289, none, .aload_n 0, 1, 0, 0, 0), (290, none, .getfield 242, 3, 498, 129, 12), (293, none, .iload_n 1, 1, 0, 0, 0), (294, none, .iaload, 1, 0, 0, 0), (295, none, .iaload, 1, 0, 0, 0), (296, none, .aload_n 0, 1, 0, 0, 0), (297, none, .getfield 260, 3, 504, 129, 12), (300, none, .iload_n 1, 1, 0, 0, 0), (301, none, .laload, 1, 0, 0, 0), (302, none, .aload_n 0, 1, 0, 0, 0), (303, none, .getfield 263, 3, 505, 129, 12), (306, none, .iload_n 1, 1, 0, 0, 0), (307, none, .laload, 1, 0, 0, 0), (308, none, .invokevirtual 1324, 3, 3, 490, 0)] := fq_of2 cd_709 ow_709 cl_709 rfl (pc := 284) (by decide +kernel)
          j_aldn (pc := 284) D rfl rfl rfl fun D =>
          j_aldn (pc := 285) D rfl rfl rfl fun D =>
          j_gfc (pc := 286) (a := 602) D rfl rfl (by decide) rfl (s0_602 H) rfl (sf_407_602 H) fun D =>
          j_aldn (pc := 289) D rfl rfl rfl fun D =>
          j_gfc (pc := 290) (a := 602) D rfl rfl (by decide) rfl (s0_602 H) rfl (sf_498_602 H) fun D =>
          j_ildn (pc := 293) D rfl rfl rfl fun D =>
          j_al (pc := 294) (a := 668) (e := 10) D rfl rfl rfl (by decide) (s0_668 H) (s1_668 H) ⟨rfl, rfl, rfl⟩ rfl gn fun qb7 D =>
          j_al (pc := 295) (a := 611) (e := 10) D rfl rfl rfl (by decide) (s0_611 H) (s1_611 H) ⟨rfl, rfl, rfl⟩ rfl gn fun qb8 D =>
          j_aldn (pc := 296) D rfl rfl rfl fun D =>
          j_gfc (pc := 297) (a := 602) D rfl rfl (by decide) rfl (s0_602 H) rfl (sf_504_602 H) fun D =>
          j_ildn (pc := 300) D rfl rfl rfl fun D =>
          j_al (pc := 301) (a := 674) (e := 11) D rfl rfl rfl (by decide) (s0_674 H) (s1_674 H) ⟨rfl, rfl, rfl⟩ rfl (gy qb7) fun q D =>
          j_aldn (pc := 302) D rfl rfl rfl fun D =>
          j_gfc (pc := 303) (a := 602) D rfl rfl (by decide) rfl (s0_602 H) rfl (sf_505_602 H) fun D =>
          j_ildn (pc := 306) D rfl rfl rfl fun D =>
          j_al (pc := 307) (a := 675) (e := 11) D rfl rfl rfl (by decide) (s0_675 H) (s1_675 H) ⟨rfl, rfl, rfl⟩ rfl (gy qb7) fun q D =>
          j_ivv (pc := 308) (m := 711) (dd := 490) (a := [(0, h4 10 611 (h4 10 668 x1.toNat).toNat), (1, h4 11 674 x1.toNat), (1, h4 11 675 x1.toNat)]) (rest := []) D rfl rfl rfl rfl rfl (by decide) (s0_602 H) (by decide +kernel) (fun h9 e1 D =>
            have T := fj_run_ok _ _ _ _ _ _ H.1 e1
            have H := shp_st H T
            fk_jump cut_709_311 rfl rfl) (fun q11 h9 e1 =>
            j_tx (hx_709 _))) (fun q D =>
          j_aldn (pc := 277) D rfl rfl rfl fun D =>
          j_ivv (pc := 278) (m := 713) (dd := 491) (a := []) (rest := []) D rfl rfl rfl rfl rfl (by decide) (s0_602 H) (by decide +kernel) (fun h12 e1 D =>
            have T := fj_run_ok _ _ _ _ _ _ H.1 e1
            have H := shp_st H T
            j_goto (pc := 281) D rfl <|
            fk_jump cut_709_311 rfl rfl) (fun q14 h12 e1 =>
            j_tx (hx_709 _)))) (fun q6 h4 e1 =>
        j_tx (hx_709 _))) (fun q3 h1 e1 =>
      j_tx (hx_709 _))
theorem e_709_311 (d : Nat) (x1 : Int) {h : fi_H} (H : Shp h) : c_709_311 d x1 h =
  cv_ (fj_run d 696 h [(4, 602), (0, 10)])
    (fun h1 =>
    c_709_7 d (wI (x1 + 1)) h1)
    (fun q3 h1 => tx_ q3 h1) := by
  unfold c_709_311
  exact
    have D : fk_D 709 [(311, some [0, 1], .aload_n 0, 1, 0, 0, 0), (312, none, .bipush 10, 2, 0, 10, 0), (314, none, .invokevirtual 1274, 3, 1, 475, 0), (317, none, .iinc 1 1, 3, 0, 1, 0), (320, none, .goto (-313), 3, 7, 0, 0)] := fq_of2 cd_709 ow_709 cl_709 rfl (pc := 311) (by decide +kernel)
    j_aldn (pc := 311) D rfl rfl rfl fun D =>
    j_bp (pc := 312) D rfl fun D =>
    j_ivv (pc := 314) (m := 696) (dd := 475) (a := [(0, 10)]) (rest := []) D rfl rfl rfl rfl rfl (by decide) (s0_602 H) (by decide +kernel) (fun h1 e1 D =>
      have T := fj_run_ok _ _ _ _ _ _ H.1 e1
      have H := shp_st H T
      j_inc (pc := 317) (L' := [(1, (0, wI (x1 + 1))), (0, (4, 602))]) D rfl rfl rfl (by decide +kernel) rfl fun D =>
      j_goto (pc := 320) D rfl <|
      fk_jump cut_709_7 rfl rfl) (fun q3 h1 e1 =>
      j_tx (hx_709 _))
theorem e_709_323 (d : Nat) {h : fi_H} (H : Shp h) : c_709_323 d h =
  if 12000 < h 569 602 0 then
    some (.inl (some (0, (-4))), h)
  else
    c_709_338 d 0 h := by
  unfold c_709_323
  exact
    have D : fk_D 709 [(323, some [0], .aload_n 0, 1, 0, 0, 0), (324, none, .getfield 1271, 3, 569, 129, 10), (327, none, .sipush 12000, 3, 0, 12000, 0), (330, none, .if_icmp .le 6, 3, 336, 0, 0), (333, none, .bipush (-4), 2, 0, (-4), 0), (335, none, .ireturn, 1, 0, 0, 0)] := fq_of2 cd_709 ow_709 cl_709 rfl (pc := 323) (by decide +kernel)
    j_aldn (pc := 323) D rfl rfl rfl fun D =>
    j_gf (pc := 324) (a := 602) D rfl rfl (by decide) rfl (s0_602 H) rfl fun D =>
    j_sp (pc := 327) D rfl fun D =>
    j_ile (pc := 330) D rfl (fun q D =>
      j_bp (pc := 333) D rfl fun D =>
      j_iret D rt_709) (fun q =>
      have D : fk_D 709 [(336, none, .iconst 0, 1, 0, 0, 0), (337, none, .istore_n 1, 1, 0, 0, 0)] := fq_of2 cd_709 ow_709 cl_709 rfl (pc := 336) (by decide +kernel)
      j_ic (pc := 336) D rfl fun D =>
      j_istn (pc := 337) (L' := [(1, (0, 0)), (0, (4, 602))]) D rfl nl_709 rfl rfl fun D =>
      fk_jump cut_709_338 rfl rfl)
theorem e_709_338 (d : Nat) (x1 : Int) {h : fi_H} (H : Shp h) : c_709_338 d x1 h =
  if x1 < h 569 602 0 then
    if 0 ≤ x1 ∧ x1 < 12000 then
    if fi_rg 8 (h 8 713 x1.toNat) = true then
    lt_ (fi_upd h 8 712 x1.toNat (h 8 713 x1.toNat)) fun h2 =>
    c_709_338 d (wI (x1 + 1)) h2
    else none
    else none
  else
    lt_ (fi_upd h 568 602 0 (h 569 602 0)) fun h3 =>
    some (.inl (some (0, h3 568 602 0)), h3) := by
  unfold c_709_338
  exact
    have D : fk_D 709 [(338, some [0, 1], .iload_n 1, 1, 0, 0, 0), (339, none, .aload_n 0, 1, 0, 0, 0), (340, none, .getfield 1271, 3, 569, 129, 10), (343, none, .if_icmp .ge 21, 3, 364, 0, 0), (346, none, .aload_n 0, 1, 0, 0, 0), (347, none, .getfield 401, 3, 566, 129, 12), (350, none, .iload_n 1, 1, 0, 0, 0), (351, none, .aload_n 0, 1, 0, 0, 0), (352, none, .getfield 405, 3, 567, 129, 12), (355, none, .iload_n 1, 1, 0, 0, 0), (356, none, .baload, 1, 0, 0, 0), (357, none, .bastore, 1, 0, 0, 0), (358, none, .iinc 1 1, 3, 0, 1, 0), (361, none, .goto (-23), 3, 338, 0, 0)] := fq_of2 cd_709 ow_709 cl_709 rfl (pc := 338) (by decide +kernel)
    j_ildn (pc := 338) D rfl rfl rfl fun D =>
    j_aldn (pc := 339) D rfl rfl rfl fun D =>
    j_gf (pc := 340) (a := 602) D rfl rfl (by decide) rfl (s0_602 H) rfl fun D =>
    j_ige (pc := 343) D rfl (fun q D =>
      j_aldn (pc := 346) D rfl rfl rfl fun D =>
      j_gfc (pc := 347) (a := 602) D rfl rfl (by decide) rfl (s0_602 H) rfl (sf_566_602 H) fun D =>
      j_ildn (pc := 350) D rfl rfl rfl fun D =>
      j_aldn (pc := 351) D rfl rfl rfl fun D =>
      j_gfc (pc := 352) (a := 602) D rfl rfl (by decide) rfl (s0_602 H) rfl (sf_567_602 H) fun D =>
      j_ildn (pc := 355) D rfl rfl rfl fun D =>
      j_al (pc := 356) (a := 713) (e := 8) D rfl rfl rfl (by decide) (s0_713 H) (s1_713 H) ⟨rfl, rfl, rfl⟩ rfl gn fun qb1 D =>
      j_as (pc := 357) (a := 712) (e := 8) D rfl ⟨rfl, rfl⟩ rfl (by decide) (s0_712 H) (s1_712 H) ⟨rfl, rfl, rfl⟩ rfl (gy qb1) gn fun h2 eh2 S q D =>
      have T := fj_hs_ok H.1 S
      have H := shp_st H T
      j_inc (pc := 358) (L' := [(1, (0, wI (x1 + 1))), (0, (4, 602))]) D rfl rfl rfl (by decide +kernel) rfl fun D =>
      j_goto (pc := 361) D rfl <|
      fk_jump cut_709_338 rfl rfl) (fun q =>
      have D : fk_D 709 [(364, none, .aload_n 0, 1, 0, 0, 0), (365, none, .aload_n 0, 1, 0, 0, 0), (366, none, .getfield 1271, 3, 569, 129, 10), (369, none, .putfield 1315, 3, 568, 129, 10), (372, none, .aload_n 0, 1, 0, 0, 0), (373, none, .getfield 1315, 3, 568, 129, 10), (376, none, .ireturn, 1, 0, 0, 0)] := fq_of2 cd_709 ow_709 cl_709 rfl (pc := 364) (by decide +kernel)
      j_aldn (pc := 364) D rfl rfl rfl fun D =>
      j_aldn (pc := 365) D rfl rfl rfl fun D =>
      j_gf (pc := 366) (a := 602) D rfl rfl (by decide) rfl (s0_602 H) rfl fun D =>
      j_pf (pc := 369) (a := 602) D rfl rfl rfl (s0_602 H) rfl rfl (gy (by decide)) (gy rfl) fun h3 eh3 S D =>
      have T := fj_hs_ok H.1 S
      have H := shp_st H T
      j_aldn (pc := 372) D rfl rfl rfl fun D =>
      j_gf (pc := 373) (a := 602) D rfl rfl (by decide) rfl (s0_602 H) rfl fun D =>
      j_iret D rt_709)
theorem m_709 (d : Nat) {h : fi_H} (H : Shp h) : fj_run (d + 1) 709 h [(4, 602)] =
  lt_ (fi_upd h 569 602 0 0) fun h1 =>
  c_709_7 d 0 h1 := by
  rw [fj_run_eq d (by decide) h [(4, 602)] (Nat.le_of_ble_eq_true (by rw [nl_709]; rfl))]
  show gG (fj_run d) 709 0 [(0, (4, 602))] [] h = _
  exact
    have D : fk_D 709 [(0, none, .aload_n 0, 1, 0, 0, 0), (1, none, .iconst 0, 1, 0, 0, 0), (2, none, .putfield 1271, 3, 569, 129, 10), (5, none, .iconst 0, 1, 0, 0, 0), (6, none, .istore_n 1, 1, 0, 0, 0)] := fq_of2 cd_709 ow_709 cl_709 rfl (pc := 0) (by decide +kernel)
    j_aldn (pc := 0) D rfl rfl rfl fun D =>
    j_ic (pc := 1) D rfl fun D =>
    j_pf (pc := 2) (a := 602) D rfl rfl rfl (s0_602 H) rfl rfl (gy (by decide)) (gy rfl) fun h1 eh1 S D =>
    have T := fj_hs_ok H.1 S
    have H := shp_st H T
    j_ic (pc := 5) D rfl fun D =>
    j_istn (pc := 6) (L' := [(1, (0, 0)), (0, (4, 602))]) D rfl nl_709 rfl rfl fun D =>
    fk_jump cut_709_7 rfl rfl
/-! 710 StatuteHouseModel.putText(Z)V -/
theorem cd_710 : fi_code 710 = prog_69_method_231_code := rfl
theorem hx_710 : ∀ pc, fi_hat 710 pc = none := fun pc => by unfold fi_hat; rw [show fi_hh 710 = [] from rfl]; rfl
theorem rt_710 : fi_ret 710 = none := rfl
theorem nl_710 : fi_nl 710 = 2 := rfl
theorem ow_710 : fi_ow 710 = 29 := rfl
theorem cl_710 : fj_cutT.getD 710 [] = [(71, [0])] := rfl
theorem cut_710_71 : fj_cut 710 71 = some [0] := by decide +kernel
noncomputable def c_710_71 (d : Nat) (h : fi_H) : fk_R := gG (fj_run d) 710 71 [(0, (4, 602))] [] h
theorem e_710_71 (d : Nat) {h : fi_H} (H : Shp h) : c_710_71 d h =
  cv_ (fj_run d 696 h [(4, 602), (0, 58)])
    (fun h1 =>
    cv_ (fj_run d 696 h1 [(4, 602), (0, 32)])
      (fun h4 =>
      some (.inl none, h4))
      (fun q6 h4 => tx_ q6 h4))
    (fun q3 h1 => tx_ q3 h1) := by
  unfold c_710_71
  exact
    have D : fk_D 710 [(71, some [0], .aload_n 0, 1, 0, 0, 0), (72, none, .bipush 58, 2, 0, 58, 0), (74, none, .invokevirtual 1274, 3, 1, 475, 0), (77, none, .aload_n 0, 1, 0, 0, 0), (78, none, .bipush 32, 2, 0, 32, 0), (80, none, .invokevirtual 1274, 3, 1, 475, 0), (83, none, .return_, 1, 0, 0, 0)] := fq_of2 cd_710 ow_710 cl_710 rfl (pc := 71) (by decide +kernel)
    j_aldn (pc := 71) D rfl rfl rfl fun D =>
    j_bp (pc := 72) D rfl fun D =>
    j_ivv (pc := 74) (m := 696) (dd := 475) (a := [(0, 58)]) (rest := []) D rfl rfl rfl rfl rfl (by decide) (s0_602 H) (by decide +kernel) (fun h1 e1 D =>
      have T := fj_run_ok _ _ _ _ _ _ H.1 e1
      have H := shp_st H T
      j_aldn (pc := 77) D rfl rfl rfl fun D =>
      j_bp (pc := 78) D rfl fun D =>
      j_ivv (pc := 80) (m := 696) (dd := 475) (a := [(0, 32)]) (rest := []) D rfl rfl rfl rfl rfl (by decide) (s0_602 H) (by decide +kernel) (fun h4 e1 D =>
        have T := fj_run_ok _ _ _ _ _ _ H.1 e1
        have H := shp_st H T
        j_vret D rt_710) (fun q6 h4 e1 =>
        j_tx (hx_710 _))) (fun q3 h1 e1 =>
      j_tx (hx_710 _))
theorem m_710 (d : Nat) (x1 : Int) {h : fi_H} (H : Shp h) : fj_run (d + 1) 710 h [(4, 602), (0, x1)] =
  if x1 = 0 then
    cv_ (fj_run d 696 h [(4, 602), (0, 110)])
      (fun h1 =>
      cv_ (fj_run d 696 h1 [(4, 602), (0, 111)])
        (fun h4 =>
        some (.inl none, h4))
        (fun q6 h4 => tx_ q6 h4))
      (fun q3 h1 => tx_ q3 h1)
  else
    cv_ (fj_run d 696 h [(4, 602), (0, 103)])
      (fun h7 =>
      cv_ (fj_run d 696 h7 [(4, 602), (0, 105)])
        (fun h10 =>
        cv_ (fj_run d 696 h10 [(4, 602), (0, 118)])
          (fun h13 =>
          cv_ (fj_run d 696 h13 [(4, 602), (0, 101)])
            (fun h16 =>
            cv_ (fj_run d 696 h16 [(4, 602), (0, 115)])
              (fun h19 =>
              cv_ (fj_run d 696 h19 [(4, 602), (0, 32)])
                (fun h22 =>
                cv_ (fj_run d 696 h22 [(4, 602), (0, 119)])
                  (fun h25 =>
                  cv_ (fj_run d 696 h25 [(4, 602), (0, 97)])
                    (fun h28 =>
                    cv_ (fj_run d 696 h28 [(4, 602), (0, 121)])
                      (fun h31 =>
                      c_710_71 d h31)
                      (fun q33 h31 => tx_ q33 h31))
                    (fun q30 h28 => tx_ q30 h28))
                  (fun q27 h25 => tx_ q27 h25))
                (fun q24 h22 => tx_ q24 h22))
              (fun q21 h19 => tx_ q21 h19))
            (fun q18 h16 => tx_ q18 h16))
          (fun q15 h13 => tx_ q15 h13))
        (fun q12 h10 => tx_ q12 h10))
      (fun q9 h7 => tx_ q9 h7) := by
  rw [fj_run_eq d (by decide) h [(4, 602), (0, x1)] (Nat.le_of_ble_eq_true (by rw [nl_710]; rfl))]
  show gG (fj_run d) 710 0 [(0, (4, 602)), (1, (0, x1))] [] h = _
  exact
    have D : fk_D 710 [(0, none, .iload_n 1, 1, 0, 0, 0), (1, none, .ifCond .ne 16, 3, 17, 0, 0), (4, none, .aload_n 0, 1, 0, 0, 0), (5, none, .bipush 110, 2, 0, 110, 0), (7, none, .invokevirtual 1274, 3, 1, 475, 0), (10, none, .aload_n 0, 1, 0, 0, 0), (11, none, .bipush 111, 2, 0, 111, 0), (13, none, .invokevirtual 1274, 3, 1, 475, 0), (16, none, .return_, 1, 0, 0, 0)] := fq_of2 cd_710 ow_710 cl_710 rfl (pc := 0) (by decide +kernel)
    j_ildn (pc := 0) D rfl rfl rfl fun D =>
    j_ifne (pc := 1) D rfl (fun q D =>
      j_aldn (pc := 4) D rfl rfl rfl fun D =>
      j_bp (pc := 5) D rfl fun D =>
      j_ivv (pc := 7) (m := 696) (dd := 475) (a := [(0, 110)]) (rest := []) D rfl rfl rfl rfl rfl (by decide) (s0_602 H) (by decide +kernel) (fun h1 e1 D =>
        have T := fj_run_ok _ _ _ _ _ _ H.1 e1
        have H := shp_st H T
        j_aldn (pc := 10) D rfl rfl rfl fun D =>
        j_bp (pc := 11) D rfl fun D =>
        j_ivv (pc := 13) (m := 696) (dd := 475) (a := [(0, 111)]) (rest := []) D rfl rfl rfl rfl rfl (by decide) (s0_602 H) (by decide +kernel) (fun h4 e1 D =>
          have T := fj_run_ok _ _ _ _ _ _ H.1 e1
          have H := shp_st H T
          j_vret D rt_710) (fun q6 h4 e1 =>
          j_tx (hx_710 _))) (fun q3 h1 e1 =>
        j_tx (hx_710 _))) (fun q =>
      have D : fk_D 710 [(17, none, .aload_n 0, 1, 0, 0, 0), (18, none, .bipush 103, 2, 0, 103, 0), (20, none, .invokevirtual 1274, 3, 1, 475, 0), (23, none, .aload_n 0, 1, 0, 0, 0), (24, none, .bipush 105, 2, 0, 105, 0), (26, none, .invokevirtual 1274, 3, 1, 475, 0), (29, none, .aload_n 0, 1, 0, 0, 0), (30, none, .bipush 118, 2, 0, 118, 0), (32, none, .invokevirtual 1274, 3, 1, 475, 0), (35, none, .aload_n 0, 1, 0, 0, 0), (36, none, .bipush 101, 2, 0, 101, 0), (38, none, .invokevirtual 1274, 3, 1, 475, 0), (41, none, .aload_n 0, 1, 0, 0, 0), (42, none, .bipush 115, 2, 0, 115, 0), (44, none, .invokevirtual 1274, 3, 1, 475, 0), (47, none, .aload_n 0, 1, 0, 0, 0), (48, none, .bipush 32, 2, 0, 32, 0), (50, none, .invokevirtual 1274, 3, 1, 475, 0), (53, none, .aload_n 0, 1, 0, 0, 0), (54, none, .bipush 119, 2, 0, 119, 0)] := fq_of2 cd_710 ow_710 cl_710 rfl (pc := 17) (by decide +kernel)
      j_aldn (pc := 17) D rfl rfl rfl fun D =>
      j_bp (pc := 18) D rfl fun D =>
      j_ivv (pc := 20) (m := 696) (dd := 475) (a := [(0, 103)]) (rest := []) D rfl rfl rfl rfl rfl (by decide) (s0_602 H) (by decide +kernel) (fun h7 e1 D =>
        have T := fj_run_ok _ _ _ _ _ _ H.1 e1
        have H := shp_st H T
        j_aldn (pc := 23) D rfl rfl rfl fun D =>
        j_bp (pc := 24) D rfl fun D =>
        j_ivv (pc := 26) (m := 696) (dd := 475) (a := [(0, 105)]) (rest := []) D rfl rfl rfl rfl rfl (by decide) (s0_602 H) (by decide +kernel) (fun h10 e1 D =>
          have T := fj_run_ok _ _ _ _ _ _ H.1 e1
          have H := shp_st H T
          j_aldn (pc := 29) D rfl rfl rfl fun D =>
          j_bp (pc := 30) D rfl fun D =>
          j_ivv (pc := 32) (m := 696) (dd := 475) (a := [(0, 118)]) (rest := []) D rfl rfl rfl rfl rfl (by decide) (s0_602 H) (by decide +kernel) (fun h13 e1 D =>
            have T := fj_run_ok _ _ _ _ _ _ H.1 e1
            have H := shp_st H T
            j_aldn (pc := 35) D rfl rfl rfl fun D =>
            j_bp (pc := 36) D rfl fun D =>
            j_ivv (pc := 38) (m := 696) (dd := 475) (a := [(0, 101)]) (rest := []) D rfl rfl rfl rfl rfl (by decide) (s0_602 H) (by decide +kernel) (fun h16 e1 D =>
              have T := fj_run_ok _ _ _ _ _ _ H.1 e1
              have H := shp_st H T
              j_aldn (pc := 41) D rfl rfl rfl fun D =>
              j_bp (pc := 42) D rfl fun D =>
              j_ivv (pc := 44) (m := 696) (dd := 475) (a := [(0, 115)]) (rest := []) D rfl rfl rfl rfl rfl (by decide) (s0_602 H) (by decide +kernel) (fun h19 e1 D =>
                have T := fj_run_ok _ _ _ _ _ _ H.1 e1
                have H := shp_st H T
                j_aldn (pc := 47) D rfl rfl rfl fun D =>
                j_bp (pc := 48) D rfl fun D =>
                j_ivv (pc := 50) (m := 696) (dd := 475) (a := [(0, 32)]) (rest := []) D rfl rfl rfl rfl rfl (by decide) (s0_602 H) (by decide +kernel) (fun h22 e1 D =>
                  have T := fj_run_ok _ _ _ _ _ _ H.1 e1
                  have H := shp_st H T
                  j_aldn (pc := 53) D rfl rfl rfl fun D =>
                  j_bp (pc := 54) D rfl fun D =>
                  have D : fk_D 710 [(56, none, .invokevirtual 1274, 3, 1, 475, 0), (59, none, .aload_n 0, 1, 0, 0, 0), (60, none, .bipush 97, 2, 0, 97, 0), (62, none, .invokevirtual 1274, 3, 1, 475, 0), (65, none, .aload_n 0, 1, 0, 0, 0), (66, none, .bipush 121, 2, 0, 121, 0), (68, none, .invokevirtual 1274, 3, 1, 475, 0)] := fq_of2 cd_710 ow_710 cl_710 rfl (pc := 56) (by decide +kernel)
                  j_ivv (pc := 56) (m := 696) (dd := 475) (a := [(0, 119)]) (rest := []) D rfl rfl rfl rfl rfl (by decide) (s0_602 H) (by decide +kernel) (fun h25 e1 D =>
                    have T := fj_run_ok _ _ _ _ _ _ H.1 e1
                    have H := shp_st H T
                    j_aldn (pc := 59) D rfl rfl rfl fun D =>
                    j_bp (pc := 60) D rfl fun D =>
                    j_ivv (pc := 62) (m := 696) (dd := 475) (a := [(0, 97)]) (rest := []) D rfl rfl rfl rfl rfl (by decide) (s0_602 H) (by decide +kernel) (fun h28 e1 D =>
                      have T := fj_run_ok _ _ _ _ _ _ H.1 e1
                      have H := shp_st H T
                      j_aldn (pc := 65) D rfl rfl rfl fun D =>
                      j_bp (pc := 66) D rfl fun D =>
                      j_ivv (pc := 68) (m := 696) (dd := 475) (a := [(0, 121)]) (rest := []) D rfl rfl rfl rfl rfl (by decide) (s0_602 H) (by decide +kernel) (fun h31 e1 D =>
                        have T := fj_run_ok _ _ _ _ _ _ H.1 e1
                        have H := shp_st H T
                        fk_jump cut_710_71 rfl rfl) (fun q33 h31 e1 =>
                        j_tx (hx_710 _))) (fun q30 h28 e1 =>
                      j_tx (hx_710 _))) (fun q27 h25 e1 =>
                    j_tx (hx_710 _))) (fun q24 h22 e1 =>
                  j_tx (hx_710 _))) (fun q21 h19 e1 =>
                j_tx (hx_710 _))) (fun q18 h16 e1 =>
              j_tx (hx_710 _))) (fun q15 h13 e1 =>
            j_tx (hx_710 _))) (fun q12 h10 e1 =>
          j_tx (hx_710 _))) (fun q9 h7 e1 =>
        j_tx (hx_710 _)))
