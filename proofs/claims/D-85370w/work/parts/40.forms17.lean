/-! forms of methods 482..497, printed by gen/forms.py -/
set_option maxRecDepth 100000
/-! 482 StatuteHouseModel.<init>()V -/
theorem cd_482 : fi_code 482 = prog_69_method_2_code := rfl
theorem hx_482 : ∀ pc, fi_hat 482 pc = none := fun pc => by unfold fi_hat; rw [show fi_hh 482 = [] from rfl]; rfl
theorem rt_482 : fi_ret 482 = none := rfl
theorem nl_482 : fi_nl 482 = 1 := rfl
theorem ow_482 : fi_ow 482 = 29 := rfl
theorem cl_482 : fj_cutT.getD 482 [] = [(69, [0]), (134, [0]), (206, [0]), (278, [0]), (350, [0]), (420, [0]), (496, [0]), (557, [0]), (627, [0]), (699, [0]), (768, [0]), (836, [0]), (907, [0]), (976, [0]), (1041, [0])] := rfl
theorem cut_482_69 : fj_cut 482 69 = some [0] := by decide +kernel
noncomputable def c_482_69 (d : Nat) (x0 : Int) (h : fi_H) : fk_R := gG (fj_run d) 482 69 [(0, (4, x0))] [] h
theorem cut_482_134 : fj_cut 482 134 = some [0] := by decide +kernel
noncomputable def c_482_134 (d : Nat) (x0 : Int) (h : fi_H) : fk_R := gG (fj_run d) 482 134 [(0, (4, x0))] [] h
theorem cut_482_206 : fj_cut 482 206 = some [0] := by decide +kernel
noncomputable def c_482_206 (d : Nat) (x0 : Int) (h : fi_H) : fk_R := gG (fj_run d) 482 206 [(0, (4, x0))] [] h
theorem cut_482_278 : fj_cut 482 278 = some [0] := by decide +kernel
noncomputable def c_482_278 (d : Nat) (x0 : Int) (h : fi_H) : fk_R := gG (fj_run d) 482 278 [(0, (4, x0))] [] h
theorem cut_482_350 : fj_cut 482 350 = some [0] := by decide +kernel
noncomputable def c_482_350 (d : Nat) (x0 : Int) (h : fi_H) : fk_R := gG (fj_run d) 482 350 [(0, (4, x0))] [] h
theorem cut_482_420 : fj_cut 482 420 = some [0] := by decide +kernel
noncomputable def c_482_420 (d : Nat) (x0 : Int) (h : fi_H) : fk_R := gG (fj_run d) 482 420 [(0, (4, x0))] [] h
theorem cut_482_496 : fj_cut 482 496 = some [0] := by decide +kernel
noncomputable def c_482_496 (d : Nat) (x0 : Int) (h : fi_H) : fk_R := gG (fj_run d) 482 496 [(0, (4, x0))] [] h
theorem cut_482_557 : fj_cut 482 557 = some [0] := by decide +kernel
noncomputable def c_482_557 (d : Nat) (x0 : Int) (h : fi_H) : fk_R := gG (fj_run d) 482 557 [(0, (4, x0))] [] h
theorem cut_482_627 : fj_cut 482 627 = some [0] := by decide +kernel
noncomputable def c_482_627 (d : Nat) (x0 : Int) (h : fi_H) : fk_R := gG (fj_run d) 482 627 [(0, (4, x0))] [] h
theorem cut_482_699 : fj_cut 482 699 = some [0] := by decide +kernel
noncomputable def c_482_699 (d : Nat) (x0 : Int) (h : fi_H) : fk_R := gG (fj_run d) 482 699 [(0, (4, x0))] [] h
theorem cut_482_768 : fj_cut 482 768 = some [0] := by decide +kernel
noncomputable def c_482_768 (d : Nat) (x0 : Int) (h : fi_H) : fk_R := gG (fj_run d) 482 768 [(0, (4, x0))] [] h
theorem cut_482_836 : fj_cut 482 836 = some [0] := by decide +kernel
noncomputable def c_482_836 (d : Nat) (x0 : Int) (h : fi_H) : fk_R := gG (fj_run d) 482 836 [(0, (4, x0))] [] h
theorem cut_482_907 : fj_cut 482 907 = some [0] := by decide +kernel
noncomputable def c_482_907 (d : Nat) (x0 : Int) (h : fi_H) : fk_R := gG (fj_run d) 482 907 [(0, (4, x0))] [] h
theorem cut_482_976 : fj_cut 482 976 = some [0] := by decide +kernel
noncomputable def c_482_976 (d : Nat) (x0 : Int) (h : fi_H) : fk_R := gG (fj_run d) 482 976 [(0, (4, x0))] [] h
theorem cut_482_1041 : fj_cut 482 1041 = some [0] := by decide +kernel
noncomputable def c_482_1041 (d : Nat) (x0 : Int) (h : fi_H) : fk_R := gG (fj_run d) 482 1041 [(0, (4, x0))] [] h
theorem e_482_69 (d : Nat) (x0 : Int) {h : fi_H} (H : Sh0 h) (hk : h 0 x0.toNat 0 = 129) : c_482_69 d x0 h =
  nw_ h 10 41 41 fun r1 h2 =>
  if 302 < x0 then
  if h2 406 x0.toNat 0 = 0 then
  lt_ (fi_upd h2 406 x0.toNat 0 r1) fun h3 =>
  nw_ h3 10 41 41 fun r4 h5 =>
  if 302 < x0 then
  if h5 407 x0.toNat 0 = 0 then
  lt_ (fi_upd h5 407 x0.toNat 0 r4) fun h6 =>
  nw_ h6 10 41 41 fun r7 h8 =>
  if 302 < x0 then
  if h8 408 x0.toNat 0 = 0 then
  lt_ (fi_upd h8 408 x0.toNat 0 r7) fun h9 =>
  nw_ h9 10 41 41 fun r10 h11 =>
  if 302 < x0 then
  if h11 409 x0.toNat 0 = 0 then
  lt_ (fi_upd h11 409 x0.toNat 0 r10) fun h12 =>
  nw_ h12 4 41 41 fun r13 h14 =>
  if 302 < x0 then
  if h14 410 x0.toNat 0 = 0 then
  lt_ (fi_upd h14 410 x0.toNat 0 r13) fun h15 =>
  nw_ h15 11 41 41 fun r16 h17 =>
  if 302 < x0 then
  if h17 411 x0.toNat 0 = 0 then
  lt_ (fi_upd h17 411 x0.toNat 0 r16) fun h18 =>
  nw_ h18 11 41 41 fun r19 h20 =>
  if 302 < x0 then
  if h20 412 x0.toNat 0 = 0 then
  lt_ (fi_upd h20 412 x0.toNat 0 r19) fun h21 =>
  nw_ h21 10 9300 9300 fun r22 h23 =>
  if 302 < x0 then
  if h23 418 x0.toNat 0 = 0 then
  lt_ (fi_upd h23 418 x0.toNat 0 r22) fun h24 =>
  c_482_134 d x0 h24
  else none
  else none
  else none
  else none
  else none
  else none
  else none
  else none
  else none
  else none
  else none
  else none
  else none
  else none
  else none
  else none := by
  unfold c_482_69
  exact
    have D : fk_D 482 [(69, some [0], .aload_n 0, 1, 0, 0, 0), (70, none, .bipush 41, 2, 0, 41, 0), (72, none, .newarray .int, 2, 0, 0, 0), (74, none, .putfield 40, 3, 406, 129, 112), (77, none, .aload_n 0, 1, 0, 0, 0), (78, none, .bipush 41, 2, 0, 41, 0), (80, none, .newarray .int, 2, 0, 0, 0), (82, none, .putfield 43, 3, 407, 129, 112), (85, none, .aload_n 0, 1, 0, 0, 0), (86, none, .bipush 41, 2, 0, 41, 0), (88, none, .newarray .int, 2, 0, 0, 0), (90, none, .putfield 46, 3, 408, 129, 112), (93, none, .aload_n 0, 1, 0, 0, 0), (94, none, .bipush 41, 2, 0, 41, 0), (96, none, .newarray .int, 2, 0, 0, 0), (98, none, .putfield 49, 3, 409, 129, 112), (101, none, .aload_n 0, 1, 0, 0, 0), (102, none, .bipush 41, 2, 0, 41, 0), (104, none, .newarray .boolean, 2, 0, 0, 0), (106, none, .putfield 52, 3, 410, 129, 112)] := fq_of2 cd_482 ow_482 cl_482 rfl (pc := 69) (by decide +kernel)
    j_aldn (pc := 69) D rfl rfl rfl fun D =>
    j_bp (pc := 70) D rfl fun D =>
    j_na (pc := 72) (k := 10) (N := 65536) D rfl rfl rfl (gy (by decide)) fun r1 h2 er eh2 S q D =>
    have gt_r1 := nw_gt H.1 er
    have kc_r1 := nw_cls H.1 er eh2
    have kl_r1 := nw_len H.1 er eh2
    have T := fj_hs_ok H.1 S
    have hk := cls_st H.1 T.2 hk (by decide)
    have H := sh0_st H T
    j_pfF (pc := 74) (a := x0.toNat) (ty := 12) D rfl rfl rfl hk ⟨rfl, rfl⟩ rfl gn (gy rfl) gn fun h3 eh3 S D =>
    have T := fj_hs_ok H.1 S
    have hk := cls_st H.1 T.2 hk (by decide)
    have H := sh0_st H T
    j_aldn (pc := 77) D rfl rfl rfl fun D =>
    j_bp (pc := 78) D rfl fun D =>
    j_na (pc := 80) (k := 10) (N := 65536) D rfl rfl rfl (gy (by decide)) fun r4 h5 er eh5 S q D =>
    have gt_r4 := nw_gt H.1 er
    have kc_r4 := nw_cls H.1 er eh5
    have kl_r4 := nw_len H.1 er eh5
    have T := fj_hs_ok H.1 S
    have hk := cls_st H.1 T.2 hk (by decide)
    have H := sh0_st H T
    j_pfF (pc := 82) (a := x0.toNat) (ty := 12) D rfl rfl rfl hk ⟨rfl, rfl⟩ rfl gn (gy rfl) gn fun h6 eh6 S D =>
    have T := fj_hs_ok H.1 S
    have hk := cls_st H.1 T.2 hk (by decide)
    have H := sh0_st H T
    j_aldn (pc := 85) D rfl rfl rfl fun D =>
    j_bp (pc := 86) D rfl fun D =>
    j_na (pc := 88) (k := 10) (N := 65536) D rfl rfl rfl (gy (by decide)) fun r7 h8 er eh8 S q D =>
    have gt_r7 := nw_gt H.1 er
    have kc_r7 := nw_cls H.1 er eh8
    have kl_r7 := nw_len H.1 er eh8
    have T := fj_hs_ok H.1 S
    have hk := cls_st H.1 T.2 hk (by decide)
    have H := sh0_st H T
    j_pfF (pc := 90) (a := x0.toNat) (ty := 12) D rfl rfl rfl hk ⟨rfl, rfl⟩ rfl gn (gy rfl) gn fun h9 eh9 S D =>
    have T := fj_hs_ok H.1 S
    have hk := cls_st H.1 T.2 hk (by decide)
    have H := sh0_st H T
    j_aldn (pc := 93) D rfl rfl rfl fun D =>
    j_bp (pc := 94) D rfl fun D =>
    j_na (pc := 96) (k := 10) (N := 65536) D rfl rfl rfl (gy (by decide)) fun r10 h11 er eh11 S q D =>
    have gt_r10 := nw_gt H.1 er
    have kc_r10 := nw_cls H.1 er eh11
    have kl_r10 := nw_len H.1 er eh11
    have T := fj_hs_ok H.1 S
    have hk := cls_st H.1 T.2 hk (by decide)
    have H := sh0_st H T
    j_pfF (pc := 98) (a := x0.toNat) (ty := 12) D rfl rfl rfl hk ⟨rfl, rfl⟩ rfl gn (gy rfl) gn fun h12 eh12 S D =>
    have T := fj_hs_ok H.1 S
    have hk := cls_st H.1 T.2 hk (by decide)
    have H := sh0_st H T
    j_aldn (pc := 101) D rfl rfl rfl fun D =>
    j_bp (pc := 102) D rfl fun D =>
    j_na (pc := 104) (k := 4) (N := 65536) D rfl rfl rfl (gy (by decide)) fun r13 h14 er eh14 S q D =>
    have gt_r13 := nw_gt H.1 er
    have kc_r13 := nw_cls H.1 er eh14
    have kl_r13 := nw_len H.1 er eh14
    have T := fj_hs_ok H.1 S
    have hk := cls_st H.1 T.2 hk (by decide)
    have H := sh0_st H T
    j_pfF (pc := 106) (a := x0.toNat) (ty := 12) D rfl rfl rfl hk ⟨rfl, rfl⟩ rfl gn (gy rfl) gn fun h15 eh15 S D =>
    have T := fj_hs_ok H.1 S
    have hk := cls_st H.1 T.2 hk (by decide)
    have H := sh0_st H T
    have D : fk_D 482 [(109, none, .aload_n 0, 1, 0, 0, 0), (110, none, .bipush 41, 2, 0, 41, 0), (112, none, .newarray .long, 2, 0, 0, 0), (114, none, .putfield 56, 3, 411, 129, 112), (117, none, .aload_n 0, 1, 0, 0, 0), (118, none, .bipush 41, 2, 0, 41, 0), (120, none, .newarray .long, 2, 0, 0, 0), (122, none, .putfield 59, 3, 412, 129, 112), (125, none, .aload_n 0, 1, 0, 0, 0), (126, none, .sipush 9300, 3, 0, 9300, 0), (129, none, .newarray .int, 2, 0, 0, 0), (131, none, .putfield 62, 3, 418, 129, 112)] := fq_of2 cd_482 ow_482 cl_482 rfl (pc := 109) (by decide +kernel)
    j_aldn (pc := 109) D rfl rfl rfl fun D =>
    j_bp (pc := 110) D rfl fun D =>
    j_na (pc := 112) (k := 11) (N := 65536) D rfl rfl rfl (gy (by decide)) fun r16 h17 er eh17 S q D =>
    have gt_r16 := nw_gt H.1 er
    have kc_r16 := nw_cls H.1 er eh17
    have kl_r16 := nw_len H.1 er eh17
    have T := fj_hs_ok H.1 S
    have hk := cls_st H.1 T.2 hk (by decide)
    have H := sh0_st H T
    j_pfF (pc := 114) (a := x0.toNat) (ty := 12) D rfl rfl rfl hk ⟨rfl, rfl⟩ rfl gn (gy rfl) gn fun h18 eh18 S D =>
    have T := fj_hs_ok H.1 S
    have hk := cls_st H.1 T.2 hk (by decide)
    have H := sh0_st H T
    j_aldn (pc := 117) D rfl rfl rfl fun D =>
    j_bp (pc := 118) D rfl fun D =>
    j_na (pc := 120) (k := 11) (N := 65536) D rfl rfl rfl (gy (by decide)) fun r19 h20 er eh20 S q D =>
    have gt_r19 := nw_gt H.1 er
    have kc_r19 := nw_cls H.1 er eh20
    have kl_r19 := nw_len H.1 er eh20
    have T := fj_hs_ok H.1 S
    have hk := cls_st H.1 T.2 hk (by decide)
    have H := sh0_st H T
    j_pfF (pc := 122) (a := x0.toNat) (ty := 12) D rfl rfl rfl hk ⟨rfl, rfl⟩ rfl gn (gy rfl) gn fun h21 eh21 S D =>
    have T := fj_hs_ok H.1 S
    have hk := cls_st H.1 T.2 hk (by decide)
    have H := sh0_st H T
    j_aldn (pc := 125) D rfl rfl rfl fun D =>
    j_sp (pc := 126) D rfl fun D =>
    j_na (pc := 129) (k := 10) (N := 65536) D rfl rfl rfl (gy (by decide)) fun r22 h23 er eh23 S q D =>
    have gt_r22 := nw_gt H.1 er
    have kc_r22 := nw_cls H.1 er eh23
    have kl_r22 := nw_len H.1 er eh23
    have T := fj_hs_ok H.1 S
    have hk := cls_st H.1 T.2 hk (by decide)
    have H := sh0_st H T
    j_pfF (pc := 131) (a := x0.toNat) (ty := 12) D rfl rfl rfl hk ⟨rfl, rfl⟩ rfl gn (gy rfl) gn fun h24 eh24 S D =>
    have T := fj_hs_ok H.1 S
    have hk := cls_st H.1 T.2 hk (by decide)
    have H := sh0_st H T
    fk_jump cut_482_134 rfl rfl
theorem e_482_134 (d : Nat) (x0 : Int) {h : fi_H} (H : Sh0 h) (hk : h 0 x0.toNat 0 = 129) : c_482_134 d x0 h =
  nw_ h 10 9300 9300 fun r1 h2 =>
  if 302 < x0 then
  if h2 419 x0.toNat 0 = 0 then
  lt_ (fi_upd h2 419 x0.toNat 0 r1) fun h3 =>
  nw_ h3 10 9300 9300 fun r4 h5 =>
  if 302 < x0 then
  if h5 420 x0.toNat 0 = 0 then
  lt_ (fi_upd h5 420 x0.toNat 0 r4) fun h6 =>
  nw_ h6 10 9300 9300 fun r7 h8 =>
  if 302 < x0 then
  if h8 421 x0.toNat 0 = 0 then
  lt_ (fi_upd h8 421 x0.toNat 0 r7) fun h9 =>
  nw_ h9 10 9300 9300 fun r10 h11 =>
  if 302 < x0 then
  if h11 422 x0.toNat 0 = 0 then
  lt_ (fi_upd h11 422 x0.toNat 0 r10) fun h12 =>
  nw_ h12 10 9300 9300 fun r13 h14 =>
  if 302 < x0 then
  if h14 423 x0.toNat 0 = 0 then
  lt_ (fi_upd h14 423 x0.toNat 0 r13) fun h15 =>
  nw_ h15 11 9300 9300 fun r16 h17 =>
  if 302 < x0 then
  if h17 424 x0.toNat 0 = 0 then
  lt_ (fi_upd h17 424 x0.toNat 0 r16) fun h18 =>
  nw_ h18 11 9300 9300 fun r19 h20 =>
  if 302 < x0 then
  if h20 425 x0.toNat 0 = 0 then
  lt_ (fi_upd h20 425 x0.toNat 0 r19) fun h21 =>
  nw_ h21 10 560 560 fun r22 h23 =>
  if 302 < x0 then
  if h23 428 x0.toNat 0 = 0 then
  lt_ (fi_upd h23 428 x0.toNat 0 r22) fun h24 =>
  c_482_206 d x0 h24
  else none
  else none
  else none
  else none
  else none
  else none
  else none
  else none
  else none
  else none
  else none
  else none
  else none
  else none
  else none
  else none := by
  unfold c_482_134
  exact
    have D : fk_D 482 [(134, some [0], .aload_n 0, 1, 0, 0, 0), (135, none, .sipush 9300, 3, 0, 9300, 0), (138, none, .newarray .int, 2, 0, 0, 0), (140, none, .putfield 65, 3, 419, 129, 112), (143, none, .aload_n 0, 1, 0, 0, 0), (144, none, .sipush 9300, 3, 0, 9300, 0), (147, none, .newarray .int, 2, 0, 0, 0), (149, none, .putfield 68, 3, 420, 129, 112), (152, none, .aload_n 0, 1, 0, 0, 0), (153, none, .sipush 9300, 3, 0, 9300, 0), (156, none, .newarray .int, 2, 0, 0, 0), (158, none, .putfield 71, 3, 421, 129, 112), (161, none, .aload_n 0, 1, 0, 0, 0), (162, none, .sipush 9300, 3, 0, 9300, 0), (165, none, .newarray .int, 2, 0, 0, 0), (167, none, .putfield 74, 3, 422, 129, 112), (170, none, .aload_n 0, 1, 0, 0, 0), (171, none, .sipush 9300, 3, 0, 9300, 0), (174, none, .newarray .int, 2, 0, 0, 0), (176, none, .putfield 77, 3, 423, 129, 112)] := fq_of2 cd_482 ow_482 cl_482 rfl (pc := 134) (by decide +kernel)
    j_aldn (pc := 134) D rfl rfl rfl fun D =>
    j_sp (pc := 135) D rfl fun D =>
    j_na (pc := 138) (k := 10) (N := 65536) D rfl rfl rfl (gy (by decide)) fun r1 h2 er eh2 S q D =>
    have gt_r1 := nw_gt H.1 er
    have kc_r1 := nw_cls H.1 er eh2
    have kl_r1 := nw_len H.1 er eh2
    have T := fj_hs_ok H.1 S
    have hk := cls_st H.1 T.2 hk (by decide)
    have H := sh0_st H T
    j_pfF (pc := 140) (a := x0.toNat) (ty := 12) D rfl rfl rfl hk ⟨rfl, rfl⟩ rfl gn (gy rfl) gn fun h3 eh3 S D =>
    have T := fj_hs_ok H.1 S
    have hk := cls_st H.1 T.2 hk (by decide)
    have H := sh0_st H T
    j_aldn (pc := 143) D rfl rfl rfl fun D =>
    j_sp (pc := 144) D rfl fun D =>
    j_na (pc := 147) (k := 10) (N := 65536) D rfl rfl rfl (gy (by decide)) fun r4 h5 er eh5 S q D =>
    have gt_r4 := nw_gt H.1 er
    have kc_r4 := nw_cls H.1 er eh5
    have kl_r4 := nw_len H.1 er eh5
    have T := fj_hs_ok H.1 S
    have hk := cls_st H.1 T.2 hk (by decide)
    have H := sh0_st H T
    j_pfF (pc := 149) (a := x0.toNat) (ty := 12) D rfl rfl rfl hk ⟨rfl, rfl⟩ rfl gn (gy rfl) gn fun h6 eh6 S D =>
    have T := fj_hs_ok H.1 S
    have hk := cls_st H.1 T.2 hk (by decide)
    have H := sh0_st H T
    j_aldn (pc := 152) D rfl rfl rfl fun D =>
    j_sp (pc := 153) D rfl fun D =>
    j_na (pc := 156) (k := 10) (N := 65536) D rfl rfl rfl (gy (by decide)) fun r7 h8 er eh8 S q D =>
    have gt_r7 := nw_gt H.1 er
    have kc_r7 := nw_cls H.1 er eh8
    have kl_r7 := nw_len H.1 er eh8
    have T := fj_hs_ok H.1 S
    have hk := cls_st H.1 T.2 hk (by decide)
    have H := sh0_st H T
    j_pfF (pc := 158) (a := x0.toNat) (ty := 12) D rfl rfl rfl hk ⟨rfl, rfl⟩ rfl gn (gy rfl) gn fun h9 eh9 S D =>
    have T := fj_hs_ok H.1 S
    have hk := cls_st H.1 T.2 hk (by decide)
    have H := sh0_st H T
    j_aldn (pc := 161) D rfl rfl rfl fun D =>
    j_sp (pc := 162) D rfl fun D =>
    j_na (pc := 165) (k := 10) (N := 65536) D rfl rfl rfl (gy (by decide)) fun r10 h11 er eh11 S q D =>
    have gt_r10 := nw_gt H.1 er
    have kc_r10 := nw_cls H.1 er eh11
    have kl_r10 := nw_len H.1 er eh11
    have T := fj_hs_ok H.1 S
    have hk := cls_st H.1 T.2 hk (by decide)
    have H := sh0_st H T
    j_pfF (pc := 167) (a := x0.toNat) (ty := 12) D rfl rfl rfl hk ⟨rfl, rfl⟩ rfl gn (gy rfl) gn fun h12 eh12 S D =>
    have T := fj_hs_ok H.1 S
    have hk := cls_st H.1 T.2 hk (by decide)
    have H := sh0_st H T
    j_aldn (pc := 170) D rfl rfl rfl fun D =>
    j_sp (pc := 171) D rfl fun D =>
    j_na (pc := 174) (k := 10) (N := 65536) D rfl rfl rfl (gy (by decide)) fun r13 h14 er eh14 S q D =>
    have gt_r13 := nw_gt H.1 er
    have kc_r13 := nw_cls H.1 er eh14
    have kl_r13 := nw_len H.1 er eh14
    have T := fj_hs_ok H.1 S
    have hk := cls_st H.1 T.2 hk (by decide)
    have H := sh0_st H T
    j_pfF (pc := 176) (a := x0.toNat) (ty := 12) D rfl rfl rfl hk ⟨rfl, rfl⟩ rfl gn (gy rfl) gn fun h15 eh15 S D =>
    have T := fj_hs_ok H.1 S
    have hk := cls_st H.1 T.2 hk (by decide)
    have H := sh0_st H T
    have D : fk_D 482 [(179, none, .aload_n 0, 1, 0, 0, 0), (180, none, .sipush 9300, 3, 0, 9300, 0), (183, none, .newarray .long, 2, 0, 0, 0), (185, none, .putfield 80, 3, 424, 129, 112), (188, none, .aload_n 0, 1, 0, 0, 0), (189, none, .sipush 9300, 3, 0, 9300, 0), (192, none, .newarray .long, 2, 0, 0, 0), (194, none, .putfield 83, 3, 425, 129, 112), (197, none, .aload_n 0, 1, 0, 0, 0), (198, none, .sipush 560, 3, 0, 560, 0), (201, none, .newarray .int, 2, 0, 0, 0), (203, none, .putfield 86, 3, 428, 129, 112)] := fq_of2 cd_482 ow_482 cl_482 rfl (pc := 179) (by decide +kernel)
    j_aldn (pc := 179) D rfl rfl rfl fun D =>
    j_sp (pc := 180) D rfl fun D =>
    j_na (pc := 183) (k := 11) (N := 65536) D rfl rfl rfl (gy (by decide)) fun r16 h17 er eh17 S q D =>
    have gt_r16 := nw_gt H.1 er
    have kc_r16 := nw_cls H.1 er eh17
    have kl_r16 := nw_len H.1 er eh17
    have T := fj_hs_ok H.1 S
    have hk := cls_st H.1 T.2 hk (by decide)
    have H := sh0_st H T
    j_pfF (pc := 185) (a := x0.toNat) (ty := 12) D rfl rfl rfl hk ⟨rfl, rfl⟩ rfl gn (gy rfl) gn fun h18 eh18 S D =>
    have T := fj_hs_ok H.1 S
    have hk := cls_st H.1 T.2 hk (by decide)
    have H := sh0_st H T
    j_aldn (pc := 188) D rfl rfl rfl fun D =>
    j_sp (pc := 189) D rfl fun D =>
    j_na (pc := 192) (k := 11) (N := 65536) D rfl rfl rfl (gy (by decide)) fun r19 h20 er eh20 S q D =>
    have gt_r19 := nw_gt H.1 er
    have kc_r19 := nw_cls H.1 er eh20
    have kl_r19 := nw_len H.1 er eh20
    have T := fj_hs_ok H.1 S
    have hk := cls_st H.1 T.2 hk (by decide)
    have H := sh0_st H T
    j_pfF (pc := 194) (a := x0.toNat) (ty := 12) D rfl rfl rfl hk ⟨rfl, rfl⟩ rfl gn (gy rfl) gn fun h21 eh21 S D =>
    have T := fj_hs_ok H.1 S
    have hk := cls_st H.1 T.2 hk (by decide)
    have H := sh0_st H T
    j_aldn (pc := 197) D rfl rfl rfl fun D =>
    j_sp (pc := 198) D rfl fun D =>
    j_na (pc := 201) (k := 10) (N := 65536) D rfl rfl rfl (gy (by decide)) fun r22 h23 er eh23 S q D =>
    have gt_r22 := nw_gt H.1 er
    have kc_r22 := nw_cls H.1 er eh23
    have kl_r22 := nw_len H.1 er eh23
    have T := fj_hs_ok H.1 S
    have hk := cls_st H.1 T.2 hk (by decide)
    have H := sh0_st H T
    j_pfF (pc := 203) (a := x0.toNat) (ty := 12) D rfl rfl rfl hk ⟨rfl, rfl⟩ rfl gn (gy rfl) gn fun h24 eh24 S D =>
    have T := fj_hs_ok H.1 S
    have hk := cls_st H.1 T.2 hk (by decide)
    have H := sh0_st H T
    fk_jump cut_482_206 rfl rfl
theorem e_482_206 (d : Nat) (x0 : Int) {h : fi_H} (H : Sh0 h) (hk : h 0 x0.toNat 0 = 129) : c_482_206 d x0 h =
  nw_ h 10 560 560 fun r1 h2 =>
  if 302 < x0 then
  if h2 429 x0.toNat 0 = 0 then
  lt_ (fi_upd h2 429 x0.toNat 0 r1) fun h3 =>
  nw_ h3 10 560 560 fun r4 h5 =>
  if 302 < x0 then
  if h5 430 x0.toNat 0 = 0 then
  lt_ (fi_upd h5 430 x0.toNat 0 r4) fun h6 =>
  nw_ h6 10 560 560 fun r7 h8 =>
  if 302 < x0 then
  if h8 431 x0.toNat 0 = 0 then
  lt_ (fi_upd h8 431 x0.toNat 0 r7) fun h9 =>
  nw_ h9 10 560 560 fun r10 h11 =>
  if 302 < x0 then
  if h11 432 x0.toNat 0 = 0 then
  lt_ (fi_upd h11 432 x0.toNat 0 r10) fun h12 =>
  nw_ h12 4 560 560 fun r13 h14 =>
  if 302 < x0 then
  if h14 433 x0.toNat 0 = 0 then
  lt_ (fi_upd h14 433 x0.toNat 0 r13) fun h15 =>
  nw_ h15 11 440 440 fun r16 h17 =>
  if 302 < x0 then
  if h17 435 x0.toNat 0 = 0 then
  lt_ (fi_upd h17 435 x0.toNat 0 r16) fun h18 =>
  nw_ h18 11 440 440 fun r19 h20 =>
  if 302 < x0 then
  if h20 436 x0.toNat 0 = 0 then
  lt_ (fi_upd h20 436 x0.toNat 0 r19) fun h21 =>
  nw_ h21 11 440 440 fun r22 h23 =>
  if 302 < x0 then
  if h23 437 x0.toNat 0 = 0 then
  lt_ (fi_upd h23 437 x0.toNat 0 r22) fun h24 =>
  c_482_278 d x0 h24
  else none
  else none
  else none
  else none
  else none
  else none
  else none
  else none
  else none
  else none
  else none
  else none
  else none
  else none
  else none
  else none := by
  unfold c_482_206
  exact
    have D : fk_D 482 [(206, some [0], .aload_n 0, 1, 0, 0, 0), (207, none, .sipush 560, 3, 0, 560, 0), (210, none, .newarray .int, 2, 0, 0, 0), (212, none, .putfield 89, 3, 429, 129, 112), (215, none, .aload_n 0, 1, 0, 0, 0), (216, none, .sipush 560, 3, 0, 560, 0), (219, none, .newarray .int, 2, 0, 0, 0), (221, none, .putfield 92, 3, 430, 129, 112), (224, none, .aload_n 0, 1, 0, 0, 0), (225, none, .sipush 560, 3, 0, 560, 0), (228, none, .newarray .int, 2, 0, 0, 0), (230, none, .putfield 95, 3, 431, 129, 112), (233, none, .aload_n 0, 1, 0, 0, 0), (234, none, .sipush 560, 3, 0, 560, 0), (237, none, .newarray .int, 2, 0, 0, 0), (239, none, .putfield 98, 3, 432, 129, 112), (242, none, .aload_n 0, 1, 0, 0, 0), (243, none, .sipush 560, 3, 0, 560, 0), (246, none, .newarray .boolean, 2, 0, 0, 0), (248, none, .putfield 101, 3, 433, 129, 112)] := fq_of2 cd_482 ow_482 cl_482 rfl (pc := 206) (by decide +kernel)
    j_aldn (pc := 206) D rfl rfl rfl fun D =>
    j_sp (pc := 207) D rfl fun D =>
    j_na (pc := 210) (k := 10) (N := 65536) D rfl rfl rfl (gy (by decide)) fun r1 h2 er eh2 S q D =>
    have gt_r1 := nw_gt H.1 er
    have kc_r1 := nw_cls H.1 er eh2
    have kl_r1 := nw_len H.1 er eh2
    have T := fj_hs_ok H.1 S
    have hk := cls_st H.1 T.2 hk (by decide)
    have H := sh0_st H T
    j_pfF (pc := 212) (a := x0.toNat) (ty := 12) D rfl rfl rfl hk ⟨rfl, rfl⟩ rfl gn (gy rfl) gn fun h3 eh3 S D =>
    have T := fj_hs_ok H.1 S
    have hk := cls_st H.1 T.2 hk (by decide)
    have H := sh0_st H T
    j_aldn (pc := 215) D rfl rfl rfl fun D =>
    j_sp (pc := 216) D rfl fun D =>
    j_na (pc := 219) (k := 10) (N := 65536) D rfl rfl rfl (gy (by decide)) fun r4 h5 er eh5 S q D =>
    have gt_r4 := nw_gt H.1 er
    have kc_r4 := nw_cls H.1 er eh5
    have kl_r4 := nw_len H.1 er eh5
    have T := fj_hs_ok H.1 S
    have hk := cls_st H.1 T.2 hk (by decide)
    have H := sh0_st H T
    j_pfF (pc := 221) (a := x0.toNat) (ty := 12) D rfl rfl rfl hk ⟨rfl, rfl⟩ rfl gn (gy rfl) gn fun h6 eh6 S D =>
    have T := fj_hs_ok H.1 S
    have hk := cls_st H.1 T.2 hk (by decide)
    have H := sh0_st H T
    j_aldn (pc := 224) D rfl rfl rfl fun D =>
    j_sp (pc := 225) D rfl fun D =>
    j_na (pc := 228) (k := 10) (N := 65536) D rfl rfl rfl (gy (by decide)) fun r7 h8 er eh8 S q D =>
    have gt_r7 := nw_gt H.1 er
    have kc_r7 := nw_cls H.1 er eh8
    have kl_r7 := nw_len H.1 er eh8
    have T := fj_hs_ok H.1 S
    have hk := cls_st H.1 T.2 hk (by decide)
    have H := sh0_st H T
    j_pfF (pc := 230) (a := x0.toNat) (ty := 12) D rfl rfl rfl hk ⟨rfl, rfl⟩ rfl gn (gy rfl) gn fun h9 eh9 S D =>
    have T := fj_hs_ok H.1 S
    have hk := cls_st H.1 T.2 hk (by decide)
    have H := sh0_st H T
    j_aldn (pc := 233) D rfl rfl rfl fun D =>
    j_sp (pc := 234) D rfl fun D =>
    j_na (pc := 237) (k := 10) (N := 65536) D rfl rfl rfl (gy (by decide)) fun r10 h11 er eh11 S q D =>
    have gt_r10 := nw_gt H.1 er
    have kc_r10 := nw_cls H.1 er eh11
    have kl_r10 := nw_len H.1 er eh11
    have T := fj_hs_ok H.1 S
    have hk := cls_st H.1 T.2 hk (by decide)
    have H := sh0_st H T
    j_pfF (pc := 239) (a := x0.toNat) (ty := 12) D rfl rfl rfl hk ⟨rfl, rfl⟩ rfl gn (gy rfl) gn fun h12 eh12 S D =>
    have T := fj_hs_ok H.1 S
    have hk := cls_st H.1 T.2 hk (by decide)
    have H := sh0_st H T
    j_aldn (pc := 242) D rfl rfl rfl fun D =>
    j_sp (pc := 243) D rfl fun D =>
    j_na (pc := 246) (k := 4) (N := 65536) D rfl rfl rfl (gy (by decide)) fun r13 h14 er eh14 S q D =>
    have gt_r13 := nw_gt H.1 er
    have kc_r13 := nw_cls H.1 er eh14
    have kl_r13 := nw_len H.1 er eh14
    have T := fj_hs_ok H.1 S
    have hk := cls_st H.1 T.2 hk (by decide)
    have H := sh0_st H T
    j_pfF (pc := 248) (a := x0.toNat) (ty := 12) D rfl rfl rfl hk ⟨rfl, rfl⟩ rfl gn (gy rfl) gn fun h15 eh15 S D =>
    have T := fj_hs_ok H.1 S
    have hk := cls_st H.1 T.2 hk (by decide)
    have H := sh0_st H T
    have D : fk_D 482 [(251, none, .aload_n 0, 1, 0, 0, 0), (252, none, .sipush 440, 3, 0, 440, 0), (255, none, .newarray .long, 2, 0, 0, 0), (257, none, .putfield 104, 3, 435, 129, 112), (260, none, .aload_n 0, 1, 0, 0, 0), (261, none, .sipush 440, 3, 0, 440, 0), (264, none, .newarray .long, 2, 0, 0, 0), (266, none, .putfield 107, 3, 436, 129, 112), (269, none, .aload_n 0, 1, 0, 0, 0), (270, none, .sipush 440, 3, 0, 440, 0), (273, none, .newarray .long, 2, 0, 0, 0), (275, none, .putfield 110, 3, 437, 129, 112)] := fq_of2 cd_482 ow_482 cl_482 rfl (pc := 251) (by decide +kernel)
    j_aldn (pc := 251) D rfl rfl rfl fun D =>
    j_sp (pc := 252) D rfl fun D =>
    j_na (pc := 255) (k := 11) (N := 65536) D rfl rfl rfl (gy (by decide)) fun r16 h17 er eh17 S q D =>
    have gt_r16 := nw_gt H.1 er
    have kc_r16 := nw_cls H.1 er eh17
    have kl_r16 := nw_len H.1 er eh17
    have T := fj_hs_ok H.1 S
    have hk := cls_st H.1 T.2 hk (by decide)
    have H := sh0_st H T
    j_pfF (pc := 257) (a := x0.toNat) (ty := 12) D rfl rfl rfl hk ⟨rfl, rfl⟩ rfl gn (gy rfl) gn fun h18 eh18 S D =>
    have T := fj_hs_ok H.1 S
    have hk := cls_st H.1 T.2 hk (by decide)
    have H := sh0_st H T
    j_aldn (pc := 260) D rfl rfl rfl fun D =>
    j_sp (pc := 261) D rfl fun D =>
    j_na (pc := 264) (k := 11) (N := 65536) D rfl rfl rfl (gy (by decide)) fun r19 h20 er eh20 S q D =>
    have gt_r19 := nw_gt H.1 er
    have kc_r19 := nw_cls H.1 er eh20
    have kl_r19 := nw_len H.1 er eh20
    have T := fj_hs_ok H.1 S
    have hk := cls_st H.1 T.2 hk (by decide)
    have H := sh0_st H T
    j_pfF (pc := 266) (a := x0.toNat) (ty := 12) D rfl rfl rfl hk ⟨rfl, rfl⟩ rfl gn (gy rfl) gn fun h21 eh21 S D =>
    have T := fj_hs_ok H.1 S
    have hk := cls_st H.1 T.2 hk (by decide)
    have H := sh0_st H T
    j_aldn (pc := 269) D rfl rfl rfl fun D =>
    j_sp (pc := 270) D rfl fun D =>
    j_na (pc := 273) (k := 11) (N := 65536) D rfl rfl rfl (gy (by decide)) fun r22 h23 er eh23 S q D =>
    have gt_r22 := nw_gt H.1 er
    have kc_r22 := nw_cls H.1 er eh23
    have kl_r22 := nw_len H.1 er eh23
    have T := fj_hs_ok H.1 S
    have hk := cls_st H.1 T.2 hk (by decide)
    have H := sh0_st H T
    j_pfF (pc := 275) (a := x0.toNat) (ty := 12) D rfl rfl rfl hk ⟨rfl, rfl⟩ rfl gn (gy rfl) gn fun h24 eh24 S D =>
    have T := fj_hs_ok H.1 S
    have hk := cls_st H.1 T.2 hk (by decide)
    have H := sh0_st H T
    fk_jump cut_482_278 rfl rfl
theorem e_482_278 (d : Nat) (x0 : Int) {h : fi_H} (H : Sh0 h) (hk : h 0 x0.toNat 0 = 129) : c_482_278 d x0 h =
  nw_ h 10 440 440 fun r1 h2 =>
  if 302 < x0 then
  if h2 438 x0.toNat 0 = 0 then
  lt_ (fi_upd h2 438 x0.toNat 0 r1) fun h3 =>
  nw_ h3 10 240 240 fun r4 h5 =>
  if 302 < x0 then
  if h5 440 x0.toNat 0 = 0 then
  lt_ (fi_upd h5 440 x0.toNat 0 r4) fun h6 =>
  nw_ h6 10 240 240 fun r7 h8 =>
  if 302 < x0 then
  if h8 441 x0.toNat 0 = 0 then
  lt_ (fi_upd h8 441 x0.toNat 0 r7) fun h9 =>
  nw_ h9 10 9600 9600 fun r10 h11 =>
  if 302 < x0 then
  if h11 442 x0.toNat 0 = 0 then
  lt_ (fi_upd h11 442 x0.toNat 0 r10) fun h12 =>
  nw_ h12 10 240 240 fun r13 h14 =>
  if 302 < x0 then
  if h14 443 x0.toNat 0 = 0 then
  lt_ (fi_upd h14 443 x0.toNat 0 r13) fun h15 =>
  nw_ h15 10 800 800 fun r16 h17 =>
  if 302 < x0 then
  if h17 445 x0.toNat 0 = 0 then
  lt_ (fi_upd h17 445 x0.toNat 0 r16) fun h18 =>
  nw_ h18 10 800 800 fun r19 h20 =>
  if 302 < x0 then
  if h20 446 x0.toNat 0 = 0 then
  lt_ (fi_upd h20 446 x0.toNat 0 r19) fun h21 =>
  nw_ h21 4 800 800 fun r22 h23 =>
  if 302 < x0 then
  if h23 447 x0.toNat 0 = 0 then
  lt_ (fi_upd h23 447 x0.toNat 0 r22) fun h24 =>
  c_482_350 d x0 h24
  else none
  else none
  else none
  else none
  else none
  else none
  else none
  else none
  else none
  else none
  else none
  else none
  else none
  else none
  else none
  else none := by
  unfold c_482_278
  exact
    have D : fk_D 482 [(278, some [0], .aload_n 0, 1, 0, 0, 0), (279, none, .sipush 440, 3, 0, 440, 0), (282, none, .newarray .int, 2, 0, 0, 0), (284, none, .putfield 113, 3, 438, 129, 112), (287, none, .aload_n 0, 1, 0, 0, 0), (288, none, .sipush 240, 3, 0, 240, 0), (291, none, .newarray .int, 2, 0, 0, 0), (293, none, .putfield 116, 3, 440, 129, 112), (296, none, .aload_n 0, 1, 0, 0, 0), (297, none, .sipush 240, 3, 0, 240, 0), (300, none, .newarray .int, 2, 0, 0, 0), (302, none, .putfield 119, 3, 441, 129, 112), (305, none, .aload_n 0, 1, 0, 0, 0), (306, none, .sipush 9600, 3, 0, 9600, 0), (309, none, .newarray .int, 2, 0, 0, 0), (311, none, .putfield 122, 3, 442, 129, 112), (314, none, .aload_n 0, 1, 0, 0, 0), (315, none, .sipush 240, 3, 0, 240, 0), (318, none, .newarray .int, 2, 0, 0, 0), (320, none, .putfield 125, 3, 443, 129, 112)] := fq_of2 cd_482 ow_482 cl_482 rfl (pc := 278) (by decide +kernel)
    j_aldn (pc := 278) D rfl rfl rfl fun D =>
    j_sp (pc := 279) D rfl fun D =>
    j_na (pc := 282) (k := 10) (N := 65536) D rfl rfl rfl (gy (by decide)) fun r1 h2 er eh2 S q D =>
    have gt_r1 := nw_gt H.1 er
    have kc_r1 := nw_cls H.1 er eh2
    have kl_r1 := nw_len H.1 er eh2
    have T := fj_hs_ok H.1 S
    have hk := cls_st H.1 T.2 hk (by decide)
    have H := sh0_st H T
    j_pfF (pc := 284) (a := x0.toNat) (ty := 12) D rfl rfl rfl hk ⟨rfl, rfl⟩ rfl gn (gy rfl) gn fun h3 eh3 S D =>
    have T := fj_hs_ok H.1 S
    have hk := cls_st H.1 T.2 hk (by decide)
    have H := sh0_st H T
    j_aldn (pc := 287) D rfl rfl rfl fun D =>
    j_sp (pc := 288) D rfl fun D =>
    j_na (pc := 291) (k := 10) (N := 65536) D rfl rfl rfl (gy (by decide)) fun r4 h5 er eh5 S q D =>
    have gt_r4 := nw_gt H.1 er
    have kc_r4 := nw_cls H.1 er eh5
    have kl_r4 := nw_len H.1 er eh5
    have T := fj_hs_ok H.1 S
    have hk := cls_st H.1 T.2 hk (by decide)
    have H := sh0_st H T
    j_pfF (pc := 293) (a := x0.toNat) (ty := 12) D rfl rfl rfl hk ⟨rfl, rfl⟩ rfl gn (gy rfl) gn fun h6 eh6 S D =>
    have T := fj_hs_ok H.1 S
    have hk := cls_st H.1 T.2 hk (by decide)
    have H := sh0_st H T
    j_aldn (pc := 296) D rfl rfl rfl fun D =>
    j_sp (pc := 297) D rfl fun D =>
    j_na (pc := 300) (k := 10) (N := 65536) D rfl rfl rfl (gy (by decide)) fun r7 h8 er eh8 S q D =>
    have gt_r7 := nw_gt H.1 er
    have kc_r7 := nw_cls H.1 er eh8
    have kl_r7 := nw_len H.1 er eh8
    have T := fj_hs_ok H.1 S
    have hk := cls_st H.1 T.2 hk (by decide)
    have H := sh0_st H T
    j_pfF (pc := 302) (a := x0.toNat) (ty := 12) D rfl rfl rfl hk ⟨rfl, rfl⟩ rfl gn (gy rfl) gn fun h9 eh9 S D =>
    have T := fj_hs_ok H.1 S
    have hk := cls_st H.1 T.2 hk (by decide)
    have H := sh0_st H T
    j_aldn (pc := 305) D rfl rfl rfl fun D =>
    j_sp (pc := 306) D rfl fun D =>
    j_na (pc := 309) (k := 10) (N := 65536) D rfl rfl rfl (gy (by decide)) fun r10 h11 er eh11 S q D =>
    have gt_r10 := nw_gt H.1 er
    have kc_r10 := nw_cls H.1 er eh11
    have kl_r10 := nw_len H.1 er eh11
    have T := fj_hs_ok H.1 S
    have hk := cls_st H.1 T.2 hk (by decide)
    have H := sh0_st H T
    j_pfF (pc := 311) (a := x0.toNat) (ty := 12) D rfl rfl rfl hk ⟨rfl, rfl⟩ rfl gn (gy rfl) gn fun h12 eh12 S D =>
    have T := fj_hs_ok H.1 S
    have hk := cls_st H.1 T.2 hk (by decide)
    have H := sh0_st H T
    j_aldn (pc := 314) D rfl rfl rfl fun D =>
    j_sp (pc := 315) D rfl fun D =>
    j_na (pc := 318) (k := 10) (N := 65536) D rfl rfl rfl (gy (by decide)) fun r13 h14 er eh14 S q D =>
    have gt_r13 := nw_gt H.1 er
    have kc_r13 := nw_cls H.1 er eh14
    have kl_r13 := nw_len H.1 er eh14
    have T := fj_hs_ok H.1 S
    have hk := cls_st H.1 T.2 hk (by decide)
    have H := sh0_st H T
    j_pfF (pc := 320) (a := x0.toNat) (ty := 12) D rfl rfl rfl hk ⟨rfl, rfl⟩ rfl gn (gy rfl) gn fun h15 eh15 S D =>
    have T := fj_hs_ok H.1 S
    have hk := cls_st H.1 T.2 hk (by decide)
    have H := sh0_st H T
    have D : fk_D 482 [(323, none, .aload_n 0, 1, 0, 0, 0), (324, none, .sipush 800, 3, 0, 800, 0), (327, none, .newarray .int, 2, 0, 0, 0), (329, none, .putfield 128, 3, 445, 129, 112), (332, none, .aload_n 0, 1, 0, 0, 0), (333, none, .sipush 800, 3, 0, 800, 0), (336, none, .newarray .int, 2, 0, 0, 0), (338, none, .putfield 131, 3, 446, 129, 112), (341, none, .aload_n 0, 1, 0, 0, 0), (342, none, .sipush 800, 3, 0, 800, 0), (345, none, .newarray .boolean, 2, 0, 0, 0), (347, none, .putfield 134, 3, 447, 129, 112)] := fq_of2 cd_482 ow_482 cl_482 rfl (pc := 323) (by decide +kernel)
    j_aldn (pc := 323) D rfl rfl rfl fun D =>
    j_sp (pc := 324) D rfl fun D =>
    j_na (pc := 327) (k := 10) (N := 65536) D rfl rfl rfl (gy (by decide)) fun r16 h17 er eh17 S q D =>
    have gt_r16 := nw_gt H.1 er
    have kc_r16 := nw_cls H.1 er eh17
    have kl_r16 := nw_len H.1 er eh17
    have T := fj_hs_ok H.1 S
    have hk := cls_st H.1 T.2 hk (by decide)
    have H := sh0_st H T
    j_pfF (pc := 329) (a := x0.toNat) (ty := 12) D rfl rfl rfl hk ⟨rfl, rfl⟩ rfl gn (gy rfl) gn fun h18 eh18 S D =>
    have T := fj_hs_ok H.1 S
    have hk := cls_st H.1 T.2 hk (by decide)
    have H := sh0_st H T
    j_aldn (pc := 332) D rfl rfl rfl fun D =>
    j_sp (pc := 333) D rfl fun D =>
    j_na (pc := 336) (k := 10) (N := 65536) D rfl rfl rfl (gy (by decide)) fun r19 h20 er eh20 S q D =>
    have gt_r19 := nw_gt H.1 er
    have kc_r19 := nw_cls H.1 er eh20
    have kl_r19 := nw_len H.1 er eh20
    have T := fj_hs_ok H.1 S
    have hk := cls_st H.1 T.2 hk (by decide)
    have H := sh0_st H T
    j_pfF (pc := 338) (a := x0.toNat) (ty := 12) D rfl rfl rfl hk ⟨rfl, rfl⟩ rfl gn (gy rfl) gn fun h21 eh21 S D =>
    have T := fj_hs_ok H.1 S
    have hk := cls_st H.1 T.2 hk (by decide)
    have H := sh0_st H T
    j_aldn (pc := 341) D rfl rfl rfl fun D =>
    j_sp (pc := 342) D rfl fun D =>
    j_na (pc := 345) (k := 4) (N := 65536) D rfl rfl rfl (gy (by decide)) fun r22 h23 er eh23 S q D =>
    have gt_r22 := nw_gt H.1 er
    have kc_r22 := nw_cls H.1 er eh23
    have kl_r22 := nw_len H.1 er eh23
    have T := fj_hs_ok H.1 S
    have hk := cls_st H.1 T.2 hk (by decide)
    have H := sh0_st H T
    j_pfF (pc := 347) (a := x0.toNat) (ty := 12) D rfl rfl rfl hk ⟨rfl, rfl⟩ rfl gn (gy rfl) gn fun h24 eh24 S D =>
    have T := fj_hs_ok H.1 S
    have hk := cls_st H.1 T.2 hk (by decide)
    have H := sh0_st H T
    fk_jump cut_482_350 rfl rfl
theorem e_482_350 (d : Nat) (x0 : Int) {h : fi_H} (H : Sh0 h) (hk : h 0 x0.toNat 0 = 129) : c_482_350 d x0 h =
  nw_ h 10 4 4 fun r1 h2 =>
  if 302 < x0 then
  if h2 448 x0.toNat 0 = 0 then
  lt_ (fi_upd h2 448 x0.toNat 0 r1) fun h3 =>
  if 302 < x0 then
  lt_ (fi_upd h3 449 x0.toNat 0 36524) fun h4 =>
  nw_ h4 10 40 40 fun r5 h6 =>
  if 302 < x0 then
  if h6 450 x0.toNat 0 = 0 then
  lt_ (fi_upd h6 450 x0.toNat 0 r5) fun h7 =>
  nw_ h7 10 40 40 fun r8 h9 =>
  if 302 < x0 then
  if h9 451 x0.toNat 0 = 0 then
  lt_ (fi_upd h9 451 x0.toNat 0 r8) fun h10 =>
  nw_ h10 10 40 40 fun r11 h12 =>
  if 302 < x0 then
  if h12 452 x0.toNat 0 = 0 then
  lt_ (fi_upd h12 452 x0.toNat 0 r11) fun h13 =>
  nw_ h13 10 3200 3200 fun r14 h15 =>
  if 302 < x0 then
  if h15 454 x0.toNat 0 = 0 then
  lt_ (fi_upd h15 454 x0.toNat 0 r14) fun h16 =>
  nw_ h16 10 16 16 fun r17 h18 =>
  if 302 < x0 then
  if h18 455 x0.toNat 0 = 0 then
  lt_ (fi_upd h18 455 x0.toNat 0 r17) fun h19 =>
  nw_ h19 10 16 16 fun r20 h21 =>
  if 302 < x0 then
  if h21 456 x0.toNat 0 = 0 then
  lt_ (fi_upd h21 456 x0.toNat 0 r20) fun h22 =>
  nw_ h22 10 16 16 fun r23 h24 =>
  if 302 < x0 then
  if h24 457 x0.toNat 0 = 0 then
  lt_ (fi_upd h24 457 x0.toNat 0 r23) fun h25 =>
  c_482_420 d x0 h25
  else none
  else none
  else none
  else none
  else none
  else none
  else none
  else none
  else none
  else none
  else none
  else none
  else none
  else none
  else none
  else none
  else none := by
  unfold c_482_350
  exact
    have D : fk_D 482 [(350, some [0], .aload_n 0, 1, 0, 0, 0), (351, none, .iconst 4, 1, 0, 4, 0), (352, none, .newarray .int, 2, 0, 0, 0), (354, none, .putfield 137, 3, 448, 129, 112), (357, none, .aload_n 0, 1, 0, 0, 0), (358, none, .ldc 140, 2, 0, 36524, 0), (360, none, .putfield 141, 3, 449, 129, 10), (363, none, .aload_n 0, 1, 0, 0, 0), (364, none, .bipush 40, 2, 0, 40, 0), (366, none, .newarray .int, 2, 0, 0, 0), (368, none, .putfield 144, 3, 450, 129, 112), (371, none, .aload_n 0, 1, 0, 0, 0), (372, none, .bipush 40, 2, 0, 40, 0), (374, none, .newarray .int, 2, 0, 0, 0), (376, none, .putfield 147, 3, 451, 129, 112), (379, none, .aload_n 0, 1, 0, 0, 0), (380, none, .bipush 40, 2, 0, 40, 0), (382, none, .newarray .int, 2, 0, 0, 0), (384, none, .putfield 150, 3, 452, 129, 112), (387, none, .aload_n 0, 1, 0, 0, 0)] := fq_of2 cd_482 ow_482 cl_482 rfl (pc := 350) (by decide +kernel)
    j_aldn (pc := 350) D rfl rfl rfl fun D =>
    j_ic (pc := 351) D rfl fun D =>
    j_na (pc := 352) (k := 10) (N := 65536) D rfl rfl rfl (gy (by decide)) fun r1 h2 er eh2 S q D =>
    have gt_r1 := nw_gt H.1 er
    have kc_r1 := nw_cls H.1 er eh2
    have kl_r1 := nw_len H.1 er eh2
    have T := fj_hs_ok H.1 S
    have hk := cls_st H.1 T.2 hk (by decide)
    have H := sh0_st H T
    j_pfF (pc := 354) (a := x0.toNat) (ty := 12) D rfl rfl rfl hk ⟨rfl, rfl⟩ rfl gn (gy rfl) gn fun h3 eh3 S D =>
    have T := fj_hs_ok H.1 S
    have hk := cls_st H.1 T.2 hk (by decide)
    have H := sh0_st H T
    j_aldn (pc := 357) D rfl rfl rfl fun D =>
    j_ldc (pc := 358) D rfl fun D =>
    j_pf (pc := 360) (a := x0.toNat) D rfl rfl rfl hk rfl rfl gn (gy rfl) fun h4 eh4 S D =>
    have T := fj_hs_ok H.1 S
    have hk := cls_st H.1 T.2 hk (by decide)
    have H := sh0_st H T
    j_aldn (pc := 363) D rfl rfl rfl fun D =>
    j_bp (pc := 364) D rfl fun D =>
    j_na (pc := 366) (k := 10) (N := 65536) D rfl rfl rfl (gy (by decide)) fun r5 h6 er eh6 S q D =>
    have gt_r5 := nw_gt H.1 er
    have kc_r5 := nw_cls H.1 er eh6
    have kl_r5 := nw_len H.1 er eh6
    have T := fj_hs_ok H.1 S
    have hk := cls_st H.1 T.2 hk (by decide)
    have H := sh0_st H T
    j_pfF (pc := 368) (a := x0.toNat) (ty := 12) D rfl rfl rfl hk ⟨rfl, rfl⟩ rfl gn (gy rfl) gn fun h7 eh7 S D =>
    have T := fj_hs_ok H.1 S
    have hk := cls_st H.1 T.2 hk (by decide)
    have H := sh0_st H T
    j_aldn (pc := 371) D rfl rfl rfl fun D =>
    j_bp (pc := 372) D rfl fun D =>
    j_na (pc := 374) (k := 10) (N := 65536) D rfl rfl rfl (gy (by decide)) fun r8 h9 er eh9 S q D =>
    have gt_r8 := nw_gt H.1 er
    have kc_r8 := nw_cls H.1 er eh9
    have kl_r8 := nw_len H.1 er eh9
    have T := fj_hs_ok H.1 S
    have hk := cls_st H.1 T.2 hk (by decide)
    have H := sh0_st H T
    j_pfF (pc := 376) (a := x0.toNat) (ty := 12) D rfl rfl rfl hk ⟨rfl, rfl⟩ rfl gn (gy rfl) gn fun h10 eh10 S D =>
    have T := fj_hs_ok H.1 S
    have hk := cls_st H.1 T.2 hk (by decide)
    have H := sh0_st H T
    j_aldn (pc := 379) D rfl rfl rfl fun D =>
    j_bp (pc := 380) D rfl fun D =>
    j_na (pc := 382) (k := 10) (N := 65536) D rfl rfl rfl (gy (by decide)) fun r11 h12 er eh12 S q D =>
    have gt_r11 := nw_gt H.1 er
    have kc_r11 := nw_cls H.1 er eh12
    have kl_r11 := nw_len H.1 er eh12
    have T := fj_hs_ok H.1 S
    have hk := cls_st H.1 T.2 hk (by decide)
    have H := sh0_st H T
    j_pfF (pc := 384) (a := x0.toNat) (ty := 12) D rfl rfl rfl hk ⟨rfl, rfl⟩ rfl gn (gy rfl) gn fun h13 eh13 S D =>
    have T := fj_hs_ok H.1 S
    have hk := cls_st H.1 T.2 hk (by decide)
    have H := sh0_st H T
    j_aldn (pc := 387) D rfl rfl rfl fun D =>
    have D : fk_D 482 [(388, none, .sipush 3200, 3, 0, 3200, 0), (391, none, .newarray .int, 2, 0, 0, 0), (393, none, .putfield 153, 3, 454, 129, 112), (396, none, .aload_n 0, 1, 0, 0, 0), (397, none, .bipush 16, 2, 0, 16, 0), (399, none, .newarray .int, 2, 0, 0, 0), (401, none, .putfield 156, 3, 455, 129, 112), (404, none, .aload_n 0, 1, 0, 0, 0), (405, none, .bipush 16, 2, 0, 16, 0), (407, none, .newarray .int, 2, 0, 0, 0), (409, none, .putfield 159, 3, 456, 129, 112), (412, none, .aload_n 0, 1, 0, 0, 0), (413, none, .bipush 16, 2, 0, 16, 0), (415, none, .newarray .int, 2, 0, 0, 0), (417, none, .putfield 162, 3, 457, 129, 112)] := fq_of2 cd_482 ow_482 cl_482 rfl (pc := 388) (by decide +kernel)
    j_sp (pc := 388) D rfl fun D =>
    j_na (pc := 391) (k := 10) (N := 65536) D rfl rfl rfl (gy (by decide)) fun r14 h15 er eh15 S q D =>
    have gt_r14 := nw_gt H.1 er
    have kc_r14 := nw_cls H.1 er eh15
    have kl_r14 := nw_len H.1 er eh15
    have T := fj_hs_ok H.1 S
    have hk := cls_st H.1 T.2 hk (by decide)
    have H := sh0_st H T
    j_pfF (pc := 393) (a := x0.toNat) (ty := 12) D rfl rfl rfl hk ⟨rfl, rfl⟩ rfl gn (gy rfl) gn fun h16 eh16 S D =>
    have T := fj_hs_ok H.1 S
    have hk := cls_st H.1 T.2 hk (by decide)
    have H := sh0_st H T
    j_aldn (pc := 396) D rfl rfl rfl fun D =>
    j_bp (pc := 397) D rfl fun D =>
    j_na (pc := 399) (k := 10) (N := 65536) D rfl rfl rfl (gy (by decide)) fun r17 h18 er eh18 S q D =>
    have gt_r17 := nw_gt H.1 er
    have kc_r17 := nw_cls H.1 er eh18
    have kl_r17 := nw_len H.1 er eh18
    have T := fj_hs_ok H.1 S
    have hk := cls_st H.1 T.2 hk (by decide)
    have H := sh0_st H T
    j_pfF (pc := 401) (a := x0.toNat) (ty := 12) D rfl rfl rfl hk ⟨rfl, rfl⟩ rfl gn (gy rfl) gn fun h19 eh19 S D =>
    have T := fj_hs_ok H.1 S
    have hk := cls_st H.1 T.2 hk (by decide)
    have H := sh0_st H T
    j_aldn (pc := 404) D rfl rfl rfl fun D =>
    j_bp (pc := 405) D rfl fun D =>
    j_na (pc := 407) (k := 10) (N := 65536) D rfl rfl rfl (gy (by decide)) fun r20 h21 er eh21 S q D =>
    have gt_r20 := nw_gt H.1 er
    have kc_r20 := nw_cls H.1 er eh21
    have kl_r20 := nw_len H.1 er eh21
    have T := fj_hs_ok H.1 S
    have hk := cls_st H.1 T.2 hk (by decide)
    have H := sh0_st H T
    j_pfF (pc := 409) (a := x0.toNat) (ty := 12) D rfl rfl rfl hk ⟨rfl, rfl⟩ rfl gn (gy rfl) gn fun h22 eh22 S D =>
    have T := fj_hs_ok H.1 S
    have hk := cls_st H.1 T.2 hk (by decide)
    have H := sh0_st H T
    j_aldn (pc := 412) D rfl rfl rfl fun D =>
    j_bp (pc := 413) D rfl fun D =>
    j_na (pc := 415) (k := 10) (N := 65536) D rfl rfl rfl (gy (by decide)) fun r23 h24 er eh24 S q D =>
    have gt_r23 := nw_gt H.1 er
    have kc_r23 := nw_cls H.1 er eh24
    have kl_r23 := nw_len H.1 er eh24
    have T := fj_hs_ok H.1 S
    have hk := cls_st H.1 T.2 hk (by decide)
    have H := sh0_st H T
    j_pfF (pc := 417) (a := x0.toNat) (ty := 12) D rfl rfl rfl hk ⟨rfl, rfl⟩ rfl gn (gy rfl) gn fun h25 eh25 S D =>
    have T := fj_hs_ok H.1 S
    have hk := cls_st H.1 T.2 hk (by decide)
    have H := sh0_st H T
    fk_jump cut_482_420 rfl rfl
theorem e_482_420 (d : Nat) (x0 : Int) {h : fi_H} (H : Sh0 h) (hk : h 0 x0.toNat 0 = 129) : c_482_420 d x0 h =
  nw_ h 6 30 30 fun r1 h2 =>
  if 302 < x0 then
  if h2 458 x0.toNat 0 = 0 then
  lt_ (fi_upd h2 458 x0.toNat 0 r1) fun h3 =>
  if 302 < x0 then
  lt_ (fi_upd h3 459 x0.toNat 0 1) fun h4 =>
  nw_ h4 10 500 500 fun r5 h6 =>
  if 302 < x0 then
  if h6 460 x0.toNat 0 = 0 then
  lt_ (fi_upd h6 460 x0.toNat 0 r5) fun h7 =>
  nw_ h7 10 500 500 fun r8 h9 =>
  if 302 < x0 then
  if h9 461 x0.toNat 0 = 0 then
  lt_ (fi_upd h9 461 x0.toNat 0 r8) fun h10 =>
  nw_ h10 11 500 500 fun r11 h12 =>
  if 302 < x0 then
  if h12 462 x0.toNat 0 = 0 then
  lt_ (fi_upd h12 462 x0.toNat 0 r11) fun h13 =>
  nw_ h13 11 500 500 fun r14 h15 =>
  if 302 < x0 then
  if h15 463 x0.toNat 0 = 0 then
  lt_ (fi_upd h15 463 x0.toNat 0 r14) fun h16 =>
  nw_ h16 10 500 500 fun r17 h18 =>
  if 302 < x0 then
  if h18 464 x0.toNat 0 = 0 then
  lt_ (fi_upd h18 464 x0.toNat 0 r17) fun h19 =>
  nw_ h19 10 500 500 fun r20 h21 =>
  if 302 < x0 then
  if h21 465 x0.toNat 0 = 0 then
  lt_ (fi_upd h21 465 x0.toNat 0 r20) fun h22 =>
  nw_ h22 10 500 500 fun r23 h24 =>
  if 302 < x0 then
  if h24 466 x0.toNat 0 = 0 then
  lt_ (fi_upd h24 466 x0.toNat 0 r23) fun h25 =>
  c_482_496 d x0 h25
  else none
  else none
  else none
  else none
  else none
  else none
  else none
  else none
  else none
  else none
  else none
  else none
  else none
  else none
  else none
  else none
  else none := by
  unfold c_482_420
  exact
    have D : fk_D 482 [(420, some [0], .aload_n 0, 1, 0, 0, 0), (421, none, .bipush 30, 2, 0, 30, 0), (423, none, .newarray .float, 2, 0, 0, 0), (425, none, .putfield 165, 3, 458, 129, 112), (428, none, .aload_n 0, 1, 0, 0, 0), (429, none, .iconst 1, 1, 0, 1, 0), (430, none, .putfield 169, 3, 459, 129, 10), (433, none, .aload_n 0, 1, 0, 0, 0), (434, none, .sipush 500, 3, 0, 500, 0), (437, none, .newarray .int, 2, 0, 0, 0), (439, none, .putfield 172, 3, 460, 129, 112), (442, none, .aload_n 0, 1, 0, 0, 0), (443, none, .sipush 500, 3, 0, 500, 0), (446, none, .newarray .int, 2, 0, 0, 0), (448, none, .putfield 175, 3, 461, 129, 112), (451, none, .aload_n 0, 1, 0, 0, 0), (452, none, .sipush 500, 3, 0, 500, 0), (455, none, .newarray .long, 2, 0, 0, 0), (457, none, .putfield 178, 3, 462, 129, 112), (460, none, .aload_n 0, 1, 0, 0, 0)] := fq_of2 cd_482 ow_482 cl_482 rfl (pc := 420) (by decide +kernel)
    j_aldn (pc := 420) D rfl rfl rfl fun D =>
    j_bp (pc := 421) D rfl fun D =>
    j_na (pc := 423) (k := 6) (N := 65536) D rfl rfl rfl (gy (by decide)) fun r1 h2 er eh2 S q D =>
    have gt_r1 := nw_gt H.1 er
    have kc_r1 := nw_cls H.1 er eh2
    have kl_r1 := nw_len H.1 er eh2
    have T := fj_hs_ok H.1 S
    have hk := cls_st H.1 T.2 hk (by decide)
    have H := sh0_st H T
    j_pfF (pc := 425) (a := x0.toNat) (ty := 12) D rfl rfl rfl hk ⟨rfl, rfl⟩ rfl gn (gy rfl) gn fun h3 eh3 S D =>
    have T := fj_hs_ok H.1 S
    have hk := cls_st H.1 T.2 hk (by decide)
    have H := sh0_st H T
    j_aldn (pc := 428) D rfl rfl rfl fun D =>
    j_ic (pc := 429) D rfl fun D =>
    j_pf (pc := 430) (a := x0.toNat) D rfl rfl rfl hk rfl rfl gn (gy rfl) fun h4 eh4 S D =>
    have T := fj_hs_ok H.1 S
    have hk := cls_st H.1 T.2 hk (by decide)
    have H := sh0_st H T
    j_aldn (pc := 433) D rfl rfl rfl fun D =>
    j_sp (pc := 434) D rfl fun D =>
    j_na (pc := 437) (k := 10) (N := 65536) D rfl rfl rfl (gy (by decide)) fun r5 h6 er eh6 S q D =>
    have gt_r5 := nw_gt H.1 er
    have kc_r5 := nw_cls H.1 er eh6
    have kl_r5 := nw_len H.1 er eh6
    have T := fj_hs_ok H.1 S
    have hk := cls_st H.1 T.2 hk (by decide)
    have H := sh0_st H T
    j_pfF (pc := 439) (a := x0.toNat) (ty := 12) D rfl rfl rfl hk ⟨rfl, rfl⟩ rfl gn (gy rfl) gn fun h7 eh7 S D =>
    have T := fj_hs_ok H.1 S
    have hk := cls_st H.1 T.2 hk (by decide)
    have H := sh0_st H T
    j_aldn (pc := 442) D rfl rfl rfl fun D =>
    j_sp (pc := 443) D rfl fun D =>
    j_na (pc := 446) (k := 10) (N := 65536) D rfl rfl rfl (gy (by decide)) fun r8 h9 er eh9 S q D =>
    have gt_r8 := nw_gt H.1 er
    have kc_r8 := nw_cls H.1 er eh9
    have kl_r8 := nw_len H.1 er eh9
    have T := fj_hs_ok H.1 S
    have hk := cls_st H.1 T.2 hk (by decide)
    have H := sh0_st H T
    j_pfF (pc := 448) (a := x0.toNat) (ty := 12) D rfl rfl rfl hk ⟨rfl, rfl⟩ rfl gn (gy rfl) gn fun h10 eh10 S D =>
    have T := fj_hs_ok H.1 S
    have hk := cls_st H.1 T.2 hk (by decide)
    have H := sh0_st H T
    j_aldn (pc := 451) D rfl rfl rfl fun D =>
    j_sp (pc := 452) D rfl fun D =>
    j_na (pc := 455) (k := 11) (N := 65536) D rfl rfl rfl (gy (by decide)) fun r11 h12 er eh12 S q D =>
    have gt_r11 := nw_gt H.1 er
    have kc_r11 := nw_cls H.1 er eh12
    have kl_r11 := nw_len H.1 er eh12
    have T := fj_hs_ok H.1 S
    have hk := cls_st H.1 T.2 hk (by decide)
    have H := sh0_st H T
    j_pfF (pc := 457) (a := x0.toNat) (ty := 12) D rfl rfl rfl hk ⟨rfl, rfl⟩ rfl gn (gy rfl) gn fun h13 eh13 S D =>
    have T := fj_hs_ok H.1 S
    have hk := cls_st H.1 T.2 hk (by decide)
    have H := sh0_st H T
    j_aldn (pc := 460) D rfl rfl rfl fun D =>
    have D : fk_D 482 [(461, none, .sipush 500, 3, 0, 500, 0), (464, none, .newarray .long, 2, 0, 0, 0), (466, none, .putfield 181, 3, 463, 129, 112), (469, none, .aload_n 0, 1, 0, 0, 0), (470, none, .sipush 500, 3, 0, 500, 0), (473, none, .newarray .int, 2, 0, 0, 0), (475, none, .putfield 184, 3, 464, 129, 112), (478, none, .aload_n 0, 1, 0, 0, 0), (479, none, .sipush 500, 3, 0, 500, 0), (482, none, .newarray .int, 2, 0, 0, 0), (484, none, .putfield 187, 3, 465, 129, 112), (487, none, .aload_n 0, 1, 0, 0, 0), (488, none, .sipush 500, 3, 0, 500, 0), (491, none, .newarray .int, 2, 0, 0, 0), (493, none, .putfield 190, 3, 466, 129, 112)] := fq_of2 cd_482 ow_482 cl_482 rfl (pc := 461) (by decide +kernel)
    j_sp (pc := 461) D rfl fun D =>
    j_na (pc := 464) (k := 11) (N := 65536) D rfl rfl rfl (gy (by decide)) fun r14 h15 er eh15 S q D =>
    have gt_r14 := nw_gt H.1 er
    have kc_r14 := nw_cls H.1 er eh15
    have kl_r14 := nw_len H.1 er eh15
    have T := fj_hs_ok H.1 S
    have hk := cls_st H.1 T.2 hk (by decide)
    have H := sh0_st H T
    j_pfF (pc := 466) (a := x0.toNat) (ty := 12) D rfl rfl rfl hk ⟨rfl, rfl⟩ rfl gn (gy rfl) gn fun h16 eh16 S D =>
    have T := fj_hs_ok H.1 S
    have hk := cls_st H.1 T.2 hk (by decide)
    have H := sh0_st H T
    j_aldn (pc := 469) D rfl rfl rfl fun D =>
    j_sp (pc := 470) D rfl fun D =>
    j_na (pc := 473) (k := 10) (N := 65536) D rfl rfl rfl (gy (by decide)) fun r17 h18 er eh18 S q D =>
    have gt_r17 := nw_gt H.1 er
    have kc_r17 := nw_cls H.1 er eh18
    have kl_r17 := nw_len H.1 er eh18
    have T := fj_hs_ok H.1 S
    have hk := cls_st H.1 T.2 hk (by decide)
    have H := sh0_st H T
    j_pfF (pc := 475) (a := x0.toNat) (ty := 12) D rfl rfl rfl hk ⟨rfl, rfl⟩ rfl gn (gy rfl) gn fun h19 eh19 S D =>
    have T := fj_hs_ok H.1 S
    have hk := cls_st H.1 T.2 hk (by decide)
    have H := sh0_st H T
    j_aldn (pc := 478) D rfl rfl rfl fun D =>
    j_sp (pc := 479) D rfl fun D =>
    j_na (pc := 482) (k := 10) (N := 65536) D rfl rfl rfl (gy (by decide)) fun r20 h21 er eh21 S q D =>
    have gt_r20 := nw_gt H.1 er
    have kc_r20 := nw_cls H.1 er eh21
    have kl_r20 := nw_len H.1 er eh21
    have T := fj_hs_ok H.1 S
    have hk := cls_st H.1 T.2 hk (by decide)
    have H := sh0_st H T
    j_pfF (pc := 484) (a := x0.toNat) (ty := 12) D rfl rfl rfl hk ⟨rfl, rfl⟩ rfl gn (gy rfl) gn fun h22 eh22 S D =>
    have T := fj_hs_ok H.1 S
    have hk := cls_st H.1 T.2 hk (by decide)
    have H := sh0_st H T
    j_aldn (pc := 487) D rfl rfl rfl fun D =>
    j_sp (pc := 488) D rfl fun D =>
    j_na (pc := 491) (k := 10) (N := 65536) D rfl rfl rfl (gy (by decide)) fun r23 h24 er eh24 S q D =>
    have gt_r23 := nw_gt H.1 er
    have kc_r23 := nw_cls H.1 er eh24
    have kl_r23 := nw_len H.1 er eh24
    have T := fj_hs_ok H.1 S
    have hk := cls_st H.1 T.2 hk (by decide)
    have H := sh0_st H T
    j_pfF (pc := 493) (a := x0.toNat) (ty := 12) D rfl rfl rfl hk ⟨rfl, rfl⟩ rfl gn (gy rfl) gn fun h25 eh25 S D =>
    have T := fj_hs_ok H.1 S
    have hk := cls_st H.1 T.2 hk (by decide)
    have H := sh0_st H T
    fk_jump cut_482_496 rfl rfl
theorem e_482_496 (d : Nat) (x0 : Int) {h : fi_H} (H : Sh0 h) (hk : h 0 x0.toNat 0 = 129) : c_482_496 d x0 h =
  nw_ h 4 500 500 fun r1 h2 =>
  if 302 < x0 then
  if h2 467 x0.toNat 0 = 0 then
  lt_ (fi_upd h2 467 x0.toNat 0 r1) fun h3 =>
  nw_ h3 10 9 9 fun r4 h5 =>
  if 302 < x0 then
  if h5 469 x0.toNat 0 = 0 then
  lt_ (fi_upd h5 469 x0.toNat 0 r4) fun h6 =>
  nw_ h6 10 9 9 fun r7 h8 =>
  if 302 < x0 then
  if h8 470 x0.toNat 0 = 0 then
  lt_ (fi_upd h8 470 x0.toNat 0 r7) fun h9 =>
  nw_ h9 11 9 9 fun r10 h11 =>
  if 302 < x0 then
  if h11 471 x0.toNat 0 = 0 then
  lt_ (fi_upd h11 471 x0.toNat 0 r10) fun h12 =>
  nw_ h12 11 9 9 fun r13 h14 =>
  if 302 < x0 then
  if h14 472 x0.toNat 0 = 0 then
  lt_ (fi_upd h14 472 x0.toNat 0 r13) fun h15 =>
  if 302 < x0 then
  lt_ (fi_upd h15 474 x0.toNat 0 1) fun h16 =>
  if 302 < x0 then
  lt_ (fi_upd h16 476 x0.toNat 0 (-1)) fun h17 =>
  if 302 < x0 then
  lt_ (fi_upd h17 477 x0.toNat 0 (-1)) fun h18 =>
  if 302 < x0 then
  lt_ (fi_upd h18 478 x0.toNat 0 (-1)) fun h19 =>
  c_482_557 d x0 h19
  else none
  else none
  else none
  else none
  else none
  else none
  else none
  else none
  else none
  else none
  else none
  else none
  else none
  else none := by
  unfold c_482_496
  exact
    have D : fk_D 482 [(496, some [0], .aload_n 0, 1, 0, 0, 0), (497, none, .sipush 500, 3, 0, 500, 0), (500, none, .newarray .boolean, 2, 0, 0, 0), (502, none, .putfield 193, 3, 467, 129, 112), (505, none, .aload_n 0, 1, 0, 0, 0), (506, none, .bipush 9, 2, 0, 9, 0), (508, none, .newarray .int, 2, 0, 0, 0), (510, none, .putfield 196, 3, 469, 129, 112), (513, none, .aload_n 0, 1, 0, 0, 0), (514, none, .bipush 9, 2, 0, 9, 0), (516, none, .newarray .int, 2, 0, 0, 0), (518, none, .putfield 199, 3, 470, 129, 112), (521, none, .aload_n 0, 1, 0, 0, 0), (522, none, .bipush 9, 2, 0, 9, 0), (524, none, .newarray .long, 2, 0, 0, 0), (526, none, .putfield 202, 3, 471, 129, 112), (529, none, .aload_n 0, 1, 0, 0, 0), (530, none, .bipush 9, 2, 0, 9, 0), (532, none, .newarray .long, 2, 0, 0, 0), (534, none, .putfield 205, 3, 472, 129, 112)] := fq_of2 cd_482 ow_482 cl_482 rfl (pc := 496) (by decide +kernel)
    j_aldn (pc := 496) D rfl rfl rfl fun D =>
    j_sp (pc := 497) D rfl fun D =>
    j_na (pc := 500) (k := 4) (N := 65536) D rfl rfl rfl (gy (by decide)) fun r1 h2 er eh2 S q D =>
    have gt_r1 := nw_gt H.1 er
    have kc_r1 := nw_cls H.1 er eh2
    have kl_r1 := nw_len H.1 er eh2
    have T := fj_hs_ok H.1 S
    have hk := cls_st H.1 T.2 hk (by decide)
    have H := sh0_st H T
    j_pfF (pc := 502) (a := x0.toNat) (ty := 12) D rfl rfl rfl hk ⟨rfl, rfl⟩ rfl gn (gy rfl) gn fun h3 eh3 S D =>
    have T := fj_hs_ok H.1 S
    have hk := cls_st H.1 T.2 hk (by decide)
    have H := sh0_st H T
    j_aldn (pc := 505) D rfl rfl rfl fun D =>
    j_bp (pc := 506) D rfl fun D =>
    j_na (pc := 508) (k := 10) (N := 65536) D rfl rfl rfl (gy (by decide)) fun r4 h5 er eh5 S q D =>
    have gt_r4 := nw_gt H.1 er
    have kc_r4 := nw_cls H.1 er eh5
    have kl_r4 := nw_len H.1 er eh5
    have T := fj_hs_ok H.1 S
    have hk := cls_st H.1 T.2 hk (by decide)
    have H := sh0_st H T
    j_pfF (pc := 510) (a := x0.toNat) (ty := 12) D rfl rfl rfl hk ⟨rfl, rfl⟩ rfl gn (gy rfl) gn fun h6 eh6 S D =>
    have T := fj_hs_ok H.1 S
    have hk := cls_st H.1 T.2 hk (by decide)
    have H := sh0_st H T
    j_aldn (pc := 513) D rfl rfl rfl fun D =>
    j_bp (pc := 514) D rfl fun D =>
    j_na (pc := 516) (k := 10) (N := 65536) D rfl rfl rfl (gy (by decide)) fun r7 h8 er eh8 S q D =>
    have gt_r7 := nw_gt H.1 er
    have kc_r7 := nw_cls H.1 er eh8
    have kl_r7 := nw_len H.1 er eh8
    have T := fj_hs_ok H.1 S
    have hk := cls_st H.1 T.2 hk (by decide)
    have H := sh0_st H T
    j_pfF (pc := 518) (a := x0.toNat) (ty := 12) D rfl rfl rfl hk ⟨rfl, rfl⟩ rfl gn (gy rfl) gn fun h9 eh9 S D =>
    have T := fj_hs_ok H.1 S
    have hk := cls_st H.1 T.2 hk (by decide)
    have H := sh0_st H T
    j_aldn (pc := 521) D rfl rfl rfl fun D =>
    j_bp (pc := 522) D rfl fun D =>
    j_na (pc := 524) (k := 11) (N := 65536) D rfl rfl rfl (gy (by decide)) fun r10 h11 er eh11 S q D =>
    have gt_r10 := nw_gt H.1 er
    have kc_r10 := nw_cls H.1 er eh11
    have kl_r10 := nw_len H.1 er eh11
    have T := fj_hs_ok H.1 S
    have hk := cls_st H.1 T.2 hk (by decide)
    have H := sh0_st H T
    j_pfF (pc := 526) (a := x0.toNat) (ty := 12) D rfl rfl rfl hk ⟨rfl, rfl⟩ rfl gn (gy rfl) gn fun h12 eh12 S D =>
    have T := fj_hs_ok H.1 S
    have hk := cls_st H.1 T.2 hk (by decide)
    have H := sh0_st H T
    j_aldn (pc := 529) D rfl rfl rfl fun D =>
    j_bp (pc := 530) D rfl fun D =>
    j_na (pc := 532) (k := 11) (N := 65536) D rfl rfl rfl (gy (by decide)) fun r13 h14 er eh14 S q D =>
    have gt_r13 := nw_gt H.1 er
    have kc_r13 := nw_cls H.1 er eh14
    have kl_r13 := nw_len H.1 er eh14
    have T := fj_hs_ok H.1 S
    have hk := cls_st H.1 T.2 hk (by decide)
    have H := sh0_st H T
    j_pfF (pc := 534) (a := x0.toNat) (ty := 12) D rfl rfl rfl hk ⟨rfl, rfl⟩ rfl gn (gy rfl) gn fun h15 eh15 S D =>
    have T := fj_hs_ok H.1 S
    have hk := cls_st H.1 T.2 hk (by decide)
    have H := sh0_st H T
    have D : fk_D 482 [(537, none, .aload_n 0, 1, 0, 0, 0), (538, none, .iconst 1, 1, 0, 1, 0), (539, none, .putfield 208, 3, 474, 129, 4), (542, none, .aload_n 0, 1, 0, 0, 0), (543, none, .iconst (-1), 1, 0, (-1), 0), (544, none, .putfield 212, 3, 476, 129, 10), (547, none, .aload_n 0, 1, 0, 0, 0), (548, none, .iconst (-1), 1, 0, (-1), 0), (549, none, .putfield 215, 3, 477, 129, 10), (552, none, .aload_n 0, 1, 0, 0, 0), (553, none, .iconst (-1), 1, 0, (-1), 0), (554, none, .putfield 218, 3, 478, 129, 10)] := fq_of2 cd_482 ow_482 cl_482 rfl (pc := 537) (by decide +kernel)
    j_aldn (pc := 537) D rfl rfl rfl fun D =>
    j_ic (pc := 538) D rfl fun D =>
    j_pf (pc := 539) (a := x0.toNat) D rfl rfl rfl hk rfl rfl gn (gy (by decide)) fun h16 eh16 S D =>
    have T := fj_hs_ok H.1 S
    have hk := cls_st H.1 T.2 hk (by decide)
    have H := sh0_st H T
    j_aldn (pc := 542) D rfl rfl rfl fun D =>
    j_ic (pc := 543) D rfl fun D =>
    j_pf (pc := 544) (a := x0.toNat) D rfl rfl rfl hk rfl rfl gn (gy rfl) fun h17 eh17 S D =>
    have T := fj_hs_ok H.1 S
    have hk := cls_st H.1 T.2 hk (by decide)
    have H := sh0_st H T
    j_aldn (pc := 547) D rfl rfl rfl fun D =>
    j_ic (pc := 548) D rfl fun D =>
    j_pf (pc := 549) (a := x0.toNat) D rfl rfl rfl hk rfl rfl gn (gy rfl) fun h18 eh18 S D =>
    have T := fj_hs_ok H.1 S
    have hk := cls_st H.1 T.2 hk (by decide)
    have H := sh0_st H T
    j_aldn (pc := 552) D rfl rfl rfl fun D =>
    j_ic (pc := 553) D rfl fun D =>
    j_pf (pc := 554) (a := x0.toNat) D rfl rfl rfl hk rfl rfl gn (gy rfl) fun h19 eh19 S D =>
    have T := fj_hs_ok H.1 S
    have hk := cls_st H.1 T.2 hk (by decide)
    have H := sh0_st H T
    fk_jump cut_482_557 rfl rfl
theorem e_482_557 (d : Nat) (x0 : Int) {h : fi_H} (H : Sh0 h) (hk : h 0 x0.toNat 0 = 129) : c_482_557 d x0 h =
  if 302 < x0 then
  lt_ (fi_upd h 479 x0.toNat 0 (-1)) fun h1 =>
  if 302 < x0 then
  lt_ (fi_upd h1 487 x0.toNat 0 (-1)) fun h2 =>
  nw_ h2 10 12 12 fun r3 h4 =>
  if 302 < x0 then
  if h4 489 x0.toNat 0 = 0 then
  lt_ (fi_upd h4 489 x0.toNat 0 r3) fun h5 =>
  nw_ h5 10 12 12 fun r6 h7 =>
  if 302 < x0 then
  if h7 490 x0.toNat 0 = 0 then
  lt_ (fi_upd h7 490 x0.toNat 0 r6) fun h8 =>
  nw_ h8 10 12 12 fun r9 h10 =>
  if 302 < x0 then
  if h10 491 x0.toNat 0 = 0 then
  lt_ (fi_upd h10 491 x0.toNat 0 r9) fun h11 =>
  nw_ h11 10 300 300 fun r12 h13 =>
  if 302 < x0 then
  if h13 496 x0.toNat 0 = 0 then
  lt_ (fi_upd h13 496 x0.toNat 0 r12) fun h14 =>
  nw_ h14 10 300 300 fun r15 h16 =>
  if 302 < x0 then
  if h16 497 x0.toNat 0 = 0 then
  lt_ (fi_upd h16 497 x0.toNat 0 r15) fun h17 =>
  nw_ h17 10 300 300 fun r18 h19 =>
  if 302 < x0 then
  if h19 498 x0.toNat 0 = 0 then
  lt_ (fi_upd h19 498 x0.toNat 0 r18) fun h20 =>
  nw_ h20 10 300 300 fun r21 h22 =>
  if 302 < x0 then
  if h22 499 x0.toNat 0 = 0 then
  lt_ (fi_upd h22 499 x0.toNat 0 r21) fun h23 =>
  c_482_627 d x0 h23
  else none
  else none
  else none
  else none
  else none
  else none
  else none
  else none
  else none
  else none
  else none
  else none
  else none
  else none
  else none
  else none := by
  unfold c_482_557
  exact
    have D : fk_D 482 [(557, some [0], .aload_n 0, 1, 0, 0, 0), (558, none, .iconst (-1), 1, 0, (-1), 0), (559, none, .putfield 221, 3, 479, 129, 10), (562, none, .aload_n 0, 1, 0, 0, 0), (563, none, .iconst (-1), 1, 0, (-1), 0), (564, none, .putfield 224, 3, 487, 129, 10), (567, none, .aload_n 0, 1, 0, 0, 0), (568, none, .bipush 12, 2, 0, 12, 0), (570, none, .newarray .int, 2, 0, 0, 0), (572, none, .putfield 227, 3, 489, 129, 112), (575, none, .aload_n 0, 1, 0, 0, 0), (576, none, .bipush 12, 2, 0, 12, 0), (578, none, .newarray .int, 2, 0, 0, 0), (580, none, .putfield 230, 3, 490, 129, 112), (583, none, .aload_n 0, 1, 0, 0, 0), (584, none, .bipush 12, 2, 0, 12, 0), (586, none, .newarray .int, 2, 0, 0, 0), (588, none, .putfield 233, 3, 491, 129, 112), (591, none, .aload_n 0, 1, 0, 0, 0), (592, none, .sipush 300, 3, 0, 300, 0)] := fq_of2 cd_482 ow_482 cl_482 rfl (pc := 557) (by decide +kernel)
    j_aldn (pc := 557) D rfl rfl rfl fun D =>
    j_ic (pc := 558) D rfl fun D =>
    j_pf (pc := 559) (a := x0.toNat) D rfl rfl rfl hk rfl rfl gn (gy rfl) fun h1 eh1 S D =>
    have T := fj_hs_ok H.1 S
    have hk := cls_st H.1 T.2 hk (by decide)
    have H := sh0_st H T
    j_aldn (pc := 562) D rfl rfl rfl fun D =>
    j_ic (pc := 563) D rfl fun D =>
    j_pf (pc := 564) (a := x0.toNat) D rfl rfl rfl hk rfl rfl gn (gy rfl) fun h2 eh2 S D =>
    have T := fj_hs_ok H.1 S
    have hk := cls_st H.1 T.2 hk (by decide)
    have H := sh0_st H T
    j_aldn (pc := 567) D rfl rfl rfl fun D =>
    j_bp (pc := 568) D rfl fun D =>
    j_na (pc := 570) (k := 10) (N := 65536) D rfl rfl rfl (gy (by decide)) fun r3 h4 er eh4 S q D =>
    have gt_r3 := nw_gt H.1 er
    have kc_r3 := nw_cls H.1 er eh4
    have kl_r3 := nw_len H.1 er eh4
    have T := fj_hs_ok H.1 S
    have hk := cls_st H.1 T.2 hk (by decide)
    have H := sh0_st H T
    j_pfF (pc := 572) (a := x0.toNat) (ty := 12) D rfl rfl rfl hk ⟨rfl, rfl⟩ rfl gn (gy rfl) gn fun h5 eh5 S D =>
    have T := fj_hs_ok H.1 S
    have hk := cls_st H.1 T.2 hk (by decide)
    have H := sh0_st H T
    j_aldn (pc := 575) D rfl rfl rfl fun D =>
    j_bp (pc := 576) D rfl fun D =>
    j_na (pc := 578) (k := 10) (N := 65536) D rfl rfl rfl (gy (by decide)) fun r6 h7 er eh7 S q D =>
    have gt_r6 := nw_gt H.1 er
    have kc_r6 := nw_cls H.1 er eh7
    have kl_r6 := nw_len H.1 er eh7
    have T := fj_hs_ok H.1 S
    have hk := cls_st H.1 T.2 hk (by decide)
    have H := sh0_st H T
    j_pfF (pc := 580) (a := x0.toNat) (ty := 12) D rfl rfl rfl hk ⟨rfl, rfl⟩ rfl gn (gy rfl) gn fun h8 eh8 S D =>
    have T := fj_hs_ok H.1 S
    have hk := cls_st H.1 T.2 hk (by decide)
    have H := sh0_st H T
    j_aldn (pc := 583) D rfl rfl rfl fun D =>
    j_bp (pc := 584) D rfl fun D =>
    j_na (pc := 586) (k := 10) (N := 65536) D rfl rfl rfl (gy (by decide)) fun r9 h10 er eh10 S q D =>
    have gt_r9 := nw_gt H.1 er
    have kc_r9 := nw_cls H.1 er eh10
    have kl_r9 := nw_len H.1 er eh10
    have T := fj_hs_ok H.1 S
    have hk := cls_st H.1 T.2 hk (by decide)
    have H := sh0_st H T
    j_pfF (pc := 588) (a := x0.toNat) (ty := 12) D rfl rfl rfl hk ⟨rfl, rfl⟩ rfl gn (gy rfl) gn fun h11 eh11 S D =>
    have T := fj_hs_ok H.1 S
    have hk := cls_st H.1 T.2 hk (by decide)
    have H := sh0_st H T
    j_aldn (pc := 591) D rfl rfl rfl fun D =>
    j_sp (pc := 592) D rfl fun D =>
    have D : fk_D 482 [(595, none, .newarray .int, 2, 0, 0, 0), (597, none, .putfield 236, 3, 496, 129, 112), (600, none, .aload_n 0, 1, 0, 0, 0), (601, none, .sipush 300, 3, 0, 300, 0), (604, none, .newarray .int, 2, 0, 0, 0), (606, none, .putfield 239, 3, 497, 129, 112), (609, none, .aload_n 0, 1, 0, 0, 0), (610, none, .sipush 300, 3, 0, 300, 0), (613, none, .newarray .int, 2, 0, 0, 0), (615, none, .putfield 242, 3, 498, 129, 112), (618, none, .aload_n 0, 1, 0, 0, 0), (619, none, .sipush 300, 3, 0, 300, 0), (622, none, .newarray .int, 2, 0, 0, 0), (624, none, .putfield 245, 3, 499, 129, 112)] := fq_of2 cd_482 ow_482 cl_482 rfl (pc := 595) (by decide +kernel)
    j_na (pc := 595) (k := 10) (N := 65536) D rfl rfl rfl (gy (by decide)) fun r12 h13 er eh13 S q D =>
    have gt_r12 := nw_gt H.1 er
    have kc_r12 := nw_cls H.1 er eh13
    have kl_r12 := nw_len H.1 er eh13
    have T := fj_hs_ok H.1 S
    have hk := cls_st H.1 T.2 hk (by decide)
    have H := sh0_st H T
    j_pfF (pc := 597) (a := x0.toNat) (ty := 12) D rfl rfl rfl hk ⟨rfl, rfl⟩ rfl gn (gy rfl) gn fun h14 eh14 S D =>
    have T := fj_hs_ok H.1 S
    have hk := cls_st H.1 T.2 hk (by decide)
    have H := sh0_st H T
    j_aldn (pc := 600) D rfl rfl rfl fun D =>
    j_sp (pc := 601) D rfl fun D =>
    j_na (pc := 604) (k := 10) (N := 65536) D rfl rfl rfl (gy (by decide)) fun r15 h16 er eh16 S q D =>
    have gt_r15 := nw_gt H.1 er
    have kc_r15 := nw_cls H.1 er eh16
    have kl_r15 := nw_len H.1 er eh16
    have T := fj_hs_ok H.1 S
    have hk := cls_st H.1 T.2 hk (by decide)
    have H := sh0_st H T
    j_pfF (pc := 606) (a := x0.toNat) (ty := 12) D rfl rfl rfl hk ⟨rfl, rfl⟩ rfl gn (gy rfl) gn fun h17 eh17 S D =>
    have T := fj_hs_ok H.1 S
    have hk := cls_st H.1 T.2 hk (by decide)
    have H := sh0_st H T
    j_aldn (pc := 609) D rfl rfl rfl fun D =>
    j_sp (pc := 610) D rfl fun D =>
    j_na (pc := 613) (k := 10) (N := 65536) D rfl rfl rfl (gy (by decide)) fun r18 h19 er eh19 S q D =>
    have gt_r18 := nw_gt H.1 er
    have kc_r18 := nw_cls H.1 er eh19
    have kl_r18 := nw_len H.1 er eh19
    have T := fj_hs_ok H.1 S
    have hk := cls_st H.1 T.2 hk (by decide)
    have H := sh0_st H T
    j_pfF (pc := 615) (a := x0.toNat) (ty := 12) D rfl rfl rfl hk ⟨rfl, rfl⟩ rfl gn (gy rfl) gn fun h20 eh20 S D =>
    have T := fj_hs_ok H.1 S
    have hk := cls_st H.1 T.2 hk (by decide)
    have H := sh0_st H T
    j_aldn (pc := 618) D rfl rfl rfl fun D =>
    j_sp (pc := 619) D rfl fun D =>
    j_na (pc := 622) (k := 10) (N := 65536) D rfl rfl rfl (gy (by decide)) fun r21 h22 er eh22 S q D =>
    have gt_r21 := nw_gt H.1 er
    have kc_r21 := nw_cls H.1 er eh22
    have kl_r21 := nw_len H.1 er eh22
    have T := fj_hs_ok H.1 S
    have hk := cls_st H.1 T.2 hk (by decide)
    have H := sh0_st H T
    j_pfF (pc := 624) (a := x0.toNat) (ty := 12) D rfl rfl rfl hk ⟨rfl, rfl⟩ rfl gn (gy rfl) gn fun h23 eh23 S D =>
    have T := fj_hs_ok H.1 S
    have hk := cls_st H.1 T.2 hk (by decide)
    have H := sh0_st H T
    fk_jump cut_482_627 rfl rfl
theorem e_482_627 (d : Nat) (x0 : Int) {h : fi_H} (H : Sh0 h) (hk : h 0 x0.toNat 0 = 129) : c_482_627 d x0 h =
  nw_ h 10 300 300 fun r1 h2 =>
  if 302 < x0 then
  if h2 500 x0.toNat 0 = 0 then
  lt_ (fi_upd h2 500 x0.toNat 0 r1) fun h3 =>
  nw_ h3 10 300 300 fun r4 h5 =>
  if 302 < x0 then
  if h5 501 x0.toNat 0 = 0 then
  lt_ (fi_upd h5 501 x0.toNat 0 r4) fun h6 =>
  nw_ h6 10 300 300 fun r7 h8 =>
  if 302 < x0 then
  if h8 502 x0.toNat 0 = 0 then
  lt_ (fi_upd h8 502 x0.toNat 0 r7) fun h9 =>
  nw_ h9 10 300 300 fun r10 h11 =>
  if 302 < x0 then
  if h11 503 x0.toNat 0 = 0 then
  lt_ (fi_upd h11 503 x0.toNat 0 r10) fun h12 =>
  nw_ h12 11 300 300 fun r13 h14 =>
  if 302 < x0 then
  if h14 504 x0.toNat 0 = 0 then
  lt_ (fi_upd h14 504 x0.toNat 0 r13) fun h15 =>
  nw_ h15 11 300 300 fun r16 h17 =>
  if 302 < x0 then
  if h17 505 x0.toNat 0 = 0 then
  lt_ (fi_upd h17 505 x0.toNat 0 r16) fun h18 =>
  nw_ h18 4 300 300 fun r19 h20 =>
  if 302 < x0 then
  if h20 506 x0.toNat 0 = 0 then
  lt_ (fi_upd h20 506 x0.toNat 0 r19) fun h21 =>
  nw_ h21 10 400 400 fun r22 h23 =>
  if 302 < x0 then
  if h23 511 x0.toNat 0 = 0 then
  lt_ (fi_upd h23 511 x0.toNat 0 r22) fun h24 =>
  c_482_699 d x0 h24
  else none
  else none
  else none
  else none
  else none
  else none
  else none
  else none
  else none
  else none
  else none
  else none
  else none
  else none
  else none
  else none := by
  unfold c_482_627
  exact
    have D : fk_D 482 [(627, some [0], .aload_n 0, 1, 0, 0, 0), (628, none, .sipush 300, 3, 0, 300, 0), (631, none, .newarray .int, 2, 0, 0, 0), (633, none, .putfield 248, 3, 500, 129, 112), (636, none, .aload_n 0, 1, 0, 0, 0), (637, none, .sipush 300, 3, 0, 300, 0), (640, none, .newarray .int, 2, 0, 0, 0), (642, none, .putfield 251, 3, 501, 129, 112), (645, none, .aload_n 0, 1, 0, 0, 0), (646, none, .sipush 300, 3, 0, 300, 0), (649, none, .newarray .int, 2, 0, 0, 0), (651, none, .putfield 254, 3, 502, 129, 112), (654, none, .aload_n 0, 1, 0, 0, 0), (655, none, .sipush 300, 3, 0, 300, 0), (658, none, .newarray .int, 2, 0, 0, 0), (660, none, .putfield 257, 3, 503, 129, 112), (663, none, .aload_n 0, 1, 0, 0, 0), (664, none, .sipush 300, 3, 0, 300, 0), (667, none, .newarray .long, 2, 0, 0, 0), (669, none, .putfield 260, 3, 504, 129, 112)] := fq_of2 cd_482 ow_482 cl_482 rfl (pc := 627) (by decide +kernel)
    j_aldn (pc := 627) D rfl rfl rfl fun D =>
    j_sp (pc := 628) D rfl fun D =>
    j_na (pc := 631) (k := 10) (N := 65536) D rfl rfl rfl (gy (by decide)) fun r1 h2 er eh2 S q D =>
    have gt_r1 := nw_gt H.1 er
    have kc_r1 := nw_cls H.1 er eh2
    have kl_r1 := nw_len H.1 er eh2
    have T := fj_hs_ok H.1 S
    have hk := cls_st H.1 T.2 hk (by decide)
    have H := sh0_st H T
    j_pfF (pc := 633) (a := x0.toNat) (ty := 12) D rfl rfl rfl hk ⟨rfl, rfl⟩ rfl gn (gy rfl) gn fun h3 eh3 S D =>
    have T := fj_hs_ok H.1 S
    have hk := cls_st H.1 T.2 hk (by decide)
    have H := sh0_st H T
    j_aldn (pc := 636) D rfl rfl rfl fun D =>
    j_sp (pc := 637) D rfl fun D =>
    j_na (pc := 640) (k := 10) (N := 65536) D rfl rfl rfl (gy (by decide)) fun r4 h5 er eh5 S q D =>
    have gt_r4 := nw_gt H.1 er
    have kc_r4 := nw_cls H.1 er eh5
    have kl_r4 := nw_len H.1 er eh5
    have T := fj_hs_ok H.1 S
    have hk := cls_st H.1 T.2 hk (by decide)
    have H := sh0_st H T
    j_pfF (pc := 642) (a := x0.toNat) (ty := 12) D rfl rfl rfl hk ⟨rfl, rfl⟩ rfl gn (gy rfl) gn fun h6 eh6 S D =>
    have T := fj_hs_ok H.1 S
    have hk := cls_st H.1 T.2 hk (by decide)
    have H := sh0_st H T
    j_aldn (pc := 645) D rfl rfl rfl fun D =>
    j_sp (pc := 646) D rfl fun D =>
    j_na (pc := 649) (k := 10) (N := 65536) D rfl rfl rfl (gy (by decide)) fun r7 h8 er eh8 S q D =>
    have gt_r7 := nw_gt H.1 er
    have kc_r7 := nw_cls H.1 er eh8
    have kl_r7 := nw_len H.1 er eh8
    have T := fj_hs_ok H.1 S
    have hk := cls_st H.1 T.2 hk (by decide)
    have H := sh0_st H T
    j_pfF (pc := 651) (a := x0.toNat) (ty := 12) D rfl rfl rfl hk ⟨rfl, rfl⟩ rfl gn (gy rfl) gn fun h9 eh9 S D =>
    have T := fj_hs_ok H.1 S
    have hk := cls_st H.1 T.2 hk (by decide)
    have H := sh0_st H T
    j_aldn (pc := 654) D rfl rfl rfl fun D =>
    j_sp (pc := 655) D rfl fun D =>
    j_na (pc := 658) (k := 10) (N := 65536) D rfl rfl rfl (gy (by decide)) fun r10 h11 er eh11 S q D =>
    have gt_r10 := nw_gt H.1 er
    have kc_r10 := nw_cls H.1 er eh11
    have kl_r10 := nw_len H.1 er eh11
    have T := fj_hs_ok H.1 S
    have hk := cls_st H.1 T.2 hk (by decide)
    have H := sh0_st H T
    j_pfF (pc := 660) (a := x0.toNat) (ty := 12) D rfl rfl rfl hk ⟨rfl, rfl⟩ rfl gn (gy rfl) gn fun h12 eh12 S D =>
    have T := fj_hs_ok H.1 S
    have hk := cls_st H.1 T.2 hk (by decide)
    have H := sh0_st H T
    j_aldn (pc := 663) D rfl rfl rfl fun D =>
    j_sp (pc := 664) D rfl fun D =>
    j_na (pc := 667) (k := 11) (N := 65536) D rfl rfl rfl (gy (by decide)) fun r13 h14 er eh14 S q D =>
    have gt_r13 := nw_gt H.1 er
    have kc_r13 := nw_cls H.1 er eh14
    have kl_r13 := nw_len H.1 er eh14
    have T := fj_hs_ok H.1 S
    have hk := cls_st H.1 T.2 hk (by decide)
    have H := sh0_st H T
    j_pfF (pc := 669) (a := x0.toNat) (ty := 12) D rfl rfl rfl hk ⟨rfl, rfl⟩ rfl gn (gy rfl) gn fun h15 eh15 S D =>
    have T := fj_hs_ok H.1 S
    have hk := cls_st H.1 T.2 hk (by decide)
    have H := sh0_st H T
    have D : fk_D 482 [(672, none, .aload_n 0, 1, 0, 0, 0), (673, none, .sipush 300, 3, 0, 300, 0), (676, none, .newarray .long, 2, 0, 0, 0), (678, none, .putfield 263, 3, 505, 129, 112), (681, none, .aload_n 0, 1, 0, 0, 0), (682, none, .sipush 300, 3, 0, 300, 0), (685, none, .newarray .boolean, 2, 0, 0, 0), (687, none, .putfield 266, 3, 506, 129, 112), (690, none, .aload_n 0, 1, 0, 0, 0), (691, none, .sipush 400, 3, 0, 400, 0), (694, none, .newarray .int, 2, 0, 0, 0), (696, none, .putfield 269, 3, 511, 129, 112)] := fq_of2 cd_482 ow_482 cl_482 rfl (pc := 672) (by decide +kernel)
    j_aldn (pc := 672) D rfl rfl rfl fun D =>
    j_sp (pc := 673) D rfl fun D =>
    j_na (pc := 676) (k := 11) (N := 65536) D rfl rfl rfl (gy (by decide)) fun r16 h17 er eh17 S q D =>
    have gt_r16 := nw_gt H.1 er
    have kc_r16 := nw_cls H.1 er eh17
    have kl_r16 := nw_len H.1 er eh17
    have T := fj_hs_ok H.1 S
    have hk := cls_st H.1 T.2 hk (by decide)
    have H := sh0_st H T
    j_pfF (pc := 678) (a := x0.toNat) (ty := 12) D rfl rfl rfl hk ⟨rfl, rfl⟩ rfl gn (gy rfl) gn fun h18 eh18 S D =>
    have T := fj_hs_ok H.1 S
    have hk := cls_st H.1 T.2 hk (by decide)
    have H := sh0_st H T
    j_aldn (pc := 681) D rfl rfl rfl fun D =>
    j_sp (pc := 682) D rfl fun D =>
    j_na (pc := 685) (k := 4) (N := 65536) D rfl rfl rfl (gy (by decide)) fun r19 h20 er eh20 S q D =>
    have gt_r19 := nw_gt H.1 er
    have kc_r19 := nw_cls H.1 er eh20
    have kl_r19 := nw_len H.1 er eh20
    have T := fj_hs_ok H.1 S
    have hk := cls_st H.1 T.2 hk (by decide)
    have H := sh0_st H T
    j_pfF (pc := 687) (a := x0.toNat) (ty := 12) D rfl rfl rfl hk ⟨rfl, rfl⟩ rfl gn (gy rfl) gn fun h21 eh21 S D =>
    have T := fj_hs_ok H.1 S
    have hk := cls_st H.1 T.2 hk (by decide)
    have H := sh0_st H T
    j_aldn (pc := 690) D rfl rfl rfl fun D =>
    j_sp (pc := 691) D rfl fun D =>
    j_na (pc := 694) (k := 10) (N := 65536) D rfl rfl rfl (gy (by decide)) fun r22 h23 er eh23 S q D =>
    have gt_r22 := nw_gt H.1 er
    have kc_r22 := nw_cls H.1 er eh23
    have kl_r22 := nw_len H.1 er eh23
    have T := fj_hs_ok H.1 S
    have hk := cls_st H.1 T.2 hk (by decide)
    have H := sh0_st H T
    j_pfF (pc := 696) (a := x0.toNat) (ty := 12) D rfl rfl rfl hk ⟨rfl, rfl⟩ rfl gn (gy rfl) gn fun h24 eh24 S D =>
    have T := fj_hs_ok H.1 S
    have hk := cls_st H.1 T.2 hk (by decide)
    have H := sh0_st H T
    fk_jump cut_482_699 rfl rfl
theorem e_482_699 (d : Nat) (x0 : Int) {h : fi_H} (H : Sh0 h) (hk : h 0 x0.toNat 0 = 129) : c_482_699 d x0 h =
  nw_ h 10 400 400 fun r1 h2 =>
  if 302 < x0 then
  if h2 512 x0.toNat 0 = 0 then
  lt_ (fi_upd h2 512 x0.toNat 0 r1) fun h3 =>
  nw_ h3 11 400 400 fun r4 h5 =>
  if 302 < x0 then
  if h5 513 x0.toNat 0 = 0 then
  lt_ (fi_upd h5 513 x0.toNat 0 r4) fun h6 =>
  nw_ h6 11 400 400 fun r7 h8 =>
  if 302 < x0 then
  if h8 514 x0.toNat 0 = 0 then
  lt_ (fi_upd h8 514 x0.toNat 0 r7) fun h9 =>
  if 302 < x0 then
  lt_ (fi_upd h9 517 x0.toNat 0 48) fun h10 =>
  if 302 < x0 then
  lt_ (fi_upd h10 518 x0.toNat 0 1) fun h11 =>
  if 302 < x0 then
  lt_ (fi_upd h11 519 x0.toNat 0 200) fun h12 =>
  nw_ h12 10 30 30 fun r13 h14 =>
  if 302 < x0 then
  if h14 520 x0.toNat 0 = 0 then
  lt_ (fi_upd h14 520 x0.toNat 0 r13) fun h15 =>
  nw_ h15 10 30 30 fun r16 h17 =>
  if 302 < x0 then
  if h17 521 x0.toNat 0 = 0 then
  lt_ (fi_upd h17 521 x0.toNat 0 r16) fun h18 =>
  nw_ h18 10 30 30 fun r19 h20 =>
  if 302 < x0 then
  if h20 522 x0.toNat 0 = 0 then
  lt_ (fi_upd h20 522 x0.toNat 0 r19) fun h21 =>
  c_482_768 d x0 h21
  else none
  else none
  else none
  else none
  else none
  else none
  else none
  else none
  else none
  else none
  else none
  else none
  else none
  else none
  else none := by
  unfold c_482_699
  exact
    have D : fk_D 482 [(699, some [0], .aload_n 0, 1, 0, 0, 0), (700, none, .sipush 400, 3, 0, 400, 0), (703, none, .newarray .int, 2, 0, 0, 0), (705, none, .putfield 272, 3, 512, 129, 112), (708, none, .aload_n 0, 1, 0, 0, 0), (709, none, .sipush 400, 3, 0, 400, 0), (712, none, .newarray .long, 2, 0, 0, 0), (714, none, .putfield 275, 3, 513, 129, 112), (717, none, .aload_n 0, 1, 0, 0, 0), (718, none, .sipush 400, 3, 0, 400, 0), (721, none, .newarray .long, 2, 0, 0, 0), (723, none, .putfield 278, 3, 514, 129, 112), (726, none, .aload_n 0, 1, 0, 0, 0), (727, none, .bipush 48, 2, 0, 48, 0), (729, none, .putfield 281, 3, 517, 129, 10), (732, none, .aload_n 0, 1, 0, 0, 0), (733, none, .lconst 1, 1, 0, 0, 0), (734, none, .putfield 284, 3, 518, 129, 11), (737, none, .aload_n 0, 1, 0, 0, 0), (738, none, .ldc2_w 288, 3, 1, 200, 0)] := fq_of2 cd_482 ow_482 cl_482 rfl (pc := 699) (by decide +kernel)
    j_aldn (pc := 699) D rfl rfl rfl fun D =>
    j_sp (pc := 700) D rfl fun D =>
    j_na (pc := 703) (k := 10) (N := 65536) D rfl rfl rfl (gy (by decide)) fun r1 h2 er eh2 S q D =>
    have gt_r1 := nw_gt H.1 er
    have kc_r1 := nw_cls H.1 er eh2
    have kl_r1 := nw_len H.1 er eh2
    have T := fj_hs_ok H.1 S
    have hk := cls_st H.1 T.2 hk (by decide)
    have H := sh0_st H T
    j_pfF (pc := 705) (a := x0.toNat) (ty := 12) D rfl rfl rfl hk ⟨rfl, rfl⟩ rfl gn (gy rfl) gn fun h3 eh3 S D =>
    have T := fj_hs_ok H.1 S
    have hk := cls_st H.1 T.2 hk (by decide)
    have H := sh0_st H T
    j_aldn (pc := 708) D rfl rfl rfl fun D =>
    j_sp (pc := 709) D rfl fun D =>
    j_na (pc := 712) (k := 11) (N := 65536) D rfl rfl rfl (gy (by decide)) fun r4 h5 er eh5 S q D =>
    have gt_r4 := nw_gt H.1 er
    have kc_r4 := nw_cls H.1 er eh5
    have kl_r4 := nw_len H.1 er eh5
    have T := fj_hs_ok H.1 S
    have hk := cls_st H.1 T.2 hk (by decide)
    have H := sh0_st H T
    j_pfF (pc := 714) (a := x0.toNat) (ty := 12) D rfl rfl rfl hk ⟨rfl, rfl⟩ rfl gn (gy rfl) gn fun h6 eh6 S D =>
    have T := fj_hs_ok H.1 S
    have hk := cls_st H.1 T.2 hk (by decide)
    have H := sh0_st H T
    j_aldn (pc := 717) D rfl rfl rfl fun D =>
    j_sp (pc := 718) D rfl fun D =>
    j_na (pc := 721) (k := 11) (N := 65536) D rfl rfl rfl (gy (by decide)) fun r7 h8 er eh8 S q D =>
    have gt_r7 := nw_gt H.1 er
    have kc_r7 := nw_cls H.1 er eh8
    have kl_r7 := nw_len H.1 er eh8
    have T := fj_hs_ok H.1 S
    have hk := cls_st H.1 T.2 hk (by decide)
    have H := sh0_st H T
    j_pfF (pc := 723) (a := x0.toNat) (ty := 12) D rfl rfl rfl hk ⟨rfl, rfl⟩ rfl gn (gy rfl) gn fun h9 eh9 S D =>
    have T := fj_hs_ok H.1 S
    have hk := cls_st H.1 T.2 hk (by decide)
    have H := sh0_st H T
    j_aldn (pc := 726) D rfl rfl rfl fun D =>
    j_bp (pc := 727) D rfl fun D =>
    j_pf (pc := 729) (a := x0.toNat) D rfl rfl rfl hk rfl rfl gn (gy rfl) fun h10 eh10 S D =>
    have T := fj_hs_ok H.1 S
    have hk := cls_st H.1 T.2 hk (by decide)
    have H := sh0_st H T
    j_aldn (pc := 732) D rfl rfl rfl fun D =>
    j_c0 (pc := 733) (v := (1, 1)) D rfl rfl (by decide +kernel) fun D =>
    j_pf (pc := 734) (a := x0.toNat) D rfl rfl rfl hk rfl rfl gn (gy rfl) fun h11 eh11 S D =>
    have T := fj_hs_ok H.1 S
    have hk := cls_st H.1 T.2 hk (by decide)
    have H := sh0_st H T
    j_aldn (pc := 737) D rfl rfl rfl fun D =>
    j_ldc2 (pc := 738) D rfl fun D =>
    have D : fk_D 482 [(741, none, .putfield 290, 3, 519, 129, 11), (744, none, .aload_n 0, 1, 0, 0, 0), (745, none, .bipush 30, 2, 0, 30, 0), (747, none, .newarray .int, 2, 0, 0, 0), (749, none, .putfield 293, 3, 520, 129, 112), (752, none, .aload_n 0, 1, 0, 0, 0), (753, none, .bipush 30, 2, 0, 30, 0), (755, none, .newarray .int, 2, 0, 0, 0), (757, none, .putfield 296, 3, 521, 129, 112), (760, none, .aload_n 0, 1, 0, 0, 0), (761, none, .bipush 30, 2, 0, 30, 0), (763, none, .newarray .int, 2, 0, 0, 0), (765, none, .putfield 299, 3, 522, 129, 112)] := fq_of2 cd_482 ow_482 cl_482 rfl (pc := 741) (by decide +kernel)
    j_pf (pc := 741) (a := x0.toNat) D rfl rfl rfl hk rfl rfl gn (gy rfl) fun h12 eh12 S D =>
    have T := fj_hs_ok H.1 S
    have hk := cls_st H.1 T.2 hk (by decide)
    have H := sh0_st H T
    j_aldn (pc := 744) D rfl rfl rfl fun D =>
    j_bp (pc := 745) D rfl fun D =>
    j_na (pc := 747) (k := 10) (N := 65536) D rfl rfl rfl (gy (by decide)) fun r13 h14 er eh14 S q D =>
    have gt_r13 := nw_gt H.1 er
    have kc_r13 := nw_cls H.1 er eh14
    have kl_r13 := nw_len H.1 er eh14
    have T := fj_hs_ok H.1 S
    have hk := cls_st H.1 T.2 hk (by decide)
    have H := sh0_st H T
    j_pfF (pc := 749) (a := x0.toNat) (ty := 12) D rfl rfl rfl hk ⟨rfl, rfl⟩ rfl gn (gy rfl) gn fun h15 eh15 S D =>
    have T := fj_hs_ok H.1 S
    have hk := cls_st H.1 T.2 hk (by decide)
    have H := sh0_st H T
    j_aldn (pc := 752) D rfl rfl rfl fun D =>
    j_bp (pc := 753) D rfl fun D =>
    j_na (pc := 755) (k := 10) (N := 65536) D rfl rfl rfl (gy (by decide)) fun r16 h17 er eh17 S q D =>
    have gt_r16 := nw_gt H.1 er
    have kc_r16 := nw_cls H.1 er eh17
    have kl_r16 := nw_len H.1 er eh17
    have T := fj_hs_ok H.1 S
    have hk := cls_st H.1 T.2 hk (by decide)
    have H := sh0_st H T
    j_pfF (pc := 757) (a := x0.toNat) (ty := 12) D rfl rfl rfl hk ⟨rfl, rfl⟩ rfl gn (gy rfl) gn fun h18 eh18 S D =>
    have T := fj_hs_ok H.1 S
    have hk := cls_st H.1 T.2 hk (by decide)
    have H := sh0_st H T
    j_aldn (pc := 760) D rfl rfl rfl fun D =>
    j_bp (pc := 761) D rfl fun D =>
    j_na (pc := 763) (k := 10) (N := 65536) D rfl rfl rfl (gy (by decide)) fun r19 h20 er eh20 S q D =>
    have gt_r19 := nw_gt H.1 er
    have kc_r19 := nw_cls H.1 er eh20
    have kl_r19 := nw_len H.1 er eh20
    have T := fj_hs_ok H.1 S
    have hk := cls_st H.1 T.2 hk (by decide)
    have H := sh0_st H T
    j_pfF (pc := 765) (a := x0.toNat) (ty := 12) D rfl rfl rfl hk ⟨rfl, rfl⟩ rfl gn (gy rfl) gn fun h21 eh21 S D =>
    have T := fj_hs_ok H.1 S
    have hk := cls_st H.1 T.2 hk (by decide)
    have H := sh0_st H T
    fk_jump cut_482_768 rfl rfl
theorem e_482_768 (d : Nat) (x0 : Int) {h : fi_H} (H : Sh0 h) (hk : h 0 x0.toNat 0 = 129) : c_482_768 d x0 h =
  nw_ h 10 30 30 fun r1 h2 =>
  if 302 < x0 then
  if h2 523 x0.toNat 0 = 0 then
  lt_ (fi_upd h2 523 x0.toNat 0 r1) fun h3 =>
  nw_ h3 10 30 30 fun r4 h5 =>
  if 302 < x0 then
  if h5 524 x0.toNat 0 = 0 then
  lt_ (fi_upd h5 524 x0.toNat 0 r4) fun h6 =>
  nw_ h6 10 30 30 fun r7 h8 =>
  if 302 < x0 then
  if h8 525 x0.toNat 0 = 0 then
  lt_ (fi_upd h8 525 x0.toNat 0 r7) fun h9 =>
  nw_ h9 10 30 30 fun r10 h11 =>
  if 302 < x0 then
  if h11 526 x0.toNat 0 = 0 then
  lt_ (fi_upd h11 526 x0.toNat 0 r10) fun h12 =>
  nw_ h12 11 720 720 fun r13 h14 =>
  if 302 < x0 then
  if h14 527 x0.toNat 0 = 0 then
  lt_ (fi_upd h14 527 x0.toNat 0 r13) fun h15 =>
  nw_ h15 10 440 440 fun r16 h17 =>
  if 302 < x0 then
  if h17 529 x0.toNat 0 = 0 then
  lt_ (fi_upd h17 529 x0.toNat 0 r16) fun h18 =>
  nw_ h18 10 440 440 fun r19 h20 =>
  if 302 < x0 then
  if h20 530 x0.toNat 0 = 0 then
  lt_ (fi_upd h20 530 x0.toNat 0 r19) fun h21 =>
  nw_ h21 10 440 440 fun r22 h23 =>
  if 302 < x0 then
  if h23 531 x0.toNat 0 = 0 then
  lt_ (fi_upd h23 531 x0.toNat 0 r22) fun h24 =>
  c_482_836 d x0 h24
  else none
  else none
  else none
  else none
  else none
  else none
  else none
  else none
  else none
  else none
  else none
  else none
  else none
  else none
  else none
  else none := by
  unfold c_482_768
  exact
    have D : fk_D 482 [(768, some [0], .aload_n 0, 1, 0, 0, 0), (769, none, .bipush 30, 2, 0, 30, 0), (771, none, .newarray .int, 2, 0, 0, 0), (773, none, .putfield 302, 3, 523, 129, 112), (776, none, .aload_n 0, 1, 0, 0, 0), (777, none, .bipush 30, 2, 0, 30, 0), (779, none, .newarray .int, 2, 0, 0, 0), (781, none, .putfield 305, 3, 524, 129, 112), (784, none, .aload_n 0, 1, 0, 0, 0), (785, none, .bipush 30, 2, 0, 30, 0), (787, none, .newarray .int, 2, 0, 0, 0), (789, none, .putfield 308, 3, 525, 129, 112), (792, none, .aload_n 0, 1, 0, 0, 0), (793, none, .bipush 30, 2, 0, 30, 0), (795, none, .newarray .int, 2, 0, 0, 0), (797, none, .putfield 311, 3, 526, 129, 112), (800, none, .aload_n 0, 1, 0, 0, 0), (801, none, .sipush 720, 3, 0, 720, 0), (804, none, .newarray .long, 2, 0, 0, 0), (806, none, .putfield 314, 3, 527, 129, 112)] := fq_of2 cd_482 ow_482 cl_482 rfl (pc := 768) (by decide +kernel)
    j_aldn (pc := 768) D rfl rfl rfl fun D =>
    j_bp (pc := 769) D rfl fun D =>
    j_na (pc := 771) (k := 10) (N := 65536) D rfl rfl rfl (gy (by decide)) fun r1 h2 er eh2 S q D =>
    have gt_r1 := nw_gt H.1 er
    have kc_r1 := nw_cls H.1 er eh2
    have kl_r1 := nw_len H.1 er eh2
    have T := fj_hs_ok H.1 S
    have hk := cls_st H.1 T.2 hk (by decide)
    have H := sh0_st H T
    j_pfF (pc := 773) (a := x0.toNat) (ty := 12) D rfl rfl rfl hk ⟨rfl, rfl⟩ rfl gn (gy rfl) gn fun h3 eh3 S D =>
    have T := fj_hs_ok H.1 S
    have hk := cls_st H.1 T.2 hk (by decide)
    have H := sh0_st H T
    j_aldn (pc := 776) D rfl rfl rfl fun D =>
    j_bp (pc := 777) D rfl fun D =>
    j_na (pc := 779) (k := 10) (N := 65536) D rfl rfl rfl (gy (by decide)) fun r4 h5 er eh5 S q D =>
    have gt_r4 := nw_gt H.1 er
    have kc_r4 := nw_cls H.1 er eh5
    have kl_r4 := nw_len H.1 er eh5
    have T := fj_hs_ok H.1 S
    have hk := cls_st H.1 T.2 hk (by decide)
    have H := sh0_st H T
    j_pfF (pc := 781) (a := x0.toNat) (ty := 12) D rfl rfl rfl hk ⟨rfl, rfl⟩ rfl gn (gy rfl) gn fun h6 eh6 S D =>
    have T := fj_hs_ok H.1 S
    have hk := cls_st H.1 T.2 hk (by decide)
    have H := sh0_st H T
    j_aldn (pc := 784) D rfl rfl rfl fun D =>
    j_bp (pc := 785) D rfl fun D =>
    j_na (pc := 787) (k := 10) (N := 65536) D rfl rfl rfl (gy (by decide)) fun r7 h8 er eh8 S q D =>
    have gt_r7 := nw_gt H.1 er
    have kc_r7 := nw_cls H.1 er eh8
    have kl_r7 := nw_len H.1 er eh8
    have T := fj_hs_ok H.1 S
    have hk := cls_st H.1 T.2 hk (by decide)
    have H := sh0_st H T
    j_pfF (pc := 789) (a := x0.toNat) (ty := 12) D rfl rfl rfl hk ⟨rfl, rfl⟩ rfl gn (gy rfl) gn fun h9 eh9 S D =>
    have T := fj_hs_ok H.1 S
    have hk := cls_st H.1 T.2 hk (by decide)
    have H := sh0_st H T
    j_aldn (pc := 792) D rfl rfl rfl fun D =>
    j_bp (pc := 793) D rfl fun D =>
    j_na (pc := 795) (k := 10) (N := 65536) D rfl rfl rfl (gy (by decide)) fun r10 h11 er eh11 S q D =>
    have gt_r10 := nw_gt H.1 er
    have kc_r10 := nw_cls H.1 er eh11
    have kl_r10 := nw_len H.1 er eh11
    have T := fj_hs_ok H.1 S
    have hk := cls_st H.1 T.2 hk (by decide)
    have H := sh0_st H T
    j_pfF (pc := 797) (a := x0.toNat) (ty := 12) D rfl rfl rfl hk ⟨rfl, rfl⟩ rfl gn (gy rfl) gn fun h12 eh12 S D =>
    have T := fj_hs_ok H.1 S
    have hk := cls_st H.1 T.2 hk (by decide)
    have H := sh0_st H T
    j_aldn (pc := 800) D rfl rfl rfl fun D =>
    j_sp (pc := 801) D rfl fun D =>
    j_na (pc := 804) (k := 11) (N := 65536) D rfl rfl rfl (gy (by decide)) fun r13 h14 er eh14 S q D =>
    have gt_r13 := nw_gt H.1 er
    have kc_r13 := nw_cls H.1 er eh14
    have kl_r13 := nw_len H.1 er eh14
    have T := fj_hs_ok H.1 S
    have hk := cls_st H.1 T.2 hk (by decide)
    have H := sh0_st H T
    j_pfF (pc := 806) (a := x0.toNat) (ty := 12) D rfl rfl rfl hk ⟨rfl, rfl⟩ rfl gn (gy rfl) gn fun h15 eh15 S D =>
    have T := fj_hs_ok H.1 S
    have hk := cls_st H.1 T.2 hk (by decide)
    have H := sh0_st H T
    have D : fk_D 482 [(809, none, .aload_n 0, 1, 0, 0, 0), (810, none, .sipush 440, 3, 0, 440, 0), (813, none, .newarray .int, 2, 0, 0, 0), (815, none, .putfield 317, 3, 529, 129, 112), (818, none, .aload_n 0, 1, 0, 0, 0), (819, none, .sipush 440, 3, 0, 440, 0), (822, none, .newarray .int, 2, 0, 0, 0), (824, none, .putfield 320, 3, 530, 129, 112), (827, none, .aload_n 0, 1, 0, 0, 0), (828, none, .sipush 440, 3, 0, 440, 0), (831, none, .newarray .int, 2, 0, 0, 0), (833, none, .putfield 323, 3, 531, 129, 112)] := fq_of2 cd_482 ow_482 cl_482 rfl (pc := 809) (by decide +kernel)
    j_aldn (pc := 809) D rfl rfl rfl fun D =>
    j_sp (pc := 810) D rfl fun D =>
    j_na (pc := 813) (k := 10) (N := 65536) D rfl rfl rfl (gy (by decide)) fun r16 h17 er eh17 S q D =>
    have gt_r16 := nw_gt H.1 er
    have kc_r16 := nw_cls H.1 er eh17
    have kl_r16 := nw_len H.1 er eh17
    have T := fj_hs_ok H.1 S
    have hk := cls_st H.1 T.2 hk (by decide)
    have H := sh0_st H T
    j_pfF (pc := 815) (a := x0.toNat) (ty := 12) D rfl rfl rfl hk ⟨rfl, rfl⟩ rfl gn (gy rfl) gn fun h18 eh18 S D =>
    have T := fj_hs_ok H.1 S
    have hk := cls_st H.1 T.2 hk (by decide)
    have H := sh0_st H T
    j_aldn (pc := 818) D rfl rfl rfl fun D =>
    j_sp (pc := 819) D rfl fun D =>
    j_na (pc := 822) (k := 10) (N := 65536) D rfl rfl rfl (gy (by decide)) fun r19 h20 er eh20 S q D =>
    have gt_r19 := nw_gt H.1 er
    have kc_r19 := nw_cls H.1 er eh20
    have kl_r19 := nw_len H.1 er eh20
    have T := fj_hs_ok H.1 S
    have hk := cls_st H.1 T.2 hk (by decide)
    have H := sh0_st H T
    j_pfF (pc := 824) (a := x0.toNat) (ty := 12) D rfl rfl rfl hk ⟨rfl, rfl⟩ rfl gn (gy rfl) gn fun h21 eh21 S D =>
    have T := fj_hs_ok H.1 S
    have hk := cls_st H.1 T.2 hk (by decide)
    have H := sh0_st H T
    j_aldn (pc := 827) D rfl rfl rfl fun D =>
    j_sp (pc := 828) D rfl fun D =>
    j_na (pc := 831) (k := 10) (N := 65536) D rfl rfl rfl (gy (by decide)) fun r22 h23 er eh23 S q D =>
    have gt_r22 := nw_gt H.1 er
    have kc_r22 := nw_cls H.1 er eh23
    have kl_r22 := nw_len H.1 er eh23
    have T := fj_hs_ok H.1 S
    have hk := cls_st H.1 T.2 hk (by decide)
    have H := sh0_st H T
    j_pfF (pc := 833) (a := x0.toNat) (ty := 12) D rfl rfl rfl hk ⟨rfl, rfl⟩ rfl gn (gy rfl) gn fun h24 eh24 S D =>
    have T := fj_hs_ok H.1 S
    have hk := cls_st H.1 T.2 hk (by decide)
    have H := sh0_st H T
    fk_jump cut_482_836 rfl rfl
theorem e_482_836 (d : Nat) (x0 : Int) {h : fi_H} (H : Sh0 h) (hk : h 0 x0.toNat 0 = 129) : c_482_836 d x0 h =
  nw_ h 11 440 440 fun r1 h2 =>
  if 302 < x0 then
  if h2 532 x0.toNat 0 = 0 then
  lt_ (fi_upd h2 532 x0.toNat 0 r1) fun h3 =>
  nw_ h3 10 440 440 fun r4 h5 =>
  if 302 < x0 then
  if h5 533 x0.toNat 0 = 0 then
  lt_ (fi_upd h5 533 x0.toNat 0 r4) fun h6 =>
  nw_ h6 10 440 440 fun r7 h8 =>
  if 302 < x0 then
  if h8 534 x0.toNat 0 = 0 then
  lt_ (fi_upd h8 534 x0.toNat 0 r7) fun h9 =>
  nw_ h9 11 440 440 fun r10 h11 =>
  if 302 < x0 then
  if h11 535 x0.toNat 0 = 0 then
  lt_ (fi_upd h11 535 x0.toNat 0 r10) fun h12 =>
  nw_ h12 10 440 440 fun r13 h14 =>
  if 302 < x0 then
  if h14 536 x0.toNat 0 = 0 then
  lt_ (fi_upd h14 536 x0.toNat 0 r13) fun h15 =>
  nw_ h15 10 440 440 fun r16 h17 =>
  if 302 < x0 then
  if h17 537 x0.toNat 0 = 0 then
  lt_ (fi_upd h17 537 x0.toNat 0 r16) fun h18 =>
  nw_ h18 4 440 440 fun r19 h20 =>
  if 302 < x0 then
  if h20 538 x0.toNat 0 = 0 then
  lt_ (fi_upd h20 538 x0.toNat 0 r19) fun h21 =>
  nw_ h21 11 30 30 fun r22 h23 =>
  if 302 < x0 then
  if h23 539 x0.toNat 0 = 0 then
  lt_ (fi_upd h23 539 x0.toNat 0 r22) fun h24 =>
  c_482_907 d x0 h24
  else none
  else none
  else none
  else none
  else none
  else none
  else none
  else none
  else none
  else none
  else none
  else none
  else none
  else none
  else none
  else none := by
  unfold c_482_836
  exact
    have D : fk_D 482 [(836, some [0], .aload_n 0, 1, 0, 0, 0), (837, none, .sipush 440, 3, 0, 440, 0), (840, none, .newarray .long, 2, 0, 0, 0), (842, none, .putfield 326, 3, 532, 129, 112), (845, none, .aload_n 0, 1, 0, 0, 0), (846, none, .sipush 440, 3, 0, 440, 0), (849, none, .newarray .int, 2, 0, 0, 0), (851, none, .putfield 329, 3, 533, 129, 112), (854, none, .aload_n 0, 1, 0, 0, 0), (855, none, .sipush 440, 3, 0, 440, 0), (858, none, .newarray .int, 2, 0, 0, 0), (860, none, .putfield 332, 3, 534, 129, 112), (863, none, .aload_n 0, 1, 0, 0, 0), (864, none, .sipush 440, 3, 0, 440, 0), (867, none, .newarray .long, 2, 0, 0, 0), (869, none, .putfield 335, 3, 535, 129, 112), (872, none, .aload_n 0, 1, 0, 0, 0), (873, none, .sipush 440, 3, 0, 440, 0), (876, none, .newarray .int, 2, 0, 0, 0), (878, none, .putfield 338, 3, 536, 129, 112)] := fq_of2 cd_482 ow_482 cl_482 rfl (pc := 836) (by decide +kernel)
    j_aldn (pc := 836) D rfl rfl rfl fun D =>
    j_sp (pc := 837) D rfl fun D =>
    j_na (pc := 840) (k := 11) (N := 65536) D rfl rfl rfl (gy (by decide)) fun r1 h2 er eh2 S q D =>
    have gt_r1 := nw_gt H.1 er
    have kc_r1 := nw_cls H.1 er eh2
    have kl_r1 := nw_len H.1 er eh2
    have T := fj_hs_ok H.1 S
    have hk := cls_st H.1 T.2 hk (by decide)
    have H := sh0_st H T
    j_pfF (pc := 842) (a := x0.toNat) (ty := 12) D rfl rfl rfl hk ⟨rfl, rfl⟩ rfl gn (gy rfl) gn fun h3 eh3 S D =>
    have T := fj_hs_ok H.1 S
    have hk := cls_st H.1 T.2 hk (by decide)
    have H := sh0_st H T
    j_aldn (pc := 845) D rfl rfl rfl fun D =>
    j_sp (pc := 846) D rfl fun D =>
    j_na (pc := 849) (k := 10) (N := 65536) D rfl rfl rfl (gy (by decide)) fun r4 h5 er eh5 S q D =>
    have gt_r4 := nw_gt H.1 er
    have kc_r4 := nw_cls H.1 er eh5
    have kl_r4 := nw_len H.1 er eh5
    have T := fj_hs_ok H.1 S
    have hk := cls_st H.1 T.2 hk (by decide)
    have H := sh0_st H T
    j_pfF (pc := 851) (a := x0.toNat) (ty := 12) D rfl rfl rfl hk ⟨rfl, rfl⟩ rfl gn (gy rfl) gn fun h6 eh6 S D =>
    have T := fj_hs_ok H.1 S
    have hk := cls_st H.1 T.2 hk (by decide)
    have H := sh0_st H T
    j_aldn (pc := 854) D rfl rfl rfl fun D =>
    j_sp (pc := 855) D rfl fun D =>
    j_na (pc := 858) (k := 10) (N := 65536) D rfl rfl rfl (gy (by decide)) fun r7 h8 er eh8 S q D =>
    have gt_r7 := nw_gt H.1 er
    have kc_r7 := nw_cls H.1 er eh8
    have kl_r7 := nw_len H.1 er eh8
    have T := fj_hs_ok H.1 S
    have hk := cls_st H.1 T.2 hk (by decide)
    have H := sh0_st H T
    j_pfF (pc := 860) (a := x0.toNat) (ty := 12) D rfl rfl rfl hk ⟨rfl, rfl⟩ rfl gn (gy rfl) gn fun h9 eh9 S D =>
    have T := fj_hs_ok H.1 S
    have hk := cls_st H.1 T.2 hk (by decide)
    have H := sh0_st H T
    j_aldn (pc := 863) D rfl rfl rfl fun D =>
    j_sp (pc := 864) D rfl fun D =>
    j_na (pc := 867) (k := 11) (N := 65536) D rfl rfl rfl (gy (by decide)) fun r10 h11 er eh11 S q D =>
    have gt_r10 := nw_gt H.1 er
    have kc_r10 := nw_cls H.1 er eh11
    have kl_r10 := nw_len H.1 er eh11
    have T := fj_hs_ok H.1 S
    have hk := cls_st H.1 T.2 hk (by decide)
    have H := sh0_st H T
    j_pfF (pc := 869) (a := x0.toNat) (ty := 12) D rfl rfl rfl hk ⟨rfl, rfl⟩ rfl gn (gy rfl) gn fun h12 eh12 S D =>
    have T := fj_hs_ok H.1 S
    have hk := cls_st H.1 T.2 hk (by decide)
    have H := sh0_st H T
    j_aldn (pc := 872) D rfl rfl rfl fun D =>
    j_sp (pc := 873) D rfl fun D =>
    j_na (pc := 876) (k := 10) (N := 65536) D rfl rfl rfl (gy (by decide)) fun r13 h14 er eh14 S q D =>
    have gt_r13 := nw_gt H.1 er
    have kc_r13 := nw_cls H.1 er eh14
    have kl_r13 := nw_len H.1 er eh14
    have T := fj_hs_ok H.1 S
    have hk := cls_st H.1 T.2 hk (by decide)
    have H := sh0_st H T
    j_pfF (pc := 878) (a := x0.toNat) (ty := 12) D rfl rfl rfl hk ⟨rfl, rfl⟩ rfl gn (gy rfl) gn fun h15 eh15 S D =>
    have T := fj_hs_ok H.1 S
    have hk := cls_st H.1 T.2 hk (by decide)
    have H := sh0_st H T
    have D : fk_D 482 [(881, none, .aload_n 0, 1, 0, 0, 0), (882, none, .sipush 440, 3, 0, 440, 0), (885, none, .newarray .int, 2, 0, 0, 0), (887, none, .putfield 341, 3, 537, 129, 112), (890, none, .aload_n 0, 1, 0, 0, 0), (891, none, .sipush 440, 3, 0, 440, 0), (894, none, .newarray .boolean, 2, 0, 0, 0), (896, none, .putfield 344, 3, 538, 129, 112), (899, none, .aload_n 0, 1, 0, 0, 0), (900, none, .bipush 30, 2, 0, 30, 0), (902, none, .newarray .long, 2, 0, 0, 0), (904, none, .putfield 347, 3, 539, 129, 112)] := fq_of2 cd_482 ow_482 cl_482 rfl (pc := 881) (by decide +kernel)
    j_aldn (pc := 881) D rfl rfl rfl fun D =>
    j_sp (pc := 882) D rfl fun D =>
    j_na (pc := 885) (k := 10) (N := 65536) D rfl rfl rfl (gy (by decide)) fun r16 h17 er eh17 S q D =>
    have gt_r16 := nw_gt H.1 er
    have kc_r16 := nw_cls H.1 er eh17
    have kl_r16 := nw_len H.1 er eh17
    have T := fj_hs_ok H.1 S
    have hk := cls_st H.1 T.2 hk (by decide)
    have H := sh0_st H T
    j_pfF (pc := 887) (a := x0.toNat) (ty := 12) D rfl rfl rfl hk ⟨rfl, rfl⟩ rfl gn (gy rfl) gn fun h18 eh18 S D =>
    have T := fj_hs_ok H.1 S
    have hk := cls_st H.1 T.2 hk (by decide)
    have H := sh0_st H T
    j_aldn (pc := 890) D rfl rfl rfl fun D =>
    j_sp (pc := 891) D rfl fun D =>
    j_na (pc := 894) (k := 4) (N := 65536) D rfl rfl rfl (gy (by decide)) fun r19 h20 er eh20 S q D =>
    have gt_r19 := nw_gt H.1 er
    have kc_r19 := nw_cls H.1 er eh20
    have kl_r19 := nw_len H.1 er eh20
    have T := fj_hs_ok H.1 S
    have hk := cls_st H.1 T.2 hk (by decide)
    have H := sh0_st H T
    j_pfF (pc := 896) (a := x0.toNat) (ty := 12) D rfl rfl rfl hk ⟨rfl, rfl⟩ rfl gn (gy rfl) gn fun h21 eh21 S D =>
    have T := fj_hs_ok H.1 S
    have hk := cls_st H.1 T.2 hk (by decide)
    have H := sh0_st H T
    j_aldn (pc := 899) D rfl rfl rfl fun D =>
    j_bp (pc := 900) D rfl fun D =>
    j_na (pc := 902) (k := 11) (N := 65536) D rfl rfl rfl (gy (by decide)) fun r22 h23 er eh23 S q D =>
    have gt_r22 := nw_gt H.1 er
    have kc_r22 := nw_cls H.1 er eh23
    have kl_r22 := nw_len H.1 er eh23
    have T := fj_hs_ok H.1 S
    have hk := cls_st H.1 T.2 hk (by decide)
    have H := sh0_st H T
    j_pfF (pc := 904) (a := x0.toNat) (ty := 12) D rfl rfl rfl hk ⟨rfl, rfl⟩ rfl gn (gy rfl) gn fun h24 eh24 S D =>
    have T := fj_hs_ok H.1 S
    have hk := cls_st H.1 T.2 hk (by decide)
    have H := sh0_st H T
    fk_jump cut_482_907 rfl rfl
theorem e_482_907 (d : Nat) (x0 : Int) {h : fi_H} (H : Sh0 h) (hk : h 0 x0.toNat 0 = 129) : c_482_907 d x0 h =
  if 302 < x0 then
  lt_ (fi_upd h 540 x0.toNat 0 500) fun h1 =>
  if 302 < x0 then
  lt_ (fi_upd h1 541 x0.toNat 0 60) fun h2 =>
  nw_ h2 11 24 24 fun r3 h4 =>
  if 302 < x0 then
  if h4 543 x0.toNat 0 = 0 then
  lt_ (fi_upd h4 543 x0.toNat 0 r3) fun h5 =>
  nw_ h5 10 24 24 fun r6 h7 =>
  if 302 < x0 then
  if h7 544 x0.toNat 0 = 0 then
  lt_ (fi_upd h7 544 x0.toNat 0 r6) fun h8 =>
  nw_ h8 11 24 24 fun r9 h10 =>
  if 302 < x0 then
  if h10 545 x0.toNat 0 = 0 then
  lt_ (fi_upd h10 545 x0.toNat 0 r9) fun h11 =>
  nw_ h11 4 24 24 fun r12 h13 =>
  if 302 < x0 then
  if h13 546 x0.toNat 0 = 0 then
  lt_ (fi_upd h13 546 x0.toNat 0 r12) fun h14 =>
  nw_ h14 4 24 24 fun r15 h16 =>
  if 302 < x0 then
  if h16 547 x0.toNat 0 = 0 then
  lt_ (fi_upd h16 547 x0.toNat 0 r15) fun h17 =>
  nw_ h17 11 60 60 fun r18 h19 =>
  if 302 < x0 then
  if h19 548 x0.toNat 0 = 0 then
  lt_ (fi_upd h19 548 x0.toNat 0 r18) fun h20 =>
  nw_ h20 10 60 60 fun r21 h22 =>
  if 302 < x0 then
  if h22 549 x0.toNat 0 = 0 then
  lt_ (fi_upd h22 549 x0.toNat 0 r21) fun h23 =>
  c_482_976 d x0 h23
  else none
  else none
  else none
  else none
  else none
  else none
  else none
  else none
  else none
  else none
  else none
  else none
  else none
  else none
  else none
  else none := by
  unfold c_482_907
  exact
    have D : fk_D 482 [(907, some [0], .aload_n 0, 1, 0, 0, 0), (908, none, .sipush 500, 3, 0, 500, 0), (911, none, .putfield 350, 3, 540, 129, 10), (914, none, .aload_n 0, 1, 0, 0, 0), (915, none, .bipush 60, 2, 0, 60, 0), (917, none, .putfield 353, 3, 541, 129, 10), (920, none, .aload_n 0, 1, 0, 0, 0), (921, none, .bipush 24, 2, 0, 24, 0), (923, none, .newarray .long, 2, 0, 0, 0), (925, none, .putfield 356, 3, 543, 129, 112), (928, none, .aload_n 0, 1, 0, 0, 0), (929, none, .bipush 24, 2, 0, 24, 0), (931, none, .newarray .int, 2, 0, 0, 0), (933, none, .putfield 359, 3, 544, 129, 112), (936, none, .aload_n 0, 1, 0, 0, 0), (937, none, .bipush 24, 2, 0, 24, 0), (939, none, .newarray .long, 2, 0, 0, 0), (941, none, .putfield 362, 3, 545, 129, 112), (944, none, .aload_n 0, 1, 0, 0, 0), (945, none, .bipush 24, 2, 0, 24, 0)] := fq_of2 cd_482 ow_482 cl_482 rfl (pc := 907) (by decide +kernel)
    j_aldn (pc := 907) D rfl rfl rfl fun D =>
    j_sp (pc := 908) D rfl fun D =>
    j_pf (pc := 911) (a := x0.toNat) D rfl rfl rfl hk rfl rfl gn (gy rfl) fun h1 eh1 S D =>
    have T := fj_hs_ok H.1 S
    have hk := cls_st H.1 T.2 hk (by decide)
    have H := sh0_st H T
    j_aldn (pc := 914) D rfl rfl rfl fun D =>
    j_bp (pc := 915) D rfl fun D =>
    j_pf (pc := 917) (a := x0.toNat) D rfl rfl rfl hk rfl rfl gn (gy rfl) fun h2 eh2 S D =>
    have T := fj_hs_ok H.1 S
    have hk := cls_st H.1 T.2 hk (by decide)
    have H := sh0_st H T
    j_aldn (pc := 920) D rfl rfl rfl fun D =>
    j_bp (pc := 921) D rfl fun D =>
    j_na (pc := 923) (k := 11) (N := 65536) D rfl rfl rfl (gy (by decide)) fun r3 h4 er eh4 S q D =>
    have gt_r3 := nw_gt H.1 er
    have kc_r3 := nw_cls H.1 er eh4
    have kl_r3 := nw_len H.1 er eh4
    have T := fj_hs_ok H.1 S
    have hk := cls_st H.1 T.2 hk (by decide)
    have H := sh0_st H T
    j_pfF (pc := 925) (a := x0.toNat) (ty := 12) D rfl rfl rfl hk ⟨rfl, rfl⟩ rfl gn (gy rfl) gn fun h5 eh5 S D =>
    have T := fj_hs_ok H.1 S
    have hk := cls_st H.1 T.2 hk (by decide)
    have H := sh0_st H T
    j_aldn (pc := 928) D rfl rfl rfl fun D =>
    j_bp (pc := 929) D rfl fun D =>
    j_na (pc := 931) (k := 10) (N := 65536) D rfl rfl rfl (gy (by decide)) fun r6 h7 er eh7 S q D =>
    have gt_r6 := nw_gt H.1 er
    have kc_r6 := nw_cls H.1 er eh7
    have kl_r6 := nw_len H.1 er eh7
    have T := fj_hs_ok H.1 S
    have hk := cls_st H.1 T.2 hk (by decide)
    have H := sh0_st H T
    j_pfF (pc := 933) (a := x0.toNat) (ty := 12) D rfl rfl rfl hk ⟨rfl, rfl⟩ rfl gn (gy rfl) gn fun h8 eh8 S D =>
    have T := fj_hs_ok H.1 S
    have hk := cls_st H.1 T.2 hk (by decide)
    have H := sh0_st H T
    j_aldn (pc := 936) D rfl rfl rfl fun D =>
    j_bp (pc := 937) D rfl fun D =>
    j_na (pc := 939) (k := 11) (N := 65536) D rfl rfl rfl (gy (by decide)) fun r9 h10 er eh10 S q D =>
    have gt_r9 := nw_gt H.1 er
    have kc_r9 := nw_cls H.1 er eh10
    have kl_r9 := nw_len H.1 er eh10
    have T := fj_hs_ok H.1 S
    have hk := cls_st H.1 T.2 hk (by decide)
    have H := sh0_st H T
    j_pfF (pc := 941) (a := x0.toNat) (ty := 12) D rfl rfl rfl hk ⟨rfl, rfl⟩ rfl gn (gy rfl) gn fun h11 eh11 S D =>
    have T := fj_hs_ok H.1 S
    have hk := cls_st H.1 T.2 hk (by decide)
    have H := sh0_st H T
    j_aldn (pc := 944) D rfl rfl rfl fun D =>
    j_bp (pc := 945) D rfl fun D =>
    have D : fk_D 482 [(947, none, .newarray .boolean, 2, 0, 0, 0), (949, none, .putfield 365, 3, 546, 129, 112), (952, none, .aload_n 0, 1, 0, 0, 0), (953, none, .bipush 24, 2, 0, 24, 0), (955, none, .newarray .boolean, 2, 0, 0, 0), (957, none, .putfield 368, 3, 547, 129, 112), (960, none, .aload_n 0, 1, 0, 0, 0), (961, none, .bipush 60, 2, 0, 60, 0), (963, none, .newarray .long, 2, 0, 0, 0), (965, none, .putfield 371, 3, 548, 129, 112), (968, none, .aload_n 0, 1, 0, 0, 0), (969, none, .bipush 60, 2, 0, 60, 0), (971, none, .newarray .int, 2, 0, 0, 0), (973, none, .putfield 374, 3, 549, 129, 112)] := fq_of2 cd_482 ow_482 cl_482 rfl (pc := 947) (by decide +kernel)
    j_na (pc := 947) (k := 4) (N := 65536) D rfl rfl rfl (gy (by decide)) fun r12 h13 er eh13 S q D =>
    have gt_r12 := nw_gt H.1 er
    have kc_r12 := nw_cls H.1 er eh13
    have kl_r12 := nw_len H.1 er eh13
    have T := fj_hs_ok H.1 S
    have hk := cls_st H.1 T.2 hk (by decide)
    have H := sh0_st H T
    j_pfF (pc := 949) (a := x0.toNat) (ty := 12) D rfl rfl rfl hk ⟨rfl, rfl⟩ rfl gn (gy rfl) gn fun h14 eh14 S D =>
    have T := fj_hs_ok H.1 S
    have hk := cls_st H.1 T.2 hk (by decide)
    have H := sh0_st H T
    j_aldn (pc := 952) D rfl rfl rfl fun D =>
    j_bp (pc := 953) D rfl fun D =>
    j_na (pc := 955) (k := 4) (N := 65536) D rfl rfl rfl (gy (by decide)) fun r15 h16 er eh16 S q D =>
    have gt_r15 := nw_gt H.1 er
    have kc_r15 := nw_cls H.1 er eh16
    have kl_r15 := nw_len H.1 er eh16
    have T := fj_hs_ok H.1 S
    have hk := cls_st H.1 T.2 hk (by decide)
    have H := sh0_st H T
    j_pfF (pc := 957) (a := x0.toNat) (ty := 12) D rfl rfl rfl hk ⟨rfl, rfl⟩ rfl gn (gy rfl) gn fun h17 eh17 S D =>
    have T := fj_hs_ok H.1 S
    have hk := cls_st H.1 T.2 hk (by decide)
    have H := sh0_st H T
    j_aldn (pc := 960) D rfl rfl rfl fun D =>
    j_bp (pc := 961) D rfl fun D =>
    j_na (pc := 963) (k := 11) (N := 65536) D rfl rfl rfl (gy (by decide)) fun r18 h19 er eh19 S q D =>
    have gt_r18 := nw_gt H.1 er
    have kc_r18 := nw_cls H.1 er eh19
    have kl_r18 := nw_len H.1 er eh19
    have T := fj_hs_ok H.1 S
    have hk := cls_st H.1 T.2 hk (by decide)
    have H := sh0_st H T
    j_pfF (pc := 965) (a := x0.toNat) (ty := 12) D rfl rfl rfl hk ⟨rfl, rfl⟩ rfl gn (gy rfl) gn fun h20 eh20 S D =>
    have T := fj_hs_ok H.1 S
    have hk := cls_st H.1 T.2 hk (by decide)
    have H := sh0_st H T
    j_aldn (pc := 968) D rfl rfl rfl fun D =>
    j_bp (pc := 969) D rfl fun D =>
    j_na (pc := 971) (k := 10) (N := 65536) D rfl rfl rfl (gy (by decide)) fun r21 h22 er eh22 S q D =>
    have gt_r21 := nw_gt H.1 er
    have kc_r21 := nw_cls H.1 er eh22
    have kl_r21 := nw_len H.1 er eh22
    have T := fj_hs_ok H.1 S
    have hk := cls_st H.1 T.2 hk (by decide)
    have H := sh0_st H T
    j_pfF (pc := 973) (a := x0.toNat) (ty := 12) D rfl rfl rfl hk ⟨rfl, rfl⟩ rfl gn (gy rfl) gn fun h23 eh23 S D =>
    have T := fj_hs_ok H.1 S
    have hk := cls_st H.1 T.2 hk (by decide)
    have H := sh0_st H T
    fk_jump cut_482_976 rfl rfl
theorem e_482_976 (d : Nat) (x0 : Int) {h : fi_H} (H : Sh0 h) (hk : h 0 x0.toNat 0 = 129) : c_482_976 d x0 h =
  nw_ h 11 30 30 fun r1 h2 =>
  if 302 < x0 then
  if h2 551 x0.toNat 0 = 0 then
  lt_ (fi_upd h2 551 x0.toNat 0 r1) fun h3 =>
  nw_ h3 11 30 30 fun r4 h5 =>
  if 302 < x0 then
  if h5 552 x0.toNat 0 = 0 then
  lt_ (fi_upd h5 552 x0.toNat 0 r4) fun h6 =>
  nw_ h6 6 30 30 fun r7 h8 =>
  if 302 < x0 then
  if h8 553 x0.toNat 0 = 0 then
  lt_ (fi_upd h8 553 x0.toNat 0 r7) fun h9 =>
  nw_ h9 10 9 9 fun r10 h11 =>
  if 302 < x0 then
  if h11 557 x0.toNat 0 = 0 then
  lt_ (fi_upd h11 557 x0.toNat 0 r10) fun h12 =>
  if 302 < x0 then
  lt_ (fi_upd h12 560 x0.toNat 0 (-1)) fun h13 =>
  if 302 < x0 then
  lt_ (fi_upd h13 562 x0.toNat 0 (-1)) fun h14 =>
  if 302 < x0 then
  lt_ (fi_upd h14 563 x0.toNat 0 (-1)) fun h15 =>
  nw_ h15 4 1600 1600 fun r16 h17 =>
  if 302 < x0 then
  if h17 565 x0.toNat 0 = 0 then
  lt_ (fi_upd h17 565 x0.toNat 0 r16) fun h18 =>
  nw_ h18 8 12000 12000 fun r19 h20 =>
  if 302 < x0 then
  if h20 566 x0.toNat 0 = 0 then
  lt_ (fi_upd h20 566 x0.toNat 0 r19) fun h21 =>
  c_482_1041 d x0 h21
  else none
  else none
  else none
  else none
  else none
  else none
  else none
  else none
  else none
  else none
  else none
  else none
  else none
  else none
  else none := by
  unfold c_482_976
  exact
    have D : fk_D 482 [(976, some [0], .aload_n 0, 1, 0, 0, 0), (977, none, .bipush 30, 2, 0, 30, 0), (979, none, .newarray .long, 2, 0, 0, 0), (981, none, .putfield 377, 3, 551, 129, 112), (984, none, .aload_n 0, 1, 0, 0, 0), (985, none, .bipush 30, 2, 0, 30, 0), (987, none, .newarray .long, 2, 0, 0, 0), (989, none, .putfield 380, 3, 552, 129, 112), (992, none, .aload_n 0, 1, 0, 0, 0), (993, none, .bipush 30, 2, 0, 30, 0), (995, none, .newarray .float, 2, 0, 0, 0), (997, none, .putfield 383, 3, 553, 129, 112), (1000, none, .aload_n 0, 1, 0, 0, 0), (1001, none, .bipush 9, 2, 0, 9, 0), (1003, none, .newarray .int, 2, 0, 0, 0), (1005, none, .putfield 386, 3, 557, 129, 112), (1008, none, .aload_n 0, 1, 0, 0, 0), (1009, none, .iconst (-1), 1, 0, (-1), 0), (1010, none, .putfield 389, 3, 560, 129, 10), (1013, none, .aload_n 0, 1, 0, 0, 0)] := fq_of2 cd_482 ow_482 cl_482 rfl (pc := 976) (by decide +kernel)
    j_aldn (pc := 976) D rfl rfl rfl fun D =>
    j_bp (pc := 977) D rfl fun D =>
    j_na (pc := 979) (k := 11) (N := 65536) D rfl rfl rfl (gy (by decide)) fun r1 h2 er eh2 S q D =>
    have gt_r1 := nw_gt H.1 er
    have kc_r1 := nw_cls H.1 er eh2
    have kl_r1 := nw_len H.1 er eh2
    have T := fj_hs_ok H.1 S
    have hk := cls_st H.1 T.2 hk (by decide)
    have H := sh0_st H T
    j_pfF (pc := 981) (a := x0.toNat) (ty := 12) D rfl rfl rfl hk ⟨rfl, rfl⟩ rfl gn (gy rfl) gn fun h3 eh3 S D =>
    have T := fj_hs_ok H.1 S
    have hk := cls_st H.1 T.2 hk (by decide)
    have H := sh0_st H T
    j_aldn (pc := 984) D rfl rfl rfl fun D =>
    j_bp (pc := 985) D rfl fun D =>
    j_na (pc := 987) (k := 11) (N := 65536) D rfl rfl rfl (gy (by decide)) fun r4 h5 er eh5 S q D =>
    have gt_r4 := nw_gt H.1 er
    have kc_r4 := nw_cls H.1 er eh5
    have kl_r4 := nw_len H.1 er eh5
    have T := fj_hs_ok H.1 S
    have hk := cls_st H.1 T.2 hk (by decide)
    have H := sh0_st H T
    j_pfF (pc := 989) (a := x0.toNat) (ty := 12) D rfl rfl rfl hk ⟨rfl, rfl⟩ rfl gn (gy rfl) gn fun h6 eh6 S D =>
    have T := fj_hs_ok H.1 S
    have hk := cls_st H.1 T.2 hk (by decide)
    have H := sh0_st H T
    j_aldn (pc := 992) D rfl rfl rfl fun D =>
    j_bp (pc := 993) D rfl fun D =>
    j_na (pc := 995) (k := 6) (N := 65536) D rfl rfl rfl (gy (by decide)) fun r7 h8 er eh8 S q D =>
    have gt_r7 := nw_gt H.1 er
    have kc_r7 := nw_cls H.1 er eh8
    have kl_r7 := nw_len H.1 er eh8
    have T := fj_hs_ok H.1 S
    have hk := cls_st H.1 T.2 hk (by decide)
    have H := sh0_st H T
    j_pfF (pc := 997) (a := x0.toNat) (ty := 12) D rfl rfl rfl hk ⟨rfl, rfl⟩ rfl gn (gy rfl) gn fun h9 eh9 S D =>
    have T := fj_hs_ok H.1 S
    have hk := cls_st H.1 T.2 hk (by decide)
    have H := sh0_st H T
    j_aldn (pc := 1000) D rfl rfl rfl fun D =>
    j_bp (pc := 1001) D rfl fun D =>
    j_na (pc := 1003) (k := 10) (N := 65536) D rfl rfl rfl (gy (by decide)) fun r10 h11 er eh11 S q D =>
    have gt_r10 := nw_gt H.1 er
    have kc_r10 := nw_cls H.1 er eh11
    have kl_r10 := nw_len H.1 er eh11
    have T := fj_hs_ok H.1 S
    have hk := cls_st H.1 T.2 hk (by decide)
    have H := sh0_st H T
    j_pfF (pc := 1005) (a := x0.toNat) (ty := 12) D rfl rfl rfl hk ⟨rfl, rfl⟩ rfl gn (gy rfl) gn fun h12 eh12 S D =>
    have T := fj_hs_ok H.1 S
    have hk := cls_st H.1 T.2 hk (by decide)
    have H := sh0_st H T
    j_aldn (pc := 1008) D rfl rfl rfl fun D =>
    j_ic (pc := 1009) D rfl fun D =>
    j_pf (pc := 1010) (a := x0.toNat) D rfl rfl rfl hk rfl rfl gn (gy rfl) fun h13 eh13 S D =>
    have T := fj_hs_ok H.1 S
    have hk := cls_st H.1 T.2 hk (by decide)
    have H := sh0_st H T
    j_aldn (pc := 1013) D rfl rfl rfl fun D =>
    have D : fk_D 482 [(1014, none, .iconst (-1), 1, 0, (-1), 0), (1015, none, .putfield 392, 3, 562, 129, 10), (1018, none, .aload_n 0, 1, 0, 0, 0), (1019, none, .iconst (-1), 1, 0, (-1), 0), (1020, none, .putfield 395, 3, 563, 129, 10), (1023, none, .aload_n 0, 1, 0, 0, 0), (1024, none, .sipush 1600, 3, 0, 1600, 0), (1027, none, .newarray .boolean, 2, 0, 0, 0), (1029, none, .putfield 398, 3, 565, 129, 112), (1032, none, .aload_n 0, 1, 0, 0, 0), (1033, none, .sipush 12000, 3, 0, 12000, 0), (1036, none, .newarray .byte, 2, 0, 0, 0), (1038, none, .putfield 401, 3, 566, 129, 112)] := fq_of2 cd_482 ow_482 cl_482 rfl (pc := 1014) (by decide +kernel)
    j_ic (pc := 1014) D rfl fun D =>
    j_pf (pc := 1015) (a := x0.toNat) D rfl rfl rfl hk rfl rfl gn (gy rfl) fun h14 eh14 S D =>
    have T := fj_hs_ok H.1 S
    have hk := cls_st H.1 T.2 hk (by decide)
    have H := sh0_st H T
    j_aldn (pc := 1018) D rfl rfl rfl fun D =>
    j_ic (pc := 1019) D rfl fun D =>
    j_pf (pc := 1020) (a := x0.toNat) D rfl rfl rfl hk rfl rfl gn (gy rfl) fun h15 eh15 S D =>
    have T := fj_hs_ok H.1 S
    have hk := cls_st H.1 T.2 hk (by decide)
    have H := sh0_st H T
    j_aldn (pc := 1023) D rfl rfl rfl fun D =>
    j_sp (pc := 1024) D rfl fun D =>
    j_na (pc := 1027) (k := 4) (N := 65536) D rfl rfl rfl (gy (by decide)) fun r16 h17 er eh17 S q D =>
    have gt_r16 := nw_gt H.1 er
    have kc_r16 := nw_cls H.1 er eh17
    have kl_r16 := nw_len H.1 er eh17
    have T := fj_hs_ok H.1 S
    have hk := cls_st H.1 T.2 hk (by decide)
    have H := sh0_st H T
    j_pfF (pc := 1029) (a := x0.toNat) (ty := 12) D rfl rfl rfl hk ⟨rfl, rfl⟩ rfl gn (gy rfl) gn fun h18 eh18 S D =>
    have T := fj_hs_ok H.1 S
    have hk := cls_st H.1 T.2 hk (by decide)
    have H := sh0_st H T
    j_aldn (pc := 1032) D rfl rfl rfl fun D =>
    j_sp (pc := 1033) D rfl fun D =>
    j_na (pc := 1036) (k := 8) (N := 65536) D rfl rfl rfl (gy (by decide)) fun r19 h20 er eh20 S q D =>
    have gt_r19 := nw_gt H.1 er
    have kc_r19 := nw_cls H.1 er eh20
    have kl_r19 := nw_len H.1 er eh20
    have T := fj_hs_ok H.1 S
    have hk := cls_st H.1 T.2 hk (by decide)
    have H := sh0_st H T
    j_pfF (pc := 1038) (a := x0.toNat) (ty := 12) D rfl rfl rfl hk ⟨rfl, rfl⟩ rfl gn (gy rfl) gn fun h21 eh21 S D =>
    have T := fj_hs_ok H.1 S
    have hk := cls_st H.1 T.2 hk (by decide)
    have H := sh0_st H T
    fk_jump cut_482_1041 rfl rfl
theorem e_482_1041 (d : Nat) (x0 : Int) {h : fi_H} (H : Sh0 h) (hk : h 0 x0.toNat 0 = 129) : c_482_1041 d x0 h =
  nw_ h 8 12000 12000 fun r1 h2 =>
  if 302 < x0 then
  if h2 567 x0.toNat 0 = 0 then
  lt_ (fi_upd h2 567 x0.toNat 0 r1) fun h3 =>
  nw_ h3 10 400 400 fun r4 h5 =>
  if 302 < x0 then
  if h5 570 x0.toNat 0 = 0 then
  lt_ (fi_upd h5 570 x0.toNat 0 r4) fun h6 =>
  if 302 < h6 458 x0.toNat 0 ∧ h6 0 (h6 458 x0.toNat 0).toNat 0 = 6 then
  if 0 ≤ (0 : Int) ∧ 0 < h6 1 (h6 458 x0.toNat 0).toNat 0 then
  lt_ (fi_upd h6 6 (h6 458 x0.toNat 0).toNat 0 1065353216) fun h7 =>
  some (.inl none, h7)
  else none
  else none
  else none
  else none
  else none
  else none := by
  unfold c_482_1041
  exact
    have D : fk_D 482 [(1041, some [0], .aload_n 0, 1, 0, 0, 0), (1042, none, .sipush 12000, 3, 0, 12000, 0), (1045, none, .newarray .byte, 2, 0, 0, 0), (1047, none, .putfield 405, 3, 567, 129, 112), (1050, none, .aload_n 0, 1, 0, 0, 0), (1051, none, .sipush 400, 3, 0, 400, 0), (1054, none, .newarray .int, 2, 0, 0, 0), (1056, none, .putfield 408, 3, 570, 129, 112), (1059, none, .aload_n 0, 1, 0, 0, 0), (1060, none, .getfield 165, 3, 458, 129, 12), (1063, none, .iconst 0, 1, 0, 0, 0), (1064, none, .fconst 1, 1, 0, 0, 0), (1065, none, .fastore, 1, 0, 0, 0), (1066, none, .return_, 1, 0, 0, 0)] := fq_of2 cd_482 ow_482 cl_482 rfl (pc := 1041) (by decide +kernel)
    j_aldn (pc := 1041) D rfl rfl rfl fun D =>
    j_sp (pc := 1042) D rfl fun D =>
    j_na (pc := 1045) (k := 8) (N := 65536) D rfl rfl rfl (gy (by decide)) fun r1 h2 er eh2 S q D =>
    have gt_r1 := nw_gt H.1 er
    have kc_r1 := nw_cls H.1 er eh2
    have kl_r1 := nw_len H.1 er eh2
    have T := fj_hs_ok H.1 S
    have hk := cls_st H.1 T.2 hk (by decide)
    have H := sh0_st H T
    j_pfF (pc := 1047) (a := x0.toNat) (ty := 12) D rfl rfl rfl hk ⟨rfl, rfl⟩ rfl gn (gy rfl) gn fun h3 eh3 S D =>
    have T := fj_hs_ok H.1 S
    have hk := cls_st H.1 T.2 hk (by decide)
    have H := sh0_st H T
    j_aldn (pc := 1050) D rfl rfl rfl fun D =>
    j_sp (pc := 1051) D rfl fun D =>
    j_na (pc := 1054) (k := 10) (N := 65536) D rfl rfl rfl (gy (by decide)) fun r4 h5 er eh5 S q D =>
    have gt_r4 := nw_gt H.1 er
    have kc_r4 := nw_cls H.1 er eh5
    have kl_r4 := nw_len H.1 er eh5
    have T := fj_hs_ok H.1 S
    have hk := cls_st H.1 T.2 hk (by decide)
    have H := sh0_st H T
    j_pfF (pc := 1056) (a := x0.toNat) (ty := 12) D rfl rfl rfl hk ⟨rfl, rfl⟩ rfl gn (gy rfl) gn fun h6 eh6 S D =>
    have T := fj_hs_ok H.1 S
    have hk := cls_st H.1 T.2 hk (by decide)
    have H := sh0_st H T
    j_aldn (pc := 1059) D rfl rfl rfl fun D =>
    j_gf (pc := 1060) (a := x0.toNat) D rfl rfl (nz_cls H.2.1 hk (by decide)) rfl hk rfl fun D =>
    j_ic (pc := 1063) D rfl fun D =>
    j_c0 (pc := 1064) (v := (2, 1065353216)) D rfl rfl (by decide +kernel) fun D =>
    j_asu (pc := 1065) (e := 6) D rfl rfl ⟨rfl, rfl, rfl⟩ rfl gn gn (gy rfl) fun h7 eh7 S q q2 D =>
    have T := fj_hs_ok H.1 S
    have hk := cls_st H.1 T.2 hk (by decide)
    have H := sh0_st H T
    j_vret D rt_482
theorem m_482 (d : Nat) (x0 : Int) {h : fi_H} (H : Sh0 h) (hk : h 0 x0.toNat 0 = 129) : fj_run (d + 1) 482 h [(4, x0)] =
  cv_ (fj_run d 1009 h [(4, x0)])
    (fun h1 =>
    nw_ h1 130 6 0 fun r4 h5 =>
    cv_ (fj_run d 483 h5 [(4, r4)])
      (fun h6 =>
      if 302 < x0 then
      if h6 383 x0.toNat 0 = 0 then
      lt_ (fi_upd h6 383 x0.toNat 0 r4) fun h9 =>
      nw_ h9 10 42 42 fun r10 h11 =>
      if 302 < x0 then
      if h11 387 x0.toNat 0 = 0 then
      lt_ (fi_upd h11 387 x0.toNat 0 r10) fun h12 =>
      nw_ h12 10 42 42 fun r13 h14 =>
      if 302 < x0 then
      if h14 388 x0.toNat 0 = 0 then
      lt_ (fi_upd h14 388 x0.toNat 0 r13) fun h15 =>
      nw_ h15 10 42 42 fun r16 h17 =>
      if 302 < x0 then
      if h17 389 x0.toNat 0 = 0 then
      lt_ (fi_upd h17 389 x0.toNat 0 r16) fun h18 =>
      nw_ h18 10 4000 4000 fun r19 h20 =>
      if 302 < x0 then
      if h20 391 x0.toNat 0 = 0 then
      lt_ (fi_upd h20 391 x0.toNat 0 r19) fun h21 =>
      if 302 < x0 then
      lt_ (fi_upd h21 403 x0.toNat 0 (-1)) fun h22 =>
      nw_ h22 11 41 41 fun r23 h24 =>
      if 302 < x0 then
      if h24 404 x0.toNat 0 = 0 then
      lt_ (fi_upd h24 404 x0.toNat 0 r23) fun h25 =>
      nw_ h25 11 41 41 fun r26 h27 =>
      if 302 < x0 then
      if h27 405 x0.toNat 0 = 0 then
      lt_ (fi_upd h27 405 x0.toNat 0 r26) fun h28 =>
      c_482_69 d x0 h28
      else none
      else none
      else none
      else none
      else none
      else none
      else none
      else none
      else none
      else none
      else none
      else none
      else none
      else none
      else none)
      (fun q8 h6 => tx_ q8 h6))
    (fun q3 h1 => tx_ q3 h1) := by
  rw [fj_run_eq d (by decide) h [(4, x0)] (Nat.le_of_ble_eq_true (by rw [nl_482]; rfl))]
  show gG (fj_run d) 482 0 [(0, (4, x0))] [] h = _
  exact
    have D : fk_D 482 [(0, none, .aload_n 0, 1, 0, 0, 0), (1, none, .invokespecial 3, 3, 0, 1009, 0), (4, none, .aload_n 0, 1, 0, 0, 0), (5, none, .new 9, 3, 130, 6, 0), (8, none, .dup, 1, 0, 0, 0), (9, none, .invokespecial 11, 3, 0, 483, 0), (12, none, .putfield 12, 3, 383, 129, 112), (15, none, .aload_n 0, 1, 0, 0, 0), (16, none, .bipush 42, 2, 0, 42, 0), (18, none, .newarray .int, 2, 0, 0, 0), (20, none, .putfield 16, 3, 387, 129, 112), (23, none, .aload_n 0, 1, 0, 0, 0), (24, none, .bipush 42, 2, 0, 42, 0), (26, none, .newarray .int, 2, 0, 0, 0), (28, none, .putfield 20, 3, 388, 129, 112), (31, none, .aload_n 0, 1, 0, 0, 0), (32, none, .bipush 42, 2, 0, 42, 0), (34, none, .newarray .int, 2, 0, 0, 0), (36, none, .putfield 23, 3, 389, 129, 112), (39, none, .aload_n 0, 1, 0, 0, 0)] := fq_of2 cd_482 ow_482 cl_482 rfl (pc := 0) (by decide +kernel)
    j_aldn (pc := 0) D rfl rfl rfl fun D =>
    j_spv (pc := 1) (m := 1009) (a := []) (rest := []) D rfl rfl rfl rfl (by rw [show h 0 x0.toNat 0 = 129 from hk]; decide) (nz_cls H.2.1 hk (by decide)) (fun h1 e1 D =>
      have T := fj_run_ok _ _ _ _ _ _ H.1 e1
      have hk := cls_st H.1 T.2 hk (by decide)
      have H := sh0_st H T
      j_aldn (pc := 4) D rfl rfl rfl fun D =>
      j_new (pc := 5) D rfl fun r4 h5 er eh5 S D =>
      have gt_r4 := nw_gt H.1 er
      have kc_r4 := nw_cls H.1 er eh5
      have T := fj_hs_ok H.1 S
      have hk := cls_st H.1 T.2 hk (by decide)
      have H := sh0_st H T
      j_sh (pc := 8) D rfl rfl rfl fun D =>
      j_spv (pc := 9) (m := 483) (a := []) (rest := [(4, r4), (4, x0)]) D rfl rfl rfl rfl (by rw [show h5 0 r4.toNat 0 = 130 from kc_r4]; decide) (gt_nz gt_r4) (fun h6 e1 D =>
        have T := fj_run_ok _ _ _ _ _ _ H.1 e1
        have hk := cls_st H.1 T.2 hk (by decide)
        have kc_r4 := cls_st H.1 T.2 kc_r4 (by decide)
        have H := sh0_st H T
        j_pfF (pc := 12) (a := x0.toNat) (ty := 12) D rfl rfl rfl hk ⟨rfl, rfl⟩ rfl gn (gy rfl) gn fun h9 eh9 S D =>
        have T := fj_hs_ok H.1 S
        have hk := cls_st H.1 T.2 hk (by decide)
        have H := sh0_st H T
        j_aldn (pc := 15) D rfl rfl rfl fun D =>
        j_bp (pc := 16) D rfl fun D =>
        j_na (pc := 18) (k := 10) (N := 65536) D rfl rfl rfl (gy (by decide)) fun r10 h11 er eh11 S q D =>
        have gt_r10 := nw_gt H.1 er
        have kc_r10 := nw_cls H.1 er eh11
        have kl_r10 := nw_len H.1 er eh11
        have T := fj_hs_ok H.1 S
        have hk := cls_st H.1 T.2 hk (by decide)
        have H := sh0_st H T
        j_pfF (pc := 20) (a := x0.toNat) (ty := 12) D rfl rfl rfl hk ⟨rfl, rfl⟩ rfl gn (gy rfl) gn fun h12 eh12 S D =>
        have T := fj_hs_ok H.1 S
        have hk := cls_st H.1 T.2 hk (by decide)
        have H := sh0_st H T
        j_aldn (pc := 23) D rfl rfl rfl fun D =>
        j_bp (pc := 24) D rfl fun D =>
        j_na (pc := 26) (k := 10) (N := 65536) D rfl rfl rfl (gy (by decide)) fun r13 h14 er eh14 S q D =>
        have gt_r13 := nw_gt H.1 er
        have kc_r13 := nw_cls H.1 er eh14
        have kl_r13 := nw_len H.1 er eh14
        have T := fj_hs_ok H.1 S
        have hk := cls_st H.1 T.2 hk (by decide)
        have H := sh0_st H T
        j_pfF (pc := 28) (a := x0.toNat) (ty := 12) D rfl rfl rfl hk ⟨rfl, rfl⟩ rfl gn (gy rfl) gn fun h15 eh15 S D =>
        have T := fj_hs_ok H.1 S
        have hk := cls_st H.1 T.2 hk (by decide)
        have H := sh0_st H T
        j_aldn (pc := 31) D rfl rfl rfl fun D =>
        j_bp (pc := 32) D rfl fun D =>
        j_na (pc := 34) (k := 10) (N := 65536) D rfl rfl rfl (gy (by decide)) fun r16 h17 er eh17 S q D =>
        have gt_r16 := nw_gt H.1 er
        have kc_r16 := nw_cls H.1 er eh17
        have kl_r16 := nw_len H.1 er eh17
        have T := fj_hs_ok H.1 S
        have hk := cls_st H.1 T.2 hk (by decide)
        have H := sh0_st H T
        j_pfF (pc := 36) (a := x0.toNat) (ty := 12) D rfl rfl rfl hk ⟨rfl, rfl⟩ rfl gn (gy rfl) gn fun h18 eh18 S D =>
        have T := fj_hs_ok H.1 S
        have hk := cls_st H.1 T.2 hk (by decide)
        have H := sh0_st H T
        j_aldn (pc := 39) D rfl rfl rfl fun D =>
        have D : fk_D 482 [(40, none, .sipush 4000, 3, 0, 4000, 0), (43, none, .newarray .int, 2, 0, 0, 0), (45, none, .putfield 26, 3, 391, 129, 112), (48, none, .aload_n 0, 1, 0, 0, 0), (49, none, .iconst (-1), 1, 0, (-1), 0), (50, none, .putfield 29, 3, 403, 129, 10), (53, none, .aload_n 0, 1, 0, 0, 0), (54, none, .bipush 41, 2, 0, 41, 0), (56, none, .newarray .long, 2, 0, 0, 0), (58, none, .putfield 33, 3, 404, 129, 112), (61, none, .aload_n 0, 1, 0, 0, 0), (62, none, .bipush 41, 2, 0, 41, 0), (64, none, .newarray .long, 2, 0, 0, 0), (66, none, .putfield 37, 3, 405, 129, 112)] := fq_of2 cd_482 ow_482 cl_482 rfl (pc := 40) (by decide +kernel)
        j_sp (pc := 40) D rfl fun D =>
        j_na (pc := 43) (k := 10) (N := 65536) D rfl rfl rfl (gy (by decide)) fun r19 h20 er eh20 S q D =>
        have gt_r19 := nw_gt H.1 er
        have kc_r19 := nw_cls H.1 er eh20
        have kl_r19 := nw_len H.1 er eh20
        have T := fj_hs_ok H.1 S
        have hk := cls_st H.1 T.2 hk (by decide)
        have H := sh0_st H T
        j_pfF (pc := 45) (a := x0.toNat) (ty := 12) D rfl rfl rfl hk ⟨rfl, rfl⟩ rfl gn (gy rfl) gn fun h21 eh21 S D =>
        have T := fj_hs_ok H.1 S
        have hk := cls_st H.1 T.2 hk (by decide)
        have H := sh0_st H T
        j_aldn (pc := 48) D rfl rfl rfl fun D =>
        j_ic (pc := 49) D rfl fun D =>
        j_pf (pc := 50) (a := x0.toNat) D rfl rfl rfl hk rfl rfl gn (gy rfl) fun h22 eh22 S D =>
        have T := fj_hs_ok H.1 S
        have hk := cls_st H.1 T.2 hk (by decide)
        have H := sh0_st H T
        j_aldn (pc := 53) D rfl rfl rfl fun D =>
        j_bp (pc := 54) D rfl fun D =>
        j_na (pc := 56) (k := 11) (N := 65536) D rfl rfl rfl (gy (by decide)) fun r23 h24 er eh24 S q D =>
        have gt_r23 := nw_gt H.1 er
        have kc_r23 := nw_cls H.1 er eh24
        have kl_r23 := nw_len H.1 er eh24
        have T := fj_hs_ok H.1 S
        have hk := cls_st H.1 T.2 hk (by decide)
        have H := sh0_st H T
        j_pfF (pc := 58) (a := x0.toNat) (ty := 12) D rfl rfl rfl hk ⟨rfl, rfl⟩ rfl gn (gy rfl) gn fun h25 eh25 S D =>
        have T := fj_hs_ok H.1 S
        have hk := cls_st H.1 T.2 hk (by decide)
        have H := sh0_st H T
        j_aldn (pc := 61) D rfl rfl rfl fun D =>
        j_bp (pc := 62) D rfl fun D =>
        j_na (pc := 64) (k := 11) (N := 65536) D rfl rfl rfl (gy (by decide)) fun r26 h27 er eh27 S q D =>
        have gt_r26 := nw_gt H.1 er
        have kc_r26 := nw_cls H.1 er eh27
        have kl_r26 := nw_len H.1 er eh27
        have T := fj_hs_ok H.1 S
        have hk := cls_st H.1 T.2 hk (by decide)
        have H := sh0_st H T
        j_pfF (pc := 66) (a := x0.toNat) (ty := 12) D rfl rfl rfl hk ⟨rfl, rfl⟩ rfl gn (gy rfl) gn fun h28 eh28 S D =>
        have T := fj_hs_ok H.1 S
        have hk := cls_st H.1 T.2 hk (by decide)
        have H := sh0_st H T
        fk_jump cut_482_69 rfl rfl) (fun q8 h6 e1 =>
        j_tx (hx_482 _))) (fun q3 h1 e1 =>
      j_tx (hx_482 _))
/-! 483 StatuteHouseModel$Stop.<init>()V -/
theorem cd_483 : fi_code 483 = prog_70_method_1_code := rfl
theorem hx_483 : ∀ pc, fi_hat 483 pc = none := fun pc => by unfold fi_hat; rw [show fi_hh 483 = [] from rfl]; rfl
theorem rt_483 : fi_ret 483 = none := rfl
theorem nl_483 : fi_nl 483 = 1 := rfl
theorem ow_483 : fi_ow 483 = 30 := rfl
theorem cl_483 : fj_cutT.getD 483 [] = [] := rfl
theorem m_483 (d : Nat) (x0 : Int) {h : fi_H} (H : Sh0 h) (hk : h 0 x0.toNat 0 = 130) : fj_run (d + 1) 483 h [(4, x0)] =
  cv_ (fj_run d 484 h [(4, x0), (4, 0), (4, 0), (0, 0), (0, 0)])
    (fun h1 =>
    some (.inl none, h1))
    (fun q3 h1 => tx_ q3 h1) := by
  rw [fj_run_eq d (by decide) h [(4, x0)] (Nat.le_of_ble_eq_true (by rw [nl_483]; rfl))]
  show gG (fj_run d) 483 0 [(0, (4, x0))] [] h = _
  exact
    have D : fk_D 483 [(0, none, .aload_n 0, 1, 0, 0, 0), (1, none, .aconst_null, 1, 0, 0, 0), (2, none, .aconst_null, 1, 0, 0, 0), (3, none, .iconst 0, 1, 0, 0, 0), (4, none, .iconst 0, 1, 0, 0, 0), (5, none, .invokespecial 1, 3, 4, 484, 0), (8, none, .return_, 1, 0, 0, 0)] := fq_of2 cd_483 ow_483 cl_483 rfl (pc := 0) (by decide +kernel)
    j_aldn (pc := 0) D rfl rfl rfl fun D =>
    j_c0 (pc := 1) (v := (4, 0)) D rfl rfl (by decide +kernel) fun D =>
    j_c0 (pc := 2) (v := (4, 0)) D rfl rfl (by decide +kernel) fun D =>
    j_ic (pc := 3) D rfl fun D =>
    j_ic (pc := 4) D rfl fun D =>
    j_spv (pc := 5) (m := 484) (a := [(4, 0), (4, 0), (0, 0), (0, 0)]) (rest := []) D rfl rfl rfl rfl (by rw [show h 0 x0.toNat 0 = 130 from hk]; decide) (nz_cls H.2.1 hk (by decide)) (fun h1 e1 D =>
      have T := fj_run_ok _ _ _ _ _ _ H.1 e1
      have hk := cls_st H.1 T.2 hk (by decide)
      have H := sh0_st H T
      j_vret D rt_483) (fun q3 h1 e1 =>
      j_tx (hx_483 _))
/-! 484 java/lang/RuntimeException.<init>(Ljava/lang/String;Ljava/lang/Throwable;ZZ)V -/
theorem cd_484 : fi_code 484 = prog_84_method_5_code := rfl
theorem hx_484 : ∀ pc, fi_hat 484 pc = none := fun pc => by unfold fi_hat; rw [show fi_hh 484 = [] from rfl]; rfl
theorem rt_484 : fi_ret 484 = none := rfl
theorem nl_484 : fi_nl 484 = 5 := rfl
theorem ow_484 : fi_ow 484 = 77 := rfl
theorem cl_484 : fj_cutT.getD 484 [] = [] := rfl
theorem m_484 (d : Nat) (x0 x1 x2 x3 x4 : Int) {h : fi_H} {k0 : Int} (H : Sh0 h) (hk : h 0 x0.toNat 0 = k0) (hk0 : k0 ≠ 0) : fj_run (d + 1) 484 h [(4, x0), (4, x1), (4, x2), (0, x3), (0, x4)] =
  if 100 ≤ h 0 x0.toNat 0 ∧ h 0 x0.toNat 0 < 134 then
  cv_ (fj_run d 92 h [(4, x0), (4, x1), (4, x2), (0, x3), (0, x4)])
    (fun h1 =>
    some (.inl none, h1))
    (fun q3 h1 => tx_ q3 h1)
  else none := by
  rw [fj_run_eq d (by decide) h [(4, x0), (4, x1), (4, x2), (0, x3), (0, x4)] (Nat.le_of_ble_eq_true (by rw [nl_484]; rfl))]
  show gG (fj_run d) 484 0 [(0, (4, x0)), (1, (4, x1)), (2, (4, x2)), (3, (0, x3)), (4, (0, x4))] [] h = _
  exact
    have D : fk_D 484 [(0, none, .aload_n 0, 1, 0, 0, 0), (1, none, .aload_n 1, 1, 0, 0, 0), (2, none, .aload_n 2, 1, 0, 0, 0), (3, none, .iload_n 3, 1, 0, 0, 0), (4, none, .iload 4, 2, 0, 0, 0), (6, none, .invokespecial 16, 3, 4, 92, 0), (9, none, .return_, 1, 0, 0, 0)] := fq_of2 cd_484 ow_484 cl_484 rfl (pc := 0) (by decide +kernel)
    j_aldn (pc := 0) D rfl rfl rfl fun D =>
    j_aldn (pc := 1) D rfl rfl rfl fun D =>
    j_aldn (pc := 2) D rfl rfl rfl fun D =>
    j_ildn (pc := 3) D rfl rfl rfl fun D =>
    j_ild (pc := 4) D rfl rfl rfl fun D =>
    j_spuv (pc := 6) (m := 92) (a := [(4, x1), (4, x2), (0, x3), (0, x4)]) (rest := []) H.2.1 D rfl rfl rfl rfl (fun h1 e1 D =>
      have T := fj_run_ok _ _ _ _ _ _ H.1 e1
      have hk := cls_st H.1 T.2 hk hk0
      have H := sh0_st H T
      j_vret D rt_484) (fun q3 h1 e1 =>
      j_tx (hx_484 _))
/-! 485 StatuteHouseModel.names()I -/
theorem cd_485 : fi_code 485 = prog_69_method_46_code := rfl
theorem rt_485 : fi_ret 485 = some .int := rfl
theorem nl_485 : fi_nl 485 = 3 := rfl
theorem ow_485 : fi_ow 485 = 29 := rfl
theorem cl_485 : fj_cutT.getD 485 [] = [(16, [0, 1])] := rfl
theorem cut_485_16 : fj_cut 485 16 = some [0, 1] := by decide +kernel
noncomputable def c_485_16 (d : Nat) (x1 s0 : Int) (h : fi_H) : fk_R := gG (fj_run d) 485 16 [(0, (4, 602)), (1, (0, x1))] [(4, s0)] h
theorem e_485_16 (d : Nat) (x1 s0 : Int) {h : fi_H} (H : Shp h) : c_485_16 d x1 s0 h =
  lt_ (fi_upd h 413 602 0 x1) fun h1 =>
  some (.inl (some (0, (-1))), h1) := by
  unfold c_485_16
  exact
    have D : fk_D 485 [(16, some [0, 1], .astore_n 2, 1, 0, 0, 0), (17, none, .aload_n 0, 1, 0, 0, 0), (18, none, .iload_n 1, 1, 0, 0, 0), (19, none, .putfield 579, 3, 413, 129, 10), (22, none, .iconst (-1), 1, 0, (-1), 0), (23, none, .ireturn, 1, 0, 0, 0)] := fq_of2 cd_485 ow_485 cl_485 rfl (pc := 16) (by decide +kernel)
    j_astn (pc := 16) (L' := [(2, (4, s0)), (0, (4, 602)), (1, (0, x1))]) D rfl nl_485 rfl rfl fun D =>
    j_aldn (pc := 17) D rfl rfl rfl fun D =>
    j_ildn (pc := 18) D rfl rfl rfl fun D =>
    j_pf (pc := 19) (a := 602) D rfl rfl rfl (s0_602 H) rfl rfl (gy (by decide)) (gy rfl) fun h1 eh1 S D =>
    have T := fj_hs_ok H.1 S
    have H := shp_st H T
    j_ic (pc := 22) D rfl fun D =>
    j_iret D rt_485
theorem m_485 (d : Nat) {h : fi_H} (H : Shp h) : fj_run (d + 1) 485 h [(4, 602)] =
  cv_ (fj_run d 486 h [(4, 602)])
    (fun h1 =>
    cv_ (fj_run d 498 h1 [(4, 602)])
      (fun h4 =>
      some (.inl (some (0, wI ((h4 413 602 0) - (h1 413 602 0)))), h4))
      (fun q6 h4 => tc_ 130 q6 h4 (c_485_16 d (h1 413 602 0) (q6 : Int) h4)))
    (fun q3 h1 => tx_ q3 h1) := by
  rw [fj_run_eq d (by decide) h [(4, 602)] (Nat.le_of_ble_eq_true (by rw [nl_485]; rfl))]
  show gG (fj_run d) 485 0 [(0, (4, 602))] [] h = _
  exact
    have D : fk_D 485 [(0, none, .aload_n 0, 1, 0, 0, 0), (1, none, .invokevirtual 649, 3, 0, 363, 0), (4, none, .aload_n 0, 1, 0, 0, 0), (5, none, .getfield 579, 3, 413, 129, 10), (8, none, .istore_n 1, 1, 0, 0, 0), (9, none, .aload_n 0, 1, 0, 0, 0), (10, none, .invokevirtual 652, 3, 0, 364, 0), (13, none, .goto 11, 3, 24, 0, 0)] := fq_of2 cd_485 ow_485 cl_485 rfl (pc := 0) (by decide +kernel)
    j_aldn (pc := 0) D rfl rfl rfl fun D =>
    j_ivv (pc := 1) (m := 486) (dd := 363) (a := []) (rest := []) D rfl rfl rfl rfl rfl (by decide) (s0_602 H) (by decide +kernel) (fun h1 e1 D =>
      have T := fj_run_ok _ _ _ _ _ _ H.1 e1
      have H := shp_st H T
      j_aldn (pc := 4) D rfl rfl rfl fun D =>
      j_gf (pc := 5) (a := 602) D rfl rfl (by decide) rfl (s0_602 H) rfl fun D =>
      j_istn (pc := 8) (L' := [(1, (0, h1 413 602 0)), (0, (4, 602))]) D rfl nl_485 rfl rfl fun D =>
      j_aldn (pc := 9) D rfl rfl rfl fun D =>
      j_ivv (pc := 10) (m := 498) (dd := 364) (a := []) (rest := []) D rfl rfl rfl rfl rfl (by decide) (s0_602 H) (by decide +kernel) (fun h4 e1 D =>
        have T := fj_run_ok _ _ _ _ _ _ H.1 e1
        have H := shp_st H T
        j_goto (pc := 13) D rfl <|
        have D : fk_D 485 [(24, none, .aload_n 0, 1, 0, 0, 0), (25, none, .getfield 579, 3, 413, 129, 10), (28, none, .iload_n 1, 1, 0, 0, 0), (29, none, .isub, 1, 0, 0, 0), (30, none, .ireturn, 1, 0, 0, 0)] := fq_of2 cd_485 ow_485 cl_485 rfl (pc := 24) (by decide +kernel)
        j_aldn (pc := 24) D rfl rfl rfl fun D =>
        j_gf (pc := 25) (a := 602) D rfl rfl (by decide) rfl (s0_602 H) rfl fun D =>
        j_ildn (pc := 28) D rfl rfl rfl fun D =>
        j_isub (pc := 29) D rfl fun D =>
        j_iret D rt_485) (fun q6 h4 e1 =>
        j_tc_ (n := 130) (fk_at (cu := none) (by decide +kernel) rfl) (s := 9) (e := 13) (hp := 16) (ct := 9) (by decide +kernel) rfl (by decide +kernel) <|
        fk_jump cut_485_16 rfl rfl)) (fun q3 h1 e1 =>
      j_tx (by decide +kernel))
/-! 486 StatuteHouseModel.begin()V -/
theorem cd_486 : fi_code 486 = prog_69_method_36_code := rfl
theorem hx_486 : ∀ pc, fi_hat 486 pc = none := fun pc => by unfold fi_hat; rw [show fi_hh 486 = [] from rfl]; rfl
theorem rt_486 : fi_ret 486 = none := rfl
theorem nl_486 : fi_nl 486 = 1 := rfl
theorem ow_486 : fi_ow 486 = 29 := rfl
theorem cl_486 : fj_cutT.getD 486 [] = [] := rfl
theorem m_486 (d : Nat) {h : fi_H} (H : Shp h) : fj_run (d + 1) 486 h [(4, 602)] =
  lt_ (fi_upd h 393 602 0 (h 392 602 0)) fun h1 =>
  lt_ (fi_upd h1 392 602 0 0) fun h2 =>
  lt_ (fi_upd h2 397 602 0 0) fun h3 =>
  lt_ (fi_upd h3 398 602 0 0) fun h4 =>
  lt_ (fi_upd h4 427 602 0 0) fun h5 =>
  lt_ (fi_upd h5 402 602 0 0) fun h6 =>
  lt_ (fi_upd h6 403 602 0 (-1)) fun h7 =>
  cv_ (fj_run d 487 h7 [(4, 602)])
    (fun h8 =>
    some (.inl none, h8))
    (fun q10 h8 => tx_ q10 h8) := by
  rw [fj_run_eq d (by decide) h [(4, 602)] (Nat.le_of_ble_eq_true (by rw [nl_486]; rfl))]
  show gG (fj_run d) 486 0 [(0, (4, 602))] [] h = _
  exact
    have D : fk_D 486 [(0, none, .aload_n 0, 1, 0, 0, 0), (1, none, .aload_n 0, 1, 0, 0, 0), (2, none, .getfield 573, 3, 392, 129, 10), (5, none, .putfield 473, 3, 393, 129, 10), (8, none, .aload_n 0, 1, 0, 0, 0), (9, none, .iconst 0, 1, 0, 0, 0), (10, none, .putfield 573, 3, 392, 129, 10), (13, none, .aload_n 0, 1, 0, 0, 0), (14, none, .iconst 0, 1, 0, 0, 0), (15, none, .putfield 504, 3, 397, 129, 10), (18, none, .aload_n 0, 1, 0, 0, 0), (19, none, .iconst 0, 1, 0, 0, 0), (20, none, .putfield 510, 3, 398, 129, 10), (23, none, .aload_n 0, 1, 0, 0, 0), (24, none, .iconst 0, 1, 0, 0, 0), (25, none, .putfield 576, 3, 427, 129, 10), (28, none, .aload_n 0, 1, 0, 0, 0), (29, none, .iconst 0, 1, 0, 0, 0), (30, none, .putfield 476, 3, 402, 129, 10), (33, none, .aload_n 0, 1, 0, 0, 0)] := fq_of2 cd_486 ow_486 cl_486 rfl (pc := 0) (by decide +kernel)
    j_aldn (pc := 0) D rfl rfl rfl fun D =>
    j_aldn (pc := 1) D rfl rfl rfl fun D =>
    j_gf (pc := 2) (a := 602) D rfl rfl (by decide) rfl (s0_602 H) rfl fun D =>
    j_pf (pc := 5) (a := 602) D rfl rfl rfl (s0_602 H) rfl rfl (gy (by decide)) (gy rfl) fun h1 eh1 S D =>
    have T := fj_hs_ok H.1 S
    have H := shp_st H T
    j_aldn (pc := 8) D rfl rfl rfl fun D =>
    j_ic (pc := 9) D rfl fun D =>
    j_pf (pc := 10) (a := 602) D rfl rfl rfl (s0_602 H) rfl rfl (gy (by decide)) (gy rfl) fun h2 eh2 S D =>
    have T := fj_hs_ok H.1 S
    have H := shp_st H T
    j_aldn (pc := 13) D rfl rfl rfl fun D =>
    j_ic (pc := 14) D rfl fun D =>
    j_pf (pc := 15) (a := 602) D rfl rfl rfl (s0_602 H) rfl rfl (gy (by decide)) (gy rfl) fun h3 eh3 S D =>
    have T := fj_hs_ok H.1 S
    have H := shp_st H T
    j_aldn (pc := 18) D rfl rfl rfl fun D =>
    j_ic (pc := 19) D rfl fun D =>
    j_pf (pc := 20) (a := 602) D rfl rfl rfl (s0_602 H) rfl rfl (gy (by decide)) (gy rfl) fun h4 eh4 S D =>
    have T := fj_hs_ok H.1 S
    have H := shp_st H T
    j_aldn (pc := 23) D rfl rfl rfl fun D =>
    j_ic (pc := 24) D rfl fun D =>
    j_pf (pc := 25) (a := 602) D rfl rfl rfl (s0_602 H) rfl rfl (gy (by decide)) (gy rfl) fun h5 eh5 S D =>
    have T := fj_hs_ok H.1 S
    have H := shp_st H T
    j_aldn (pc := 28) D rfl rfl rfl fun D =>
    j_ic (pc := 29) D rfl fun D =>
    j_pf (pc := 30) (a := 602) D rfl rfl rfl (s0_602 H) rfl rfl (gy (by decide)) (gy rfl) fun h6 eh6 S D =>
    have T := fj_hs_ok H.1 S
    have H := shp_st H T
    j_aldn (pc := 33) D rfl rfl rfl fun D =>
    have D : fk_D 486 [(34, none, .iconst (-1), 1, 0, (-1), 0), (35, none, .putfield 29, 3, 403, 129, 10), (38, none, .aload_n 0, 1, 0, 0, 0), (39, none, .invokevirtual 561, 3, 0, 349, 0), (42, none, .return_, 1, 0, 0, 0)] := fq_of2 cd_486 ow_486 cl_486 rfl (pc := 34) (by decide +kernel)
    j_ic (pc := 34) D rfl fun D =>
    j_pf (pc := 35) (a := 602) D rfl rfl rfl (s0_602 H) rfl rfl (gy (by decide)) (gy rfl) fun h7 eh7 S D =>
    have T := fj_hs_ok H.1 S
    have H := shp_st H T
    j_aldn (pc := 38) D rfl rfl rfl fun D =>
    j_ivv (pc := 39) (m := 487) (dd := 349) (a := []) (rest := []) D rfl rfl rfl rfl rfl (by decide) (s0_602 H) (by decide +kernel) (fun h8 e1 D =>
      have T := fj_run_ok _ _ _ _ _ _ H.1 e1
      have H := shp_st H T
      j_vret D rt_486) (fun q10 h8 e1 =>
      j_tx (hx_486 _))
/-! 487 StatuteHouseModel.cut()V -/
theorem cd_487 : fi_code 487 = prog_69_method_25_code := rfl
theorem hx_487 : ∀ pc, fi_hat 487 pc = none := fun pc => by unfold fi_hat; rw [show fi_hh 487 = [] from rfl]; rfl
theorem rt_487 : fi_ret 487 = none := rfl
theorem nl_487 : fi_nl 487 = 4 := rfl
theorem ow_487 : fi_ow 487 = 29 := rfl
theorem cl_487 : fj_cutT.getD 487 [] = [(7, [0, 1, 2]), (31, [0, 1, 2]), (47, [0, 1, 2])] := rfl
theorem cut_487_7 : fj_cut 487 7 = some [0, 1, 2] := by decide +kernel
noncomputable def c_487_7 (d : Nat) (x1 x2 : Int) (h : fi_H) : fk_R := gG (fj_run d) 487 7 [(0, (4, 602)), (1, (0, x1)), (2, (0, x2))] [] h
theorem cut_487_31 : fj_cut 487 31 = some [0, 1, 2] := by decide +kernel
noncomputable def c_487_31 (d : Nat) (x1 x2 : Int) (h : fi_H) : fk_R := gG (fj_run d) 487 31 [(0, (4, 602)), (1, (0, x1)), (2, (0, x2))] [] h
theorem cut_487_47 : fj_cut 487 47 = some [0, 1, 2] := by decide +kernel
noncomputable def c_487_47 (d : Nat) (x1 x2 : Int) (h : fi_H) : fk_R := gG (fj_run d) 487 47 [(0, (4, 602)), (1, (0, x1)), (2, (0, x2))] [] h
theorem e_487_7 (d : Nat) (x1 x2 : Int) {h : fi_H} (H : Shp h) : c_487_7 d x1 x2 h =
  if x2 = 0 then
    lt_ (fi_upd h 396 602 0 x1) fun h1 =>
    ca_ (fj_run d 488 h1 [(4, 602), (0, x1)]) 0
      (fun v3 h2 =>
      lt_ (fi_upd h2 398 602 0 (wI ((h2 398 602 0) + 1))) fun h5 =>
      if v3 = (-1) then
        lt_ (fi_upd h5 394 602 0 7) fun h6 =>
        lt_ (fi_upd h6 398 602 0 (wI ((h6 398 602 0) - 1))) fun h7 =>
        lt_ (fi_upd h7 397 602 0 x1) fun h8 =>
        some (.inl none, h8)
      else
        ca_ (fj_run d 489 h5 [(0, v3)]) 0
          (fun v10 h9 =>
          if v10 = 0 then
            ca_ (fj_run d 491 h9 [(0, v3)]) 0
              (fun v13 h12 =>
              if v13 = 0 then
                cv_ (fj_run d 497 h12 [(4, 602), (0, x1), (0, v3)])
                  (fun h15 =>
                  some (.inl none, h15))
                  (fun q17 h15 => tx_ q17 h15)
              else
                cv_ (fj_run d 494 h12 [(4, 602), (0, x1)])
                  (fun h18 =>
                  some (.inl none, h18))
                  (fun q20 h18 => tx_ q20 h18))
              (fun q14 h12 => tx_ q14 h12)
          else
            cv_ (fj_run d 490 h9 [(4, 602), (0, x1)])
              (fun h21 =>
              some (.inl none, h21))
              (fun q23 h21 => tx_ q23 h21))
          (fun q11 h9 => tx_ q11 h9))
      (fun q4 h2 => tx_ q4 h2)
  else
    ca_ (fj_run d 488 h [(4, 602), (0, x1)]) 0
      (fun v25 h24 =>
      if v25 = 32 then
        c_487_31 d x1 x2 h24
      else
        ca_ (fj_run d 488 h24 [(4, 602), (0, x1)]) 0
          (fun v28 h27 =>
          if v28 = 10 then
            c_487_31 d x1 x2 h27
          else
            ca_ (fj_run d 488 h27 [(4, 602), (0, x1)]) 0
              (fun v31 h30 =>
              if v31 = 39 then
                c_487_47 d x1 x2 h30
              else
                c_487_7 d x1 0 h30)
              (fun q32 h30 => tx_ q32 h30))
          (fun q29 h27 => tx_ q29 h27))
      (fun q26 h24 => tx_ q26 h24) := by
  unfold c_487_7
  exact
    have D : fk_D 487 [(7, some [0, 1, 2], .iload_n 2, 1, 0, 0, 0), (8, none, .ifCond .eq 68, 3, 76, 0, 0), (11, none, .aload_n 0, 1, 0, 0, 0), (12, none, .iload_n 1, 1, 0, 0, 0), (13, none, .invokevirtual 483, 3, 1, 340, 1), (16, none, .bipush 32, 2, 0, 32, 0), (18, none, .if_icmp .eq 13, 3, 31, 0, 0), (21, none, .aload_n 0, 1, 0, 0, 0), (22, none, .iload_n 1, 1, 0, 0, 0), (23, none, .invokevirtual 483, 3, 1, 340, 1), (26, none, .bipush 10, 2, 0, 10, 0), (28, none, .if_icmp .ne 9, 3, 37, 0, 0)] := fq_of2 cd_487 ow_487 cl_487 rfl (pc := 7) (by decide +kernel)
    j_ildn (pc := 7) D rfl rfl rfl fun D =>
    j_ifeq (pc := 8) D rfl (fun q =>
      have D : fk_D 487 [(76, none, .aload_n 0, 1, 0, 0, 0), (77, none, .iload_n 1, 1, 0, 0, 0), (78, none, .putfield 507, 3, 396, 129, 10), (81, none, .aload_n 0, 1, 0, 0, 0), (82, none, .iload_n 1, 1, 0, 0, 0), (83, none, .invokevirtual 483, 3, 1, 340, 1), (86, none, .istore_n 3, 1, 0, 0, 0), (87, none, .aload_n 0, 1, 0, 0, 0), (88, none, .dup, 1, 0, 0, 0), (89, none, .getfield 510, 3, 398, 129, 10), (92, none, .iconst 1, 1, 0, 1, 0), (93, none, .iadd, 1, 0, 0, 0), (94, none, .putfield 510, 3, 398, 129, 10), (97, none, .iload_n 3, 1, 0, 0, 0), (98, none, .iconst (-1), 1, 0, (-1), 0), (99, none, .if_icmp .ne 27, 3, 126, 0, 0), (102, none, .aload_n 0, 1, 0, 0, 0), (103, none, .bipush 7, 2, 0, 7, 0), (105, none, .putfield 513, 3, 394, 129, 10), (108, none, .aload_n 0, 1, 0, 0, 0)] := fq_of2 cd_487 ow_487 cl_487 rfl (pc := 76) (by decide +kernel)
      j_aldn (pc := 76) D rfl rfl rfl fun D =>
      j_ildn (pc := 77) D rfl rfl rfl fun D =>
      j_pf (pc := 78) (a := 602) D rfl rfl rfl (s0_602 H) rfl rfl (gy (by decide)) (gy rfl) fun h1 eh1 S D =>
      have T := fj_hs_ok H.1 S
      have H := shp_st H T
      j_aldn (pc := 81) D rfl rfl rfl fun D =>
      j_ildn (pc := 82) D rfl rfl rfl fun D =>
      j_iv (pc := 83) (m := 488) (dd := 340) (a := [(0, x1)]) (rest := []) D rfl rfl rfl rfl rfl (by decide) (s0_602 H) (by decide +kernel) (fun v3 h2 e1 D =>
        have T := fj_run_ok _ _ _ _ _ _ H.1 e1
        have H := shp_st H T
        j_istn (pc := 86) (L' := [(3, (0, v3)), (0, (4, 602)), (1, (0, x1)), (2, (0, x2))]) D rfl nl_487 rfl rfl fun D =>
        j_aldn (pc := 87) D rfl rfl rfl fun D =>
        j_sh (pc := 88) D rfl rfl rfl fun D =>
        j_gf (pc := 89) (a := 602) D rfl rfl (by decide) rfl (s0_602 H) rfl fun D =>
        j_ic (pc := 92) D rfl fun D =>
        j_iadd (pc := 93) D rfl fun D =>
        j_pf (pc := 94) (a := 602) D rfl rfl rfl (s0_602 H) rfl rfl (gy (by decide)) (gy rfl) fun h5 eh5 S D =>
        have T := fj_hs_ok H.1 S
        have H := shp_st H T
        j_ildn (pc := 97) D rfl rfl rfl fun D =>
        j_ic (pc := 98) D rfl fun D =>
        j_ine (pc := 99) D rfl (fun q D =>
          j_aldn (pc := 102) D rfl rfl rfl fun D =>
          j_bp (pc := 103) D rfl fun D =>
          j_pf (pc := 105) (a := 602) D rfl rfl rfl (s0_602 H) rfl rfl (gy (by decide)) (gy rfl) fun h6 eh6 S D =>
          have T := fj_hs_ok H.1 S
          have H := shp_st H T
          j_aldn (pc := 108) D rfl rfl rfl fun D =>
          have D : fk_D 487 [(109, none, .dup, 1, 0, 0, 0), (110, none, .getfield 510, 3, 398, 129, 10), (113, none, .iconst 1, 1, 0, 1, 0), (114, none, .isub, 1, 0, 0, 0), (115, none, .putfield 510, 3, 398, 129, 10), (118, none, .aload_n 0, 1, 0, 0, 0), (119, none, .iload_n 1, 1, 0, 0, 0), (120, none, .putfield 504, 3, 397, 129, 10), (123, none, .goto 39, 3, 162, 0, 0)] := fq_of2 cd_487 ow_487 cl_487 rfl (pc := 109) (by decide +kernel)
          j_sh (pc := 109) D rfl rfl rfl fun D =>
          j_gf (pc := 110) (a := 602) D rfl rfl (by decide) rfl (s0_602 H) rfl fun D =>
          j_ic (pc := 113) D rfl fun D =>
          j_isub (pc := 114) D rfl fun D =>
          j_pf (pc := 115) (a := 602) D rfl rfl rfl (s0_602 H) rfl rfl (gy (by decide)) (gy rfl) fun h7 eh7 S D =>
          have T := fj_hs_ok H.1 S
          have H := shp_st H T
          j_aldn (pc := 118) D rfl rfl rfl fun D =>
          j_ildn (pc := 119) D rfl rfl rfl fun D =>
          j_pf (pc := 120) (a := 602) D rfl rfl rfl (s0_602 H) rfl rfl (gy (by decide)) (gy rfl) fun h8 eh8 S D =>
          have T := fj_hs_ok H.1 S
          have H := shp_st H T
          j_goto (pc := 123) D rfl <|
          have D : fk_D 487 [(162, none, .return_, 1, 0, 0, 0)] := fq_of2 cd_487 ow_487 cl_487 rfl (pc := 162) (by decide +kernel)
          j_vret D rt_487) (fun q =>
          have D : fk_D 487 [(126, none, .iload_n 3, 1, 0, 0, 0), (127, none, .invokestatic 516, 3, 1, 489, 1), (130, none, .ifCond .eq 11, 3, 141, 0, 0), (133, none, .aload_n 0, 1, 0, 0, 0), (134, none, .iload_n 1, 1, 0, 0, 0), (135, none, .invokevirtual 519, 3, 1, 341, 0), (138, none, .goto 24, 3, 162, 0, 0)] := fq_of2 cd_487 ow_487 cl_487 rfl (pc := 126) (by decide +kernel)
          j_ildn (pc := 126) D rfl rfl rfl fun D =>
          j_is (pc := 127) (m := 489) (a := [(0, v3)]) (rest := []) D rfl rfl rfl rfl (fun v10 h9 e1 D =>
            have T := fj_run_ok _ _ _ _ _ _ H.1 e1
            have H := shp_st H T
            j_ifeq (pc := 130) D rfl (fun q =>
              have D : fk_D 487 [(141, none, .iload_n 3, 1, 0, 0, 0), (142, none, .invokestatic 486, 3, 1, 491, 1), (145, none, .ifCond .eq 11, 3, 156, 0, 0), (148, none, .aload_n 0, 1, 0, 0, 0), (149, none, .iload_n 1, 1, 0, 0, 0), (150, none, .invokevirtual 522, 3, 1, 342, 0), (153, none, .goto 9, 3, 162, 0, 0)] := fq_of2 cd_487 ow_487 cl_487 rfl (pc := 141) (by decide +kernel)
              j_ildn (pc := 141) D rfl rfl rfl fun D =>
              j_is (pc := 142) (m := 491) (a := [(0, v3)]) (rest := []) D rfl rfl rfl rfl (fun v13 h12 e1 D =>
                have T := fj_run_ok _ _ _ _ _ _ H.1 e1
                have H := shp_st H T
                j_ifeq (pc := 145) D rfl (fun q =>
                  have D : fk_D 487 [(156, none, .aload_n 0, 1, 0, 0, 0), (157, none, .iload_n 1, 1, 0, 0, 0), (158, none, .iload_n 3, 1, 0, 0, 0), (159, none, .invokevirtual 525, 3, 2, 343, 0), (162, none, .return_, 1, 0, 0, 0)] := fq_of2 cd_487 ow_487 cl_487 rfl (pc := 156) (by decide +kernel)
                  j_aldn (pc := 156) D rfl rfl rfl fun D =>
                  j_ildn (pc := 157) D rfl rfl rfl fun D =>
                  j_ildn (pc := 158) D rfl rfl rfl fun D =>
                  j_ivv (pc := 159) (m := 497) (dd := 343) (a := [(0, x1), (0, v3)]) (rest := []) D rfl rfl rfl rfl rfl (by decide) (s0_602 H) (by decide +kernel) (fun h15 e1 D =>
                    have T := fj_run_ok _ _ _ _ _ _ H.1 e1
                    have H := shp_st H T
                    j_vret D rt_487) (fun q17 h15 e1 =>
                    j_tx (hx_487 _))) (fun q D =>
                  j_aldn (pc := 148) D rfl rfl rfl fun D =>
                  j_ildn (pc := 149) D rfl rfl rfl fun D =>
                  j_ivv (pc := 150) (m := 494) (dd := 342) (a := [(0, x1)]) (rest := []) D rfl rfl rfl rfl rfl (by decide) (s0_602 H) (by decide +kernel) (fun h18 e1 D =>
                    have T := fj_run_ok _ _ _ _ _ _ H.1 e1
                    have H := shp_st H T
                    j_goto (pc := 153) D rfl <|
                    have D : fk_D 487 [(162, none, .return_, 1, 0, 0, 0)] := fq_of2 cd_487 ow_487 cl_487 rfl (pc := 162) (by decide +kernel)
                    j_vret D rt_487) (fun q20 h18 e1 =>
                    j_tx (hx_487 _)))) (fun q14 h12 e1 =>
                j_tx (hx_487 _))) (fun q D =>
              j_aldn (pc := 133) D rfl rfl rfl fun D =>
              j_ildn (pc := 134) D rfl rfl rfl fun D =>
              j_ivv (pc := 135) (m := 490) (dd := 341) (a := [(0, x1)]) (rest := []) D rfl rfl rfl rfl rfl (by decide) (s0_602 H) (by decide +kernel) (fun h21 e1 D =>
                have T := fj_run_ok _ _ _ _ _ _ H.1 e1
                have H := shp_st H T
                j_goto (pc := 138) D rfl <|
                have D : fk_D 487 [(162, none, .return_, 1, 0, 0, 0)] := fq_of2 cd_487 ow_487 cl_487 rfl (pc := 162) (by decide +kernel)
                j_vret D rt_487) (fun q23 h21 e1 =>
                j_tx (hx_487 _)))) (fun q11 h9 e1 =>
            j_tx (hx_487 _)))) (fun q4 h2 e1 =>
        j_tx (hx_487 _))) (fun q D =>
      j_aldn (pc := 11) D rfl rfl rfl fun D =>
      j_ildn (pc := 12) D rfl rfl rfl fun D =>
      j_iv (pc := 13) (m := 488) (dd := 340) (a := [(0, x1)]) (rest := []) D rfl rfl rfl rfl rfl (by decide) (s0_602 H) (by decide +kernel) (fun v25 h24 e1 D =>
        have T := fj_run_ok _ _ _ _ _ _ H.1 e1
        have H := shp_st H T
        j_bp (pc := 16) D rfl fun D =>
        j_ieq (pc := 18) D rfl (fun q =>
          fk_jump cut_487_31 rfl rfl) (fun q D =>
          j_aldn (pc := 21) D rfl rfl rfl fun D =>
          j_ildn (pc := 22) D rfl rfl rfl fun D =>
          j_iv (pc := 23) (m := 488) (dd := 340) (a := [(0, x1)]) (rest := []) D rfl rfl rfl rfl rfl (by decide) (s0_602 H) (by decide +kernel) (fun v28 h27 e1 D =>
            have T := fj_run_ok _ _ _ _ _ _ H.1 e1
            have H := shp_st H T
            j_bp (pc := 26) D rfl fun D =>
            j_ine (pc := 28) D rfl (fun q D =>
              fk_jump cut_487_31 rfl rfl) (fun q =>
              have D : fk_D 487 [(37, none, .aload_n 0, 1, 0, 0, 0), (38, none, .iload_n 1, 1, 0, 0, 0), (39, none, .invokevirtual 483, 3, 1, 340, 1), (42, none, .bipush 39, 2, 0, 39, 0), (44, none, .if_icmp .ne 27, 3, 71, 0, 0)] := fq_of2 cd_487 ow_487 cl_487 rfl (pc := 37) (by decide +kernel)
              j_aldn (pc := 37) D rfl rfl rfl fun D =>
              j_ildn (pc := 38) D rfl rfl rfl fun D =>
              j_iv (pc := 39) (m := 488) (dd := 340) (a := [(0, x1)]) (rest := []) D rfl rfl rfl rfl rfl (by decide) (s0_602 H) (by decide +kernel) (fun v31 h30 e1 D =>
                have T := fj_run_ok _ _ _ _ _ _ H.1 e1
                have H := shp_st H T
                j_bp (pc := 42) D rfl fun D =>
                j_ine (pc := 44) D rfl (fun q D =>
                  fk_jump cut_487_47 rfl rfl) (fun q =>
                  have D : fk_D 487 [(71, none, .iconst 0, 1, 0, 0, 0), (72, none, .istore_n 2, 1, 0, 0, 0), (73, none, .goto (-66), 3, 7, 0, 0)] := fq_of2 cd_487 ow_487 cl_487 rfl (pc := 71) (by decide +kernel)
                  j_ic (pc := 71) D rfl fun D =>
                  j_istn (pc := 72) (L' := [(2, (0, 0)), (0, (4, 602)), (1, (0, x1))]) D rfl nl_487 rfl rfl fun D =>
                  j_goto (pc := 73) D rfl <|
                  fk_jump cut_487_7 rfl rfl)) (fun q32 h30 e1 =>
                j_tx (hx_487 _)))) (fun q29 h27 e1 =>
            j_tx (hx_487 _)))) (fun q26 h24 e1 =>
        j_tx (hx_487 _)))
theorem e_487_31 (d : Nat) (x1 x2 : Int) {h : fi_H} (H : Shp h) : c_487_31 d x1 x2 h =
  c_487_7 d (wI (x1 + 1)) x2 h := by
  unfold c_487_31
  exact
    have D : fk_D 487 [(31, some [0, 1, 2], .iinc 1 1, 3, 0, 1, 0), (34, none, .goto (-27), 3, 7, 0, 0)] := fq_of2 cd_487 ow_487 cl_487 rfl (pc := 31) (by decide +kernel)
    j_inc (pc := 31) (L' := [(1, (0, wI (x1 + 1))), (0, (4, 602)), (2, (0, x2))]) D rfl rfl rfl (by decide +kernel) rfl fun D =>
    j_goto (pc := 34) D rfl <|
    fk_jump cut_487_7 rfl rfl
theorem e_487_47 (d : Nat) (x1 x2 : Int) {h : fi_H} (H : Shp h) : c_487_47 d x1 x2 h =
  if x1 < h 393 602 0 then
    ca_ (fj_run d 488 h [(4, 602), (0, x1)]) 0
      (fun v2 h1 =>
      if v2 = 10 then
        c_487_7 d x1 x2 h1
      else
        c_487_47 d (wI (x1 + 1)) x2 h1)
      (fun q3 h1 => tx_ q3 h1)
  else
    c_487_7 d x1 x2 h := by
  unfold c_487_47
  exact
    have D : fk_D 487 [(47, some [0, 1, 2], .iload_n 1, 1, 0, 0, 0), (48, none, .aload_n 0, 1, 0, 0, 0), (49, none, .getfield 473, 3, 393, 129, 10), (52, none, .if_icmp .ge (-45), 3, 7, 0, 0), (55, none, .aload_n 0, 1, 0, 0, 0), (56, none, .iload_n 1, 1, 0, 0, 0), (57, none, .invokevirtual 483, 3, 1, 340, 1), (60, none, .bipush 10, 2, 0, 10, 0), (62, none, .if_icmp .eq (-55), 3, 7, 0, 0), (65, none, .iinc 1 1, 3, 0, 1, 0), (68, none, .goto (-21), 3, 47, 0, 0)] := fq_of2 cd_487 ow_487 cl_487 rfl (pc := 47) (by decide +kernel)
    j_ildn (pc := 47) D rfl rfl rfl fun D =>
    j_aldn (pc := 48) D rfl rfl rfl fun D =>
    j_gf (pc := 49) (a := 602) D rfl rfl (by decide) rfl (s0_602 H) rfl fun D =>
    j_ige (pc := 52) D rfl (fun q D =>
      j_aldn (pc := 55) D rfl rfl rfl fun D =>
      j_ildn (pc := 56) D rfl rfl rfl fun D =>
      j_iv (pc := 57) (m := 488) (dd := 340) (a := [(0, x1)]) (rest := []) D rfl rfl rfl rfl rfl (by decide) (s0_602 H) (by decide +kernel) (fun v2 h1 e1 D =>
        have T := fj_run_ok _ _ _ _ _ _ H.1 e1
        have H := shp_st H T
        j_bp (pc := 60) D rfl fun D =>
        j_ieq (pc := 62) D rfl (fun q =>
          fk_jump cut_487_7 rfl rfl) (fun q D =>
          j_inc (pc := 65) (L' := [(1, (0, wI (x1 + 1))), (0, (4, 602)), (2, (0, x2))]) D rfl rfl rfl (by decide +kernel) rfl fun D =>
          j_goto (pc := 68) D rfl <|
          fk_jump cut_487_47 rfl rfl)) (fun q3 h1 e1 =>
        j_tx (hx_487 _))) (fun q =>
      fk_jump cut_487_7 rfl rfl)
theorem m_487 (d : Nat) {h : fi_H} (H : Shp h) : fj_run (d + 1) 487 h [(4, 602)] =
  c_487_7 d (h 397 602 0) 1 h := by
  rw [fj_run_eq d (by decide) h [(4, 602)] (Nat.le_of_ble_eq_true (by rw [nl_487]; rfl))]
  show gG (fj_run d) 487 0 [(0, (4, 602))] [] h = _
  exact
    have D : fk_D 487 [(0, none, .aload_n 0, 1, 0, 0, 0), (1, none, .getfield 504, 3, 397, 129, 10), (4, none, .istore_n 1, 1, 0, 0, 0), (5, none, .iconst 1, 1, 0, 1, 0), (6, none, .istore_n 2, 1, 0, 0, 0)] := fq_of2 cd_487 ow_487 cl_487 rfl (pc := 0) (by decide +kernel)
    j_aldn (pc := 0) D rfl rfl rfl fun D =>
    j_gf (pc := 1) (a := 602) D rfl rfl (by decide) rfl (s0_602 H) rfl fun D =>
    j_istn (pc := 4) (L' := [(1, (0, h 397 602 0)), (0, (4, 602))]) D rfl nl_487 rfl rfl fun D =>
    j_ic (pc := 5) D rfl fun D =>
    j_istn (pc := 6) (L' := [(2, (0, 1)), (1, (0, h 397 602 0)), (0, (4, 602))]) D rfl nl_487 rfl rfl fun D =>
    fk_jump cut_487_7 rfl rfl
/-! 488 StatuteHouseModel.see(I)I -/
theorem cd_488 : fi_code 488 = prog_69_method_16_code := rfl
theorem hx_488 : ∀ pc, fi_hat 488 pc = none := fun pc => by unfold fi_hat; rw [show fi_hh 488 = [] from rfl]; rfl
theorem rt_488 : fi_ret 488 = some .int := rfl
theorem nl_488 : fi_nl 488 = 2 := rfl
theorem ow_488 : fi_ow 488 = 29 := rfl
theorem cl_488 : fj_cutT.getD 488 [] = [] := rfl
theorem m_488 (d : Nat) (x1 : Int) {h : fi_H} (H : Shp h) : fj_run (d + 1) 488 h [(4, 602), (0, x1)] =
  if x1 < h 393 602 0 then
    if 0 ≤ x1 ∧ x1 < 4000 then
    some (.inl (some (0, h 10 607 x1.toNat)), h)
    else none
  else
    some (.inl (some (0, (-1))), h) := by
  rw [fj_run_eq d (by decide) h [(4, 602), (0, x1)] (Nat.le_of_ble_eq_true (by rw [nl_488]; rfl))]
  show gG (fj_run d) 488 0 [(0, (4, 602)), (1, (0, x1))] [] h = _
  exact
    have D : fk_D 488 [(0, none, .iload_n 1, 1, 0, 0, 0), (1, none, .aload_n 0, 1, 0, 0, 0), (2, none, .getfield 473, 3, 393, 129, 10), (5, none, .if_icmp .ge 12, 3, 17, 0, 0), (8, none, .aload_n 0, 1, 0, 0, 0), (9, none, .getfield 26, 3, 391, 129, 12), (12, none, .iload_n 1, 1, 0, 0, 0), (13, none, .iaload, 1, 0, 0, 0), (14, none, .goto 4, 3, 18, 0, 0)] := fq_of2 cd_488 ow_488 cl_488 rfl (pc := 0) (by decide +kernel)
    j_ildn (pc := 0) D rfl rfl rfl fun D =>
    j_aldn (pc := 1) D rfl rfl rfl fun D =>
    j_gf (pc := 2) (a := 602) D rfl rfl (by decide) rfl (s0_602 H) rfl fun D =>
    j_ige (pc := 5) D rfl (fun q D =>
      j_aldn (pc := 8) D rfl rfl rfl fun D =>
      j_gfc (pc := 9) (a := 602) D rfl rfl (by decide) rfl (s0_602 H) rfl (sf_391_602 H) fun D =>
      j_ildn (pc := 12) D rfl rfl rfl fun D =>
      j_al (pc := 13) (a := 607) (e := 10) D rfl rfl rfl (by decide) (s0_607 H) (s1_607 H) ⟨rfl, rfl, rfl⟩ rfl gn fun qb1 D =>
      j_goto (pc := 14) D rfl <|
      have D : fk_D 488 [(18, none, .ireturn, 1, 0, 0, 0)] := fq_of2 cd_488 ow_488 cl_488 rfl (pc := 18) (by decide +kernel)
      j_iret D rt_488) (fun q =>
      have D : fk_D 488 [(17, none, .iconst (-1), 1, 0, (-1), 0), (18, none, .ireturn, 1, 0, 0, 0)] := fq_of2 cd_488 ow_488 cl_488 rfl (pc := 17) (by decide +kernel)
      j_ic (pc := 17) D rfl fun D =>
      j_iret D rt_488)
/-! 489 StatuteHouseModel.isSmall(I)Z -/
theorem cd_489 : fi_code 489 = prog_69_method_17_code := rfl
theorem hx_489 : ∀ pc, fi_hat 489 pc = none := fun pc => by unfold fi_hat; rw [show fi_hh 489 = [] from rfl]; rfl
theorem rt_489 : fi_ret 489 = some .boolean := rfl
theorem nl_489 : fi_nl 489 = 1 := rfl
theorem ow_489 : fi_ow 489 = 29 := rfl
theorem cl_489 : fj_cutT.getD 489 [] = [] := rfl
theorem m_489 (d : Nat) (x0 : Int) {h : fi_H} (H : Shp h) : fj_run (d + 1) 489 h [(0, x0)] =
  if x0 < 97 then
    some (.inl (some (0, 0)), h)
  else
    if 122 < x0 then
      some (.inl (some (0, 0)), h)
    else
      some (.inl (some (0, 1)), h) := by
  rw [fj_run_eq d (by decide) h [(0, x0)] (Nat.le_of_ble_eq_true (by rw [nl_489]; rfl))]
  show gG (fj_run d) 489 0 [(0, (0, x0))] [] h = _
  exact
    have D : fk_D 489 [(0, none, .iload_n 0, 1, 0, 0, 0), (1, none, .bipush 97, 2, 0, 97, 0), (3, none, .if_icmp .lt 13, 3, 16, 0, 0), (6, none, .iload_n 0, 1, 0, 0, 0), (7, none, .bipush 122, 2, 0, 122, 0), (9, none, .if_icmp .gt 7, 3, 16, 0, 0), (12, none, .iconst 1, 1, 0, 1, 0), (13, none, .goto 4, 3, 17, 0, 0)] := fq_of2 cd_489 ow_489 cl_489 rfl (pc := 0) (by decide +kernel)
    j_ildn (pc := 0) D rfl rfl rfl fun D =>
    j_bp (pc := 1) D rfl fun D =>
    j_ilt (pc := 3) D rfl (fun q =>
      have D : fk_D 489 [(16, none, .iconst 0, 1, 0, 0, 0), (17, none, .ireturn, 1, 0, 0, 0)] := fq_of2 cd_489 ow_489 cl_489 rfl (pc := 16) (by decide +kernel)
      j_ic (pc := 16) D rfl fun D =>
      j_zret D rt_489 (gy (by decide))) (fun q D =>
      j_ildn (pc := 6) D rfl rfl rfl fun D =>
      j_bp (pc := 7) D rfl fun D =>
      j_igt (pc := 9) D rfl (fun q =>
        have D : fk_D 489 [(16, none, .iconst 0, 1, 0, 0, 0), (17, none, .ireturn, 1, 0, 0, 0)] := fq_of2 cd_489 ow_489 cl_489 rfl (pc := 16) (by decide +kernel)
        j_ic (pc := 16) D rfl fun D =>
        j_zret D rt_489 (gy (by decide))) (fun q D =>
        j_ic (pc := 12) D rfl fun D =>
        j_goto (pc := 13) D rfl <|
        have D : fk_D 489 [(17, none, .ireturn, 1, 0, 0, 0)] := fq_of2 cd_489 ow_489 cl_489 rfl (pc := 17) (by decide +kernel)
        j_zret D rt_489 (gy (by decide))))
/-! 490 StatuteHouseModel.cutWord(I)V -/
theorem cd_490 : fi_code 490 = prog_69_method_26_code := rfl
theorem hx_490 : ∀ pc, fi_hat 490 pc = none := fun pc => by unfold fi_hat; rw [show fi_hh 490 = [] from rfl]; rfl
theorem rt_490 : fi_ret 490 = none := rfl
theorem nl_490 : fi_nl 490 = 3 := rfl
theorem ow_490 : fi_ow 490 = 29 := rfl
theorem cl_490 : fj_cutT.getD 490 [] = [(2, [0, 1, 2]), (34, [0, 1, 2]), (83, [0, 1, 2]), (105, [0, 1, 2]), (140, []), (141, [])] := rfl
theorem cut_490_2 : fj_cut 490 2 = some [0, 1, 2] := by decide +kernel
noncomputable def c_490_2 (d : Nat) (x1 x2 : Int) (h : fi_H) : fk_R := gG (fj_run d) 490 2 [(0, (4, 602)), (1, (0, x1)), (2, (0, x2))] [] h
theorem cut_490_34 : fj_cut 490 34 = some [0, 1, 2] := by decide +kernel
noncomputable def c_490_34 (d : Nat) (x1 x2 : Int) (h : fi_H) : fk_R := gG (fj_run d) 490 34 [(0, (4, 602)), (1, (0, x1)), (2, (0, x2))] [] h
theorem cut_490_83 : fj_cut 490 83 = some [0, 1, 2] := by decide +kernel
noncomputable def c_490_83 (d : Nat) (x1 x2 s0 s1 : Int) (h : fi_H) : fk_R := gG (fj_run d) 490 83 [(0, (4, 602)), (1, (0, x1)), (2, (0, x2))] [(0, s1), (4, s0)] h
theorem cut_490_105 : fj_cut 490 105 = some [0, 1, 2] := by decide +kernel
noncomputable def c_490_105 (d : Nat) (x1 x2 s0 s1 s2 s3 : Int) (h : fi_H) : fk_R := gG (fj_run d) 490 105 [(0, (4, 602)), (1, (0, x1)), (2, (0, x2))] [(0, s3), (0, s2), (4, s1), (4, s0)] h
theorem cut_490_140 : fj_cut 490 140 = some [] := by decide +kernel
noncomputable def c_490_140 (d : Nat) (s0 : Int) (h : fi_H) : fk_R := gG (fj_run d) 490 140 [] [(4, s0)] h
theorem cut_490_141 : fj_cut 490 141 = some [] := by decide +kernel
noncomputable def c_490_141 (d : Nat) (s0 s1 : Int) (h : fi_H) : fk_R := gG (fj_run d) 490 141 [] [(1, s1), (4, s0)] h
theorem e_490_2 (d : Nat) (x1 x2 : Int) {h : fi_H} (H : Shp h) : c_490_2 d x1 x2 h =
  ca_ (fj_run d 488 h [(4, 602), (0, x2)]) 0
    (fun v2 h1 =>
    ca_ (fj_run d 489 h1 [(0, v2)]) 0
      (fun v5 h4 =>
      if v5 = 0 then
        ca_ (fj_run d 488 h4 [(4, 602), (0, x2)]) 0
          (fun v8 h7 =>
          ca_ (fj_run d 491 h7 [(0, v8)]) 0
            (fun v11 h10 =>
            if v11 = 0 then
              ca_ (fj_run d 488 h10 [(4, 602), (0, x2)]) 0
                (fun v14 h13 =>
                if v14 = 95 then
                  c_490_34 d x1 x2 h13
                else
                  lt_ (fi_upd h13 397 602 0 x2) fun h16 =>
                  ca_ (fj_run d 492 h16 [(4, 602), (0, x1), (0, wI (x2 - x1))]) 0
                    (fun v18 h17 =>
                    lt_ (fi_upd h17 395 602 0 v18) fun h20 =>
                    if h20 395 602 0 = (-1) then
                      if 12 < wI (x2 - x1) then
                        c_490_83 d x1 x2 602 0 h20
                      else
                        c_490_83 d x1 x2 602 1 h20
                    else
                      c_490_83 d x1 x2 602 2 h20)
                    (fun q19 h17 => tx_ q19 h17))
                (fun q15 h13 => tx_ q15 h13)
            else
              c_490_34 d x1 x2 h10)
            (fun q12 h10 => tx_ q12 h10))
          (fun q9 h7 => tx_ q9 h7)
      else
        c_490_34 d x1 x2 h4)
      (fun q6 h4 => tx_ q6 h4))
    (fun q3 h1 => tx_ q3 h1) := by
  unfold c_490_2
  exact
    have D : fk_D 490 [(2, some [0, 1, 2], .aload_n 0, 1, 0, 0, 0), (3, none, .iload_n 2, 1, 0, 0, 0), (4, none, .invokevirtual 483, 3, 1, 340, 1), (7, none, .invokestatic 516, 3, 1, 489, 1), (10, none, .ifCond .ne 24, 3, 34, 0, 0), (13, none, .aload_n 0, 1, 0, 0, 0), (14, none, .iload_n 2, 1, 0, 0, 0), (15, none, .invokevirtual 483, 3, 1, 340, 1), (18, none, .invokestatic 486, 3, 1, 491, 1), (21, none, .ifCond .ne 13, 3, 34, 0, 0), (24, none, .aload_n 0, 1, 0, 0, 0), (25, none, .iload_n 2, 1, 0, 0, 0), (26, none, .invokevirtual 483, 3, 1, 340, 1), (29, none, .bipush 95, 2, 0, 95, 0), (31, none, .if_icmp .ne 9, 3, 40, 0, 0)] := fq_of2 cd_490 ow_490 cl_490 rfl (pc := 2) (by decide +kernel)
    j_aldn (pc := 2) D rfl rfl rfl fun D =>
    j_ildn (pc := 3) D rfl rfl rfl fun D =>
    j_iv (pc := 4) (m := 488) (dd := 340) (a := [(0, x2)]) (rest := []) D rfl rfl rfl rfl rfl (by decide) (s0_602 H) (by decide +kernel) (fun v2 h1 e1 D =>
      have T := fj_run_ok _ _ _ _ _ _ H.1 e1
      have H := shp_st H T
      j_is (pc := 7) (m := 489) (a := [(0, v2)]) (rest := []) D rfl rfl rfl rfl (fun v5 h4 e1 D =>
        have T := fj_run_ok _ _ _ _ _ _ H.1 e1
        have H := shp_st H T
        j_ifne (pc := 10) D rfl (fun q D =>
          j_aldn (pc := 13) D rfl rfl rfl fun D =>
          j_ildn (pc := 14) D rfl rfl rfl fun D =>
          j_iv (pc := 15) (m := 488) (dd := 340) (a := [(0, x2)]) (rest := []) D rfl rfl rfl rfl rfl (by decide) (s0_602 H) (by decide +kernel) (fun v8 h7 e1 D =>
            have T := fj_run_ok _ _ _ _ _ _ H.1 e1
            have H := shp_st H T
            j_is (pc := 18) (m := 491) (a := [(0, v8)]) (rest := []) D rfl rfl rfl rfl (fun v11 h10 e1 D =>
              have T := fj_run_ok _ _ _ _ _ _ H.1 e1
              have H := shp_st H T
              j_ifne (pc := 21) D rfl (fun q D =>
                j_aldn (pc := 24) D rfl rfl rfl fun D =>
                j_ildn (pc := 25) D rfl rfl rfl fun D =>
                j_iv (pc := 26) (m := 488) (dd := 340) (a := [(0, x2)]) (rest := []) D rfl rfl rfl rfl rfl (by decide) (s0_602 H) (by decide +kernel) (fun v14 h13 e1 D =>
                  have T := fj_run_ok _ _ _ _ _ _ H.1 e1
                  have H := shp_st H T
                  j_bp (pc := 29) D rfl fun D =>
                  j_ine (pc := 31) D rfl (fun q D =>
                    fk_jump cut_490_34 rfl rfl) (fun q =>
                    have D : fk_D 490 [(40, none, .aload_n 0, 1, 0, 0, 0), (41, none, .iload_n 2, 1, 0, 0, 0), (42, none, .putfield 504, 3, 397, 129, 10), (45, none, .aload_n 0, 1, 0, 0, 0), (46, none, .aload_n 0, 1, 0, 0, 0), (47, none, .iload_n 1, 1, 0, 0, 0), (48, none, .iload_n 2, 1, 0, 0, 0), (49, none, .iload_n 1, 1, 0, 0, 0), (50, none, .isub, 1, 0, 0, 0), (51, none, .invokevirtual 528, 3, 2, 344, 1), (54, none, .putfield 531, 3, 395, 129, 10), (57, none, .aload_n 0, 1, 0, 0, 0), (58, none, .aload_n 0, 1, 0, 0, 0), (59, none, .getfield 531, 3, 395, 129, 10), (62, none, .iconst (-1), 1, 0, (-1), 0), (63, none, .if_icmp .eq 7, 3, 70, 0, 0), (66, none, .iconst 2, 1, 0, 2, 0), (67, none, .goto 16, 3, 83, 0, 0)] := fq_of2 cd_490 ow_490 cl_490 rfl (pc := 40) (by decide +kernel)
                    j_aldn (pc := 40) D rfl rfl rfl fun D =>
                    j_ildn (pc := 41) D rfl rfl rfl fun D =>
                    j_pf (pc := 42) (a := 602) D rfl rfl rfl (s0_602 H) rfl rfl (gy (by decide)) (gy rfl) fun h16 eh16 S D =>
                    have T := fj_hs_ok H.1 S
                    have H := shp_st H T
                    j_aldn (pc := 45) D rfl rfl rfl fun D =>
                    j_aldn (pc := 46) D rfl rfl rfl fun D =>
                    j_ildn (pc := 47) D rfl rfl rfl fun D =>
                    j_ildn (pc := 48) D rfl rfl rfl fun D =>
                    j_ildn (pc := 49) D rfl rfl rfl fun D =>
                    j_isub (pc := 50) D rfl fun D =>
                    j_iv (pc := 51) (m := 492) (dd := 344) (a := [(0, x1), (0, wI (x2 - x1))]) (rest := [(4, 602)]) D rfl rfl rfl rfl rfl (by decide) (s0_602 H) (by decide +kernel) (fun v18 h17 e1 D =>
                      have T := fj_run_ok _ _ _ _ _ _ H.1 e1
                      have H := shp_st H T
                      j_pf (pc := 54) (a := 602) D rfl rfl rfl (s0_602 H) rfl rfl (gy (by decide)) (gy rfl) fun h20 eh20 S D =>
                      have T := fj_hs_ok H.1 S
                      have H := shp_st H T
                      j_aldn (pc := 57) D rfl rfl rfl fun D =>
                      j_aldn (pc := 58) D rfl rfl rfl fun D =>
                      j_gf (pc := 59) (a := 602) D rfl rfl (by decide) rfl (s0_602 H) rfl fun D =>
                      j_ic (pc := 62) D rfl fun D =>
                      j_ieq (pc := 63) D rfl (fun q =>
                        have D : fk_D 490 [(70, none, .iload_n 2, 1, 0, 0, 0), (71, none, .iload_n 1, 1, 0, 0, 0), (72, none, .isub, 1, 0, 0, 0), (73, none, .bipush 12, 2, 0, 12, 0), (75, none, .if_icmp .le 7, 3, 82, 0, 0), (78, none, .iconst 0, 1, 0, 0, 0), (79, none, .goto 4, 3, 83, 0, 0)] := fq_of2 cd_490 ow_490 cl_490 rfl (pc := 70) (by decide +kernel)
                        j_ildn (pc := 70) D rfl rfl rfl fun D =>
                        j_ildn (pc := 71) D rfl rfl rfl fun D =>
                        j_isub (pc := 72) D rfl fun D =>
                        j_bp (pc := 73) D rfl fun D =>
                        j_ile (pc := 75) D rfl (fun q D =>
                          j_ic (pc := 78) D rfl fun D =>
                          j_goto (pc := 79) D rfl <|
                          fk_jump cut_490_83 rfl rfl) (fun q =>
                          have D : fk_D 490 [(82, none, .iconst 1, 1, 0, 1, 0)] := fq_of2 cd_490 ow_490 cl_490 rfl (pc := 82) (by decide +kernel)
                          j_ic (pc := 82) D rfl fun D =>
                          fk_jump cut_490_83 rfl rfl)) (fun q D =>
                        j_ic (pc := 66) D rfl fun D =>
                        j_goto (pc := 67) D rfl <|
                        fk_jump cut_490_83 rfl rfl)) (fun q19 h17 e1 =>
                      j_tx (hx_490 _)))) (fun q15 h13 e1 =>
                  j_tx (hx_490 _))) (fun q =>
                fk_jump cut_490_34 rfl rfl)) (fun q12 h10 e1 =>
              j_tx (hx_490 _))) (fun q9 h7 e1 =>
            j_tx (hx_490 _))) (fun q =>
          fk_jump cut_490_34 rfl rfl)) (fun q6 h4 e1 =>
        j_tx (hx_490 _))) (fun q3 h1 e1 =>
      j_tx (hx_490 _))
theorem e_490_34 (d : Nat) (x1 x2 : Int) {h : fi_H} (H : Shp h) : c_490_34 d x1 x2 h =
  c_490_2 d x1 (wI (x2 + 1)) h := by
  unfold c_490_34
  exact
    have D : fk_D 490 [(34, some [0, 1, 2], .iinc 2 1, 3, 0, 1, 0), (37, none, .goto (-35), 3, 2, 0, 0)] := fq_of2 cd_490 ow_490 cl_490 rfl (pc := 34) (by decide +kernel)
    j_inc (pc := 34) (L' := [(2, (0, wI (x2 + 1))), (0, (4, 602)), (1, (0, x1))]) D rfl rfl rfl (by decide +kernel) rfl fun D =>
    j_goto (pc := 37) D rfl <|
    fk_jump cut_490_2 rfl rfl
theorem e_490_83 (d : Nat) (x1 x2 s0 s1 : Int) {h : fi_H} (H : Shp h) : c_490_83 d x1 x2 s0 s1 h =
  if h 0 s0.toNat 0 = 129 then
  if 302 < s0 then
  lt_ (fi_upd h 394 s0.toNat 0 s1) fun h1 =>
  if x2 < wI (x1 + 6) then
    c_490_105 d x1 x2 602 602 x1 x2 h1
  else
    c_490_105 d x1 x2 602 602 x1 (wI (x1 + 6)) h1
  else none
  else none := by
  unfold c_490_83
  exact
    have D : fk_D 490 [(83, some [0, 1, 2], .putfield 513, 3, 394, (-129), 10), (86, none, .aload_n 0, 1, 0, 0, 0), (87, none, .aload_n 0, 1, 0, 0, 0), (88, none, .iload_n 1, 1, 0, 0, 0), (89, none, .iload_n 2, 1, 0, 0, 0), (90, none, .iload_n 1, 1, 0, 0, 0), (91, none, .bipush 6, 2, 0, 6, 0), (93, none, .iadd, 1, 0, 0, 0), (94, none, .if_icmp .ge 7, 3, 101, 0, 0), (97, none, .iload_n 2, 1, 0, 0, 0), (98, none, .goto 7, 3, 105, 0, 0)] := fq_of2 cd_490 ow_490 cl_490 rfl (pc := 83) (by decide +kernel)
    j_pfo (pc := 83) D rfl rfl rfl rfl rfl gn gn (gy rfl) fun h1 eh1 S kc2 D =>
    have T := fj_hs_ok H.1 S
    have H := shp_st H T
    j_aldn (pc := 86) D rfl rfl rfl fun D =>
    j_aldn (pc := 87) D rfl rfl rfl fun D =>
    j_ildn (pc := 88) D rfl rfl rfl fun D =>
    j_ildn (pc := 89) D rfl rfl rfl fun D =>
    j_ildn (pc := 90) D rfl rfl rfl fun D =>
    j_bp (pc := 91) D rfl fun D =>
    j_iadd (pc := 93) D rfl fun D =>
    j_ige (pc := 94) D rfl (fun q D =>
      j_ildn (pc := 97) D rfl rfl rfl fun D =>
      j_goto (pc := 98) D rfl <|
      fk_jump cut_490_105 rfl rfl) (fun q =>
      have D : fk_D 490 [(101, none, .iload_n 1, 1, 0, 0, 0), (102, none, .bipush 6, 2, 0, 6, 0), (104, none, .iadd, 1, 0, 0, 0)] := fq_of2 cd_490 ow_490 cl_490 rfl (pc := 101) (by decide +kernel)
      j_ildn (pc := 101) D rfl rfl rfl fun D =>
      j_bp (pc := 102) D rfl fun D =>
      j_iadd (pc := 104) D rfl fun D =>
      fk_jump cut_490_105 rfl rfl)
theorem e_490_105 (d : Nat) (x1 x2 s0 s1 s2 s3 : Int) {h : fi_H} (H : Shp h) : c_490_105 d x1 x2 s0 s1 s2 s3 h =
  dv_ (fi_vt 345 (h 0 s1.toNat 0)) fun m4 => ca_ (fj_run d m4 h [(4, s1), (0, s2), (0, s3)]) 1
    (fun v2 h1 =>
    if h1 0 s0.toNat 0 = 129 then
    if 302 < s0 then
    lt_ (fi_upd h1 400 s0.toNat 0 v2) fun h5 =>
    if wI (x1 + 6) < x2 then
      if wI (x1 + 12) < x2 then
        c_490_140 d 602 h5
      else
        ca_ (fj_run d 493 h5 [(4, 602), (0, wI (x1 + 6)), (0, x2)]) 1
          (fun v8 h7 =>
          c_490_141 d 602 v8 h7)
          (fun q9 h7 => tx_ q9 h7)
    else
      c_490_140 d 602 h5
    else none
    else none)
    (fun q3 h1 => tx_ q3 h1) := by
  unfold c_490_105
  exact
    have D : fk_D 490 [(105, some [0, 1, 2], .invokevirtual 534, 3, 2, 345, 2), (108, none, .putfield 538, 3, 400, (-129), 11), (111, none, .aload_n 0, 1, 0, 0, 0), (112, none, .iload_n 2, 1, 0, 0, 0), (113, none, .iload_n 1, 1, 0, 0, 0), (114, none, .bipush 6, 2, 0, 6, 0), (116, none, .iadd, 1, 0, 0, 0), (117, none, .if_icmp .le 23, 3, 140, 0, 0), (120, none, .iload_n 2, 1, 0, 0, 0), (121, none, .iload_n 1, 1, 0, 0, 0), (122, none, .bipush 12, 2, 0, 12, 0), (124, none, .iadd, 1, 0, 0, 0), (125, none, .if_icmp .gt 15, 3, 140, 0, 0), (128, none, .aload_n 0, 1, 0, 0, 0), (129, none, .iload_n 1, 1, 0, 0, 0), (130, none, .bipush 6, 2, 0, 6, 0), (132, none, .iadd, 1, 0, 0, 0), (133, none, .iload_n 2, 1, 0, 0, 0), (134, none, .invokevirtual 534, 3, 2, 345, 2), (137, none, .goto 4, 3, 141, 0, 0)] := fq_of2 cd_490 ow_490 cl_490 rfl (pc := 105) (by decide +kernel)
    j_ivu (pc := 105) (dd := 345) (a := [(0, s2), (0, s3)]) (rest := [(4, s0)]) H.2.1 D rfl rfl rfl rfl rfl (fun m4 v2 h1 e1 D =>
      have T := fj_run_ok _ _ _ _ _ _ H.1 e1
      have H := shp_st H T
      j_pfo (pc := 108) D rfl rfl rfl rfl rfl gn gn (gy rfl) fun h5 eh5 S kc6 D =>
      have T := fj_hs_ok H.1 S
      have H := shp_st H T
      j_aldn (pc := 111) D rfl rfl rfl fun D =>
      j_ildn (pc := 112) D rfl rfl rfl fun D =>
      j_ildn (pc := 113) D rfl rfl rfl fun D =>
      j_bp (pc := 114) D rfl fun D =>
      j_iadd (pc := 116) D rfl fun D =>
      j_ile (pc := 117) D rfl (fun q D =>
        j_ildn (pc := 120) D rfl rfl rfl fun D =>
        j_ildn (pc := 121) D rfl rfl rfl fun D =>
        j_bp (pc := 122) D rfl fun D =>
        j_iadd (pc := 124) D rfl fun D =>
        j_igt (pc := 125) D rfl (fun q =>
          fk_jump cut_490_140 rfl rfl) (fun q D =>
          j_aldn (pc := 128) D rfl rfl rfl fun D =>
          j_ildn (pc := 129) D rfl rfl rfl fun D =>
          j_bp (pc := 130) D rfl fun D =>
          j_iadd (pc := 132) D rfl fun D =>
          j_ildn (pc := 133) D rfl rfl rfl fun D =>
          j_iv (pc := 134) (m := 493) (dd := 345) (a := [(0, wI (x1 + 6)), (0, x2)]) (rest := [(4, 602)]) D rfl rfl rfl rfl rfl (by decide) (s0_602 H) (by decide +kernel) (fun v8 h7 e1 D =>
            have T := fj_run_ok _ _ _ _ _ _ H.1 e1
            have H := shp_st H T
            j_goto (pc := 137) D rfl <|
            fk_jump cut_490_141 rfl rfl) (fun q9 h7 e1 =>
            j_tx (hx_490 _)))) (fun q =>
        fk_jump cut_490_140 rfl rfl)) (fun m4 q3 h1 e1 =>
      j_tx (hx_490 _))
theorem e_490_140 (d : Nat) (s0 : Int) {h : fi_H} (H : Shp h) : c_490_140 d s0 h =
  c_490_141 d s0 0 h := by
  unfold c_490_140
  exact
    have D : fk_D 490 [(140, some [], .lconst 0, 1, 0, 0, 0)] := fq_of2 cd_490 ow_490 cl_490 rfl (pc := 140) (by decide +kernel)
    j_c0 (pc := 140) (v := (1, 0)) D rfl rfl (by decide +kernel) fun D =>
    fk_jump cut_490_141 rfl rfl
theorem e_490_141 (d : Nat) (s0 s1 : Int) {h : fi_H} (H : Shp h) : c_490_141 d s0 s1 h =
  if h 0 s0.toNat 0 = 129 then
  if 302 < s0 then
  lt_ (fi_upd h 401 s0.toNat 0 s1) fun h1 =>
  some (.inl none, h1)
  else none
  else none := by
  unfold c_490_141
  exact
    have D : fk_D 490 [(141, some [], .putfield 541, 3, 401, (-129), 11), (144, none, .return_, 1, 0, 0, 0)] := fq_of2 cd_490 ow_490 cl_490 rfl (pc := 141) (by decide +kernel)
    j_pfo (pc := 141) D rfl rfl rfl rfl rfl gn gn (gy rfl) fun h1 eh1 S kc2 D =>
    have T := fj_hs_ok H.1 S
    have H := shp_st H T
    j_vret D rt_490
theorem m_490 (d : Nat) (x1 : Int) {h : fi_H} (H : Shp h) : fj_run (d + 1) 490 h [(4, 602), (0, x1)] =
  c_490_2 d x1 x1 h := by
  rw [fj_run_eq d (by decide) h [(4, 602), (0, x1)] (Nat.le_of_ble_eq_true (by rw [nl_490]; rfl))]
  show gG (fj_run d) 490 0 [(0, (4, 602)), (1, (0, x1))] [] h = _
  exact
    have D : fk_D 490 [(0, none, .iload_n 1, 1, 0, 0, 0), (1, none, .istore_n 2, 1, 0, 0, 0)] := fq_of2 cd_490 ow_490 cl_490 rfl (pc := 0) (by decide +kernel)
    j_ildn (pc := 0) D rfl rfl rfl fun D =>
    j_istn (pc := 1) (L' := [(2, (0, x1)), (0, (4, 602)), (1, (0, x1))]) D rfl nl_490 rfl rfl fun D =>
    fk_jump cut_490_2 rfl rfl
/-! 491 StatuteHouseModel.isDigit(I)Z -/
theorem cd_491 : fi_code 491 = prog_69_method_18_code := rfl
theorem hx_491 : ∀ pc, fi_hat 491 pc = none := fun pc => by unfold fi_hat; rw [show fi_hh 491 = [] from rfl]; rfl
theorem rt_491 : fi_ret 491 = some .boolean := rfl
theorem nl_491 : fi_nl 491 = 1 := rfl
theorem ow_491 : fi_ow 491 = 29 := rfl
theorem cl_491 : fj_cutT.getD 491 [] = [] := rfl
theorem m_491 (d : Nat) (x0 : Int) {h : fi_H} (H : Shp h) : fj_run (d + 1) 491 h [(0, x0)] =
  if x0 < 48 then
    some (.inl (some (0, 0)), h)
  else
    if 57 < x0 then
      some (.inl (some (0, 0)), h)
    else
      some (.inl (some (0, 1)), h) := by
  rw [fj_run_eq d (by decide) h [(0, x0)] (Nat.le_of_ble_eq_true (by rw [nl_491]; rfl))]
  show gG (fj_run d) 491 0 [(0, (0, x0))] [] h = _
  exact
    have D : fk_D 491 [(0, none, .iload_n 0, 1, 0, 0, 0), (1, none, .bipush 48, 2, 0, 48, 0), (3, none, .if_icmp .lt 13, 3, 16, 0, 0), (6, none, .iload_n 0, 1, 0, 0, 0), (7, none, .bipush 57, 2, 0, 57, 0), (9, none, .if_icmp .gt 7, 3, 16, 0, 0), (12, none, .iconst 1, 1, 0, 1, 0), (13, none, .goto 4, 3, 17, 0, 0)] := fq_of2 cd_491 ow_491 cl_491 rfl (pc := 0) (by decide +kernel)
    j_ildn (pc := 0) D rfl rfl rfl fun D =>
    j_bp (pc := 1) D rfl fun D =>
    j_ilt (pc := 3) D rfl (fun q =>
      have D : fk_D 491 [(16, none, .iconst 0, 1, 0, 0, 0), (17, none, .ireturn, 1, 0, 0, 0)] := fq_of2 cd_491 ow_491 cl_491 rfl (pc := 16) (by decide +kernel)
      j_ic (pc := 16) D rfl fun D =>
      j_zret D rt_491 (gy (by decide))) (fun q D =>
      j_ildn (pc := 6) D rfl rfl rfl fun D =>
      j_bp (pc := 7) D rfl fun D =>
      j_igt (pc := 9) D rfl (fun q =>
        have D : fk_D 491 [(16, none, .iconst 0, 1, 0, 0, 0), (17, none, .ireturn, 1, 0, 0, 0)] := fq_of2 cd_491 ow_491 cl_491 rfl (pc := 16) (by decide +kernel)
        j_ic (pc := 16) D rfl fun D =>
        j_zret D rt_491 (gy (by decide))) (fun q D =>
        j_ic (pc := 12) D rfl fun D =>
        j_goto (pc := 13) D rfl <|
        have D : fk_D 491 [(17, none, .ireturn, 1, 0, 0, 0)] := fq_of2 cd_491 ow_491 cl_491 rfl (pc := 17) (by decide +kernel)
        j_zret D rt_491 (gy (by decide))))
/-! 492 StatuteHouseModel.keyAt(II)I -/
theorem cd_492 : fi_code 492 = prog_69_method_23_code := rfl
theorem hx_492 : ∀ pc, fi_hat 492 pc = none := fun pc => by unfold fi_hat; rw [show fi_hh 492 = [] from rfl]; rfl
theorem rt_492 : fi_ret 492 = some .int := rfl
theorem nl_492 : fi_nl 492 = 8 := rfl
theorem ow_492 : fi_ow 492 = 29 := rfl
theorem cl_492 : fj_cutT.getD 492 [] = [(8, [0, 1, 2, 3, 4, 5]), (49, [0, 1, 2, 3, 4, 5]), (54, [0, 1, 2, 3, 4, 5, 6, 7]), (92, [0, 1, 2, 3, 4, 5, 7]), (100, [0, 1, 2, 3, 5, 6]), (116, [0, 1, 2, 3, 4, 5])] := rfl
theorem cut_492_8 : fj_cut 492 8 = some [0, 1, 2, 3, 4, 5] := by decide +kernel
noncomputable def c_492_8 (d : Nat) (x1 x2 x3 x4 x5 : Int) (h : fi_H) : fk_R := gG (fj_run d) 492 8 [(0, (4, 602)), (1, (0, x1)), (2, (0, x2)), (3, (0, x3)), (4, (0, x4)), (5, (0, x5))] [] h
theorem cut_492_49 : fj_cut 492 49 = some [0, 1, 2, 3, 4, 5] := by decide +kernel
noncomputable def c_492_49 (d : Nat) (x1 x2 x3 x4 x5 s0 : Int) (h : fi_H) : fk_R := gG (fj_run d) 492 49 [(0, (4, 602)), (1, (0, x1)), (2, (0, x2)), (3, (0, x3)), (4, (0, x4)), (5, (0, x5))] [(0, s0)] h
theorem cut_492_54 : fj_cut 492 54 = some [0, 1, 2, 3, 4, 5, 6, 7] := by decide +kernel
noncomputable def c_492_54 (d : Nat) (x1 x2 x3 x4 x5 x6 x7 : Int) (h : fi_H) : fk_R := gG (fj_run d) 492 54 [(0, (4, 602)), (1, (0, x1)), (2, (0, x2)), (3, (0, x3)), (4, (0, x4)), (5, (0, x5)), (6, (0, x6)), (7, (0, x7))] [] h
theorem cut_492_92 : fj_cut 492 92 = some [0, 1, 2, 3, 4, 5, 7] := by decide +kernel
noncomputable def c_492_92 (d : Nat) (x1 x2 x3 x4 x5 x7 s0 : Int) (h : fi_H) : fk_R := gG (fj_run d) 492 92 [(0, (4, 602)), (1, (0, x1)), (2, (0, x2)), (3, (0, x3)), (4, (0, x4)), (5, (0, x5)), (7, (0, x7))] [(0, s0)] h
theorem cut_492_100 : fj_cut 492 100 = some [0, 1, 2, 3, 5, 6] := by decide +kernel
noncomputable def c_492_100 (d : Nat) (x1 x2 x3 x5 x6 : Int) (h : fi_H) : fk_R := gG (fj_run d) 492 100 [(0, (4, 602)), (1, (0, x1)), (2, (0, x2)), (3, (0, x3)), (5, (0, x5)), (6, (0, x6))] [] h
theorem cut_492_116 : fj_cut 492 116 = some [0, 1, 2, 3, 4, 5] := by decide +kernel
noncomputable def c_492_116 (d : Nat) (x1 x2 x3 x4 x5 : Int) (h : fi_H) : fk_R := gG (fj_run d) 492 116 [(0, (4, 602)), (1, (0, x1)), (2, (0, x2)), (3, (0, x3)), (4, (0, x4)), (5, (0, x5))] [] h
theorem e_492_8 (d : Nat) (x1 x2 x3 x4 x5 : Int) {h : fi_H} (H : Shp h) : c_492_8 d x1 x2 x3 x4 x5 h =
  ca_ (fj_run d 18 h [(4, 281)]) 0
    (fun v2 h1 =>
    if x5 < v2 then
      ca_ (fj_run d 20 h1 [(4, 281), (0, x5)]) 0
        (fun v5 h4 =>
        if v5 = 32 then
          if wI (x5 - x4) = x2 then
            c_492_49 d x1 x2 x3 x4 x5 1 h4
          else
            c_492_49 d x1 x2 x3 x4 x5 0 h4
        else
          c_492_116 d x1 x2 x3 x4 x5 h4)
        (fun q6 h4 => tx_ q6 h4)
    else
      some (.inl (some (0, (-1))), h1))
    (fun q3 h1 => tx_ q3 h1) := by
  unfold c_492_8
  exact
    have D : fk_D 492 [(8, some [0, 1, 2, 3, 4, 5], .iload 5, 2, 0, 0, 0), (10, none, .ldc_w 493, 3, 4, 281, 0), (13, none, .invokevirtual 495, 3, 0, 174, 1), (16, none, .if_icmp .ge 106, 3, 122, 0, 0), (19, none, .ldc_w 493, 3, 4, 281, 0), (22, none, .iload 5, 2, 0, 0, 0), (24, none, .invokevirtual 500, 3, 1, 175, 1), (27, none, .bipush 32, 2, 0, 32, 0), (29, none, .if_icmp .eq 6, 3, 35, 0, 0), (32, none, .goto 84, 3, 116, 0, 0)] := fq_of2 cd_492 ow_492 cl_492 rfl (pc := 8) (by decide +kernel)
    j_ild (pc := 8) D rfl rfl rfl fun D =>
    j_ldcw (pc := 10) D rfl fun D =>
    j_iv (pc := 13) (m := 18) (dd := 174) (a := []) (rest := [(0, x5)]) D rfl rfl rfl rfl rfl (by decide) (s0_281 H) (by decide +kernel) (fun v2 h1 e1 D =>
      have T := fj_run_ok _ _ _ _ _ _ H.1 e1
      have H := shp_st H T
      j_ige (pc := 16) D rfl (fun q D =>
        j_ldcw (pc := 19) D rfl fun D =>
        j_ild (pc := 22) D rfl rfl rfl fun D =>
        j_iv (pc := 24) (m := 20) (dd := 175) (a := [(0, x5)]) (rest := []) D rfl rfl rfl rfl rfl (by decide) (s0_281 H) (by decide +kernel) (fun v5 h4 e1 D =>
          have T := fj_run_ok _ _ _ _ _ _ H.1 e1
          have H := shp_st H T
          j_bp (pc := 27) D rfl fun D =>
          j_ieq (pc := 29) D rfl (fun q =>
            have D : fk_D 492 [(35, none, .iload 5, 2, 0, 0, 0), (37, none, .iload 4, 2, 0, 0, 0), (39, none, .isub, 1, 0, 0, 0), (40, none, .iload_n 2, 1, 0, 0, 0), (41, none, .if_icmp .ne 7, 3, 48, 0, 0), (44, none, .iconst 1, 1, 0, 1, 0), (45, none, .goto 4, 3, 49, 0, 0)] := fq_of2 cd_492 ow_492 cl_492 rfl (pc := 35) (by decide +kernel)
            j_ild (pc := 35) D rfl rfl rfl fun D =>
            j_ild (pc := 37) D rfl rfl rfl fun D =>
            j_isub (pc := 39) D rfl fun D =>
            j_ildn (pc := 40) D rfl rfl rfl fun D =>
            j_ine (pc := 41) D rfl (fun q D =>
              j_ic (pc := 44) D rfl fun D =>
              j_goto (pc := 45) D rfl <|
              fk_jump cut_492_49 rfl rfl) (fun q =>
              have D : fk_D 492 [(48, none, .iconst 0, 1, 0, 0, 0)] := fq_of2 cd_492 ow_492 cl_492 rfl (pc := 48) (by decide +kernel)
              j_ic (pc := 48) D rfl fun D =>
              fk_jump cut_492_49 rfl rfl)) (fun q D =>
            j_goto (pc := 32) D rfl <|
            fk_jump cut_492_116 rfl rfl)) (fun q6 h4 e1 =>
          j_tx (hx_492 _))) (fun q =>
        have D : fk_D 492 [(122, none, .iconst (-1), 1, 0, (-1), 0), (123, none, .ireturn, 1, 0, 0, 0)] := fq_of2 cd_492 ow_492 cl_492 rfl (pc := 122) (by decide +kernel)
        j_ic (pc := 122) D rfl fun D =>
        j_iret D rt_492)) (fun q3 h1 e1 =>
      j_tx (hx_492 _))
theorem e_492_49 (d : Nat) (x1 x2 x3 x4 x5 s0 : Int) {h : fi_H} (H : Shp h) : c_492_49 d x1 x2 x3 x4 x5 s0 h =
  c_492_54 d x1 x2 x3 x4 x5 s0 0 h := by
  unfold c_492_49
  exact
    have D : fk_D 492 [(49, some [0, 1, 2, 3, 4, 5], .istore 6, 2, 0, 0, 0), (51, none, .iconst 0, 1, 0, 0, 0), (52, none, .istore 7, 2, 0, 0, 0)] := fq_of2 cd_492 ow_492 cl_492 rfl (pc := 49) (by decide +kernel)
    j_ist (pc := 49) (L' := [(6, (0, s0)), (0, (4, 602)), (1, (0, x1)), (2, (0, x2)), (3, (0, x3)), (4, (0, x4)), (5, (0, x5))]) D rfl nl_492 rfl rfl fun D =>
    j_ic (pc := 51) D rfl fun D =>
    j_ist (pc := 52) (L' := [(7, (0, 0)), (6, (0, s0)), (0, (4, 602)), (1, (0, x1)), (2, (0, x2)), (3, (0, x3)), (4, (0, x4)), (5, (0, x5))]) D rfl nl_492 rfl rfl fun D =>
    fk_jump cut_492_54 rfl rfl
theorem e_492_54 (d : Nat) (x1 x2 x3 x4 x5 x6 x7 : Int) {h : fi_H} (H : Shp h) : c_492_54 d x1 x2 x3 x4 x5 x6 x7 h =
  if x7 < x2 then
    if x6 = 0 then
      c_492_100 d x1 x2 x3 x5 x6 h
    else
      ca_ (fj_run d 20 h [(4, 281), (0, wI (x4 + x7))]) 0
        (fun v2 h1 =>
        ca_ (fj_run d 488 h1 [(4, 602), (0, wI (x1 + x7))]) 0
          (fun v5 h4 =>
          if v2 = v5 then
            c_492_92 d x1 x2 x3 x4 x5 x7 1 h4
          else
            c_492_92 d x1 x2 x3 x4 x5 x7 0 h4)
          (fun q6 h4 => tx_ q6 h4))
        (fun q3 h1 => tx_ q3 h1)
  else
    c_492_100 d x1 x2 x3 x5 x6 h := by
  unfold c_492_54
  exact
    have D : fk_D 492 [(54, some [0, 1, 2, 3, 4, 5, 6, 7], .iload 7, 2, 0, 0, 0), (56, none, .iload_n 2, 1, 0, 0, 0), (57, none, .if_icmp .ge 43, 3, 100, 0, 0), (60, none, .iload 6, 2, 0, 0, 0), (62, none, .ifCond .eq 38, 3, 100, 0, 0), (65, none, .ldc_w 493, 3, 4, 281, 0), (68, none, .iload 4, 2, 0, 0, 0), (70, none, .iload 7, 2, 0, 0, 0), (72, none, .iadd, 1, 0, 0, 0), (73, none, .invokevirtual 500, 3, 1, 175, 1), (76, none, .aload_n 0, 1, 0, 0, 0), (77, none, .iload_n 1, 1, 0, 0, 0), (78, none, .iload 7, 2, 0, 0, 0), (80, none, .iadd, 1, 0, 0, 0), (81, none, .invokevirtual 483, 3, 1, 340, 1), (84, none, .if_icmp .ne 7, 3, 91, 0, 0), (87, none, .iconst 1, 1, 0, 1, 0), (88, none, .goto 4, 3, 92, 0, 0)] := fq_of2 cd_492 ow_492 cl_492 rfl (pc := 54) (by decide +kernel)
    j_ild (pc := 54) D rfl rfl rfl fun D =>
    j_ildn (pc := 56) D rfl rfl rfl fun D =>
    j_ige (pc := 57) D rfl (fun q D =>
      j_ild (pc := 60) D rfl rfl rfl fun D =>
      j_ifeq (pc := 62) D rfl (fun q =>
        fk_jump cut_492_100 rfl rfl) (fun q D =>
        j_ldcw (pc := 65) D rfl fun D =>
        j_ild (pc := 68) D rfl rfl rfl fun D =>
        j_ild (pc := 70) D rfl rfl rfl fun D =>
        j_iadd (pc := 72) D rfl fun D =>
        j_iv (pc := 73) (m := 20) (dd := 175) (a := [(0, wI (x4 + x7))]) (rest := []) D rfl rfl rfl rfl rfl (by decide) (s0_281 H) (by decide +kernel) (fun v2 h1 e1 D =>
          have T := fj_run_ok _ _ _ _ _ _ H.1 e1
          have H := shp_st H T
          j_aldn (pc := 76) D rfl rfl rfl fun D =>
          j_ildn (pc := 77) D rfl rfl rfl fun D =>
          j_ild (pc := 78) D rfl rfl rfl fun D =>
          j_iadd (pc := 80) D rfl fun D =>
          j_iv (pc := 81) (m := 488) (dd := 340) (a := [(0, wI (x1 + x7))]) (rest := [(0, v2)]) D rfl rfl rfl rfl rfl (by decide) (s0_602 H) (by decide +kernel) (fun v5 h4 e1 D =>
            have T := fj_run_ok _ _ _ _ _ _ H.1 e1
            have H := shp_st H T
            j_ine (pc := 84) D rfl (fun q D =>
              j_ic (pc := 87) D rfl fun D =>
              j_goto (pc := 88) D rfl <|
              fk_jump cut_492_92 rfl rfl) (fun q =>
              have D : fk_D 492 [(91, none, .iconst 0, 1, 0, 0, 0)] := fq_of2 cd_492 ow_492 cl_492 rfl (pc := 91) (by decide +kernel)
              j_ic (pc := 91) D rfl fun D =>
              fk_jump cut_492_92 rfl rfl)) (fun q6 h4 e1 =>
            j_tx (hx_492 _))) (fun q3 h1 e1 =>
          j_tx (hx_492 _)))) (fun q =>
      fk_jump cut_492_100 rfl rfl)
theorem e_492_92 (d : Nat) (x1 x2 x3 x4 x5 x7 s0 : Int) {h : fi_H} (H : Shp h) : c_492_92 d x1 x2 x3 x4 x5 x7 s0 h =
  c_492_54 d x1 x2 x3 x4 x5 s0 (wI (x7 + 1)) h := by
  unfold c_492_92
  exact
    have D : fk_D 492 [(92, some [0, 1, 2, 3, 4, 5, 7], .istore 6, 2, 0, 0, 0), (94, none, .iinc 7 1, 3, 0, 1, 0), (97, none, .goto (-43), 3, 54, 0, 0)] := fq_of2 cd_492 ow_492 cl_492 rfl (pc := 92) (by decide +kernel)
    j_ist (pc := 92) (L' := [(6, (0, s0)), (0, (4, 602)), (1, (0, x1)), (2, (0, x2)), (3, (0, x3)), (4, (0, x4)), (5, (0, x5)), (7, (0, x7))]) D rfl nl_492 rfl rfl fun D =>
    j_inc (pc := 94) (L' := [(7, (0, wI (x7 + 1))), (6, (0, s0)), (0, (4, 602)), (1, (0, x1)), (2, (0, x2)), (3, (0, x3)), (4, (0, x4)), (5, (0, x5))]) D rfl rfl rfl (by decide +kernel) rfl fun D =>
    j_goto (pc := 97) D rfl <|
    fk_jump cut_492_54 rfl rfl
theorem e_492_100 (d : Nat) (x1 x2 x3 x5 x6 : Int) {h : fi_H} (H : Shp h) : c_492_100 d x1 x2 x3 x5 x6 h =
  if x6 = 0 then
    c_492_116 d x1 x2 (wI (x3 + 1)) (wI (x5 + 1)) x5 h
  else
    some (.inl (some (0, x3)), h) := by
  unfold c_492_100
  exact
    have D : fk_D 492 [(100, some [0, 1, 2, 3, 5, 6], .iload 6, 2, 0, 0, 0), (102, none, .ifCond .eq 5, 3, 107, 0, 0), (105, none, .iload_n 3, 1, 0, 0, 0), (106, none, .ireturn, 1, 0, 0, 0)] := fq_of2 cd_492 ow_492 cl_492 rfl (pc := 100) (by decide +kernel)
    j_ild (pc := 100) D rfl rfl rfl fun D =>
    j_ifeq (pc := 102) D rfl (fun q =>
      have D : fk_D 492 [(107, none, .iinc 3 1, 3, 0, 1, 0), (110, none, .iload 5, 2, 0, 0, 0), (112, none, .iconst 1, 1, 0, 1, 0), (113, none, .iadd, 1, 0, 0, 0), (114, none, .istore 4, 2, 0, 0, 0)] := fq_of2 cd_492 ow_492 cl_492 rfl (pc := 107) (by decide +kernel)
      j_inc (pc := 107) (L' := [(3, (0, wI (x3 + 1))), (0, (4, 602)), (1, (0, x1)), (2, (0, x2)), (5, (0, x5)), (6, (0, x6))]) D rfl rfl rfl (by decide +kernel) rfl fun D =>
      j_ild (pc := 110) D rfl rfl rfl fun D =>
      j_ic (pc := 112) D rfl fun D =>
      j_iadd (pc := 113) D rfl fun D =>
      j_ist (pc := 114) (L' := [(4, (0, wI (x5 + 1))), (3, (0, wI (x3 + 1))), (0, (4, 602)), (1, (0, x1)), (2, (0, x2)), (5, (0, x5)), (6, (0, x6))]) D rfl nl_492 rfl rfl fun D =>
      fk_jump cut_492_116 rfl rfl) (fun q D =>
      j_ildn (pc := 105) D rfl rfl rfl fun D =>
      j_iret D rt_492)
theorem e_492_116 (d : Nat) (x1 x2 x3 x4 x5 : Int) {h : fi_H} (H : Shp h) : c_492_116 d x1 x2 x3 x4 x5 h =
  c_492_8 d x1 x2 x3 x4 (wI (x5 + 1)) h := by
  unfold c_492_116
  exact
    have D : fk_D 492 [(116, some [0, 1, 2, 3, 4, 5], .iinc 5 1, 3, 0, 1, 0), (119, none, .goto (-111), 3, 8, 0, 0)] := fq_of2 cd_492 ow_492 cl_492 rfl (pc := 116) (by decide +kernel)
    j_inc (pc := 116) (L' := [(5, (0, wI (x5 + 1))), (0, (4, 602)), (1, (0, x1)), (2, (0, x2)), (3, (0, x3)), (4, (0, x4))]) D rfl rfl rfl (by decide +kernel) rfl fun D =>
    j_goto (pc := 119) D rfl <|
    fk_jump cut_492_8 rfl rfl
theorem m_492 (d : Nat) (x1 x2 : Int) {h : fi_H} (H : Shp h) : fj_run (d + 1) 492 h [(4, 602), (0, x1), (0, x2)] =
  c_492_8 d x1 x2 0 0 0 h := by
  rw [fj_run_eq d (by decide) h [(4, 602), (0, x1), (0, x2)] (Nat.le_of_ble_eq_true (by rw [nl_492]; rfl))]
  show gG (fj_run d) 492 0 [(0, (4, 602)), (1, (0, x1)), (2, (0, x2))] [] h = _
  exact
    have D : fk_D 492 [(0, none, .iconst 0, 1, 0, 0, 0), (1, none, .istore_n 3, 1, 0, 0, 0), (2, none, .iconst 0, 1, 0, 0, 0), (3, none, .istore 4, 2, 0, 0, 0), (5, none, .iconst 0, 1, 0, 0, 0), (6, none, .istore 5, 2, 0, 0, 0)] := fq_of2 cd_492 ow_492 cl_492 rfl (pc := 0) (by decide +kernel)
    j_ic (pc := 0) D rfl fun D =>
    j_istn (pc := 1) (L' := [(3, (0, 0)), (0, (4, 602)), (1, (0, x1)), (2, (0, x2))]) D rfl nl_492 rfl rfl fun D =>
    j_ic (pc := 2) D rfl fun D =>
    j_ist (pc := 3) (L' := [(4, (0, 0)), (3, (0, 0)), (0, (4, 602)), (1, (0, x1)), (2, (0, x2))]) D rfl nl_492 rfl rfl fun D =>
    j_ic (pc := 5) D rfl fun D =>
    j_ist (pc := 6) (L' := [(5, (0, 0)), (4, (0, 0)), (3, (0, 0)), (0, (4, 602)), (1, (0, x1)), (2, (0, x2))]) D rfl nl_492 rfl rfl fun D =>
    fk_jump cut_492_8 rfl rfl
/-! 493 StatuteHouseModel.letters(II)J -/
theorem cd_493 : fi_code 493 = prog_69_method_24_code := rfl
theorem hx_493 : ∀ pc, fi_hat 493 pc = none := fun pc => by unfold fi_hat; rw [show fi_hh 493 = [] from rfl]; rfl
theorem rt_493 : fi_ret 493 = some .long := rfl
theorem nl_493 : fi_nl 493 = 6 := rfl
theorem ow_493 : fi_ow 493 = 29 := rfl
theorem cl_493 : fj_cutT.getD 493 [] = [(5, [0, 2, 3, 5])] := rfl
theorem cut_493_5 : fj_cut 493 5 = some [0, 2, 3, 5] := by decide +kernel
noncomputable def c_493_5 (d : Nat) (x2 x3 x5 : Int) (h : fi_H) : fk_R := gG (fj_run d) 493 5 [(0, (4, 602)), (2, (0, x2)), (3, (1, x3)), (5, (0, x5))] [] h
theorem e_493_5 (d : Nat) (x2 x3 x5 : Int) {h : fi_H} (H : Shp h) : c_493_5 d x2 x3 x5 h =
  if x5 < x2 then
    ca_ (fj_run d 488 h [(4, 602), (0, x5)]) 0
      (fun v2 h1 =>
      c_493_5 d x2 (lo_ (lsl_ x3 8) (wI v2)) (wI (x5 + 1)) h1)
      (fun q3 h1 => tx_ q3 h1)
  else
    some (.inl (some (1, x3)), h) := by
  unfold c_493_5
  exact
    have D : fk_D 493 [(5, some [0, 2, 3, 5], .iload 5, 2, 0, 0, 0), (7, none, .iload_n 2, 1, 0, 0, 0), (8, none, .if_icmp .ge 22, 3, 30, 0, 0), (11, none, .lload_n 3, 1, 0, 0, 0), (12, none, .bipush 8, 2, 0, 8, 0), (14, none, .lshl, 1, 0, 0, 0), (15, none, .aload_n 0, 1, 0, 0, 0), (16, none, .iload 5, 2, 0, 0, 0), (18, none, .invokevirtual 483, 3, 1, 340, 1), (21, none, .i2l, 1, 0, 0, 0), (22, none, .lor, 1, 0, 0, 0), (23, none, .lstore_n 3, 1, 0, 0, 0), (24, none, .iinc 5 1, 3, 0, 1, 0), (27, none, .goto (-22), 3, 5, 0, 0)] := fq_of2 cd_493 ow_493 cl_493 rfl (pc := 5) (by decide +kernel)
    j_ild (pc := 5) D rfl rfl rfl fun D =>
    j_ildn (pc := 7) D rfl rfl rfl fun D =>
    j_ige (pc := 8) D rfl (fun q D =>
      j_lldn (pc := 11) D rfl rfl rfl fun D =>
      j_bp (pc := 12) D rfl fun D =>
      j_lshl (pc := 14) D rfl fun D =>
      j_aldn (pc := 15) D rfl rfl rfl fun D =>
      j_ild (pc := 16) D rfl rfl rfl fun D =>
      j_iv (pc := 18) (m := 488) (dd := 340) (a := [(0, x5)]) (rest := [(1, lsl_ x3 8)]) D rfl rfl rfl rfl rfl (by decide) (s0_602 H) (by decide +kernel) (fun v2 h1 e1 D =>
        have T := fj_run_ok _ _ _ _ _ _ H.1 e1
        have H := shp_st H T
        j_i2l (pc := 21) D rfl fun D =>
        j_lor (pc := 22) D rfl fun D =>
        j_lstn (pc := 23) (L' := [(3, (1, lo_ (lsl_ x3 8) (wI v2))), (0, (4, 602)), (2, (0, x2)), (5, (0, x5))]) D rfl nl_493 rfl rfl fun D =>
        j_inc (pc := 24) (L' := [(5, (0, wI (x5 + 1))), (3, (1, lo_ (lsl_ x3 8) (wI v2))), (0, (4, 602)), (2, (0, x2))]) D rfl rfl rfl (by decide +kernel) rfl fun D =>
        j_goto (pc := 27) D rfl <|
        fk_jump cut_493_5 rfl rfl) (fun q3 h1 e1 =>
        j_tx (hx_493 _))) (fun q =>
      have D : fk_D 493 [(30, none, .lload_n 3, 1, 0, 0, 0), (31, none, .lreturn, 1, 0, 0, 0)] := fq_of2 cd_493 ow_493 cl_493 rfl (pc := 30) (by decide +kernel)
      j_lldn (pc := 30) D rfl rfl rfl fun D =>
      j_lret D rt_493)
theorem m_493 (d : Nat) (x1 x2 : Int) {h : fi_H} (H : Shp h) : fj_run (d + 1) 493 h [(4, 602), (0, x1), (0, x2)] =
  c_493_5 d x2 0 x1 h := by
  rw [fj_run_eq d (by decide) h [(4, 602), (0, x1), (0, x2)] (Nat.le_of_ble_eq_true (by rw [nl_493]; rfl))]
  show gG (fj_run d) 493 0 [(0, (4, 602)), (1, (0, x1)), (2, (0, x2))] [] h = _
  exact
    have D : fk_D 493 [(0, none, .lconst 0, 1, 0, 0, 0), (1, none, .lstore_n 3, 1, 0, 0, 0), (2, none, .iload_n 1, 1, 0, 0, 0), (3, none, .istore 5, 2, 0, 0, 0)] := fq_of2 cd_493 ow_493 cl_493 rfl (pc := 0) (by decide +kernel)
    j_c0 (pc := 0) (v := (1, 0)) D rfl rfl (by decide +kernel) fun D =>
    j_lstn (pc := 1) (L' := [(3, (1, 0)), (0, (4, 602)), (1, (0, x1)), (2, (0, x2))]) D rfl nl_493 rfl rfl fun D =>
    j_ildn (pc := 2) D rfl rfl rfl fun D =>
    j_ist (pc := 3) (L' := [(5, (0, x1)), (3, (1, 0)), (0, (4, 602)), (1, (0, x1)), (2, (0, x2))]) D rfl nl_493 rfl rfl fun D =>
    fk_jump cut_493_5 rfl rfl
/-! 494 StatuteHouseModel.cutNumber(I)V -/
theorem cd_494 : fi_code 494 = prog_69_method_27_code := rfl
theorem hx_494 : ∀ pc, fi_hat 494 pc = none := fun pc => by unfold fi_hat; rw [show fi_hh 494 = [] from rfl]; rfl
theorem rt_494 : fi_ret 494 = none := rfl
theorem nl_494 : fi_nl 494 = 4 := rfl
theorem ow_494 : fi_ow 494 = 29 := rfl
theorem cl_494 : fj_cutT.getD 494 [] = [(21, [0, 1, 2]), (46, [0, 1, 2]), (106, [0, 1, 2]), (107, [0, 1, 2])] := rfl
theorem cut_494_21 : fj_cut 494 21 = some [0, 1, 2] := by decide +kernel
noncomputable def c_494_21 (d : Nat) (x1 x2 s0 s1 s2 s3 : Int) (h : fi_H) : fk_R := gG (fj_run d) 494 21 [(0, (4, 602)), (1, (0, x1)), (2, (0, x2))] [(0, s3), (0, s2), (4, s1), (4, s0)] h
theorem cut_494_46 : fj_cut 494 46 = some [0, 1, 2] := by decide +kernel
noncomputable def c_494_46 (d : Nat) (x1 x2 s0 s1 : Int) (h : fi_H) : fk_R := gG (fj_run d) 494 46 [(0, (4, 602)), (1, (0, x1)), (2, (0, x2))] [(0, s1), (4, s0)] h
theorem cut_494_106 : fj_cut 494 106 = some [0, 1, 2] := by decide +kernel
noncomputable def c_494_106 (d : Nat) (x1 x2 : Int) (h : fi_H) : fk_R := gG (fj_run d) 494 106 [(0, (4, 602)), (1, (0, x1)), (2, (0, x2))] [] h
theorem cut_494_107 : fj_cut 494 107 = some [0, 1, 2] := by decide +kernel
noncomputable def c_494_107 (d : Nat) (x1 x2 s0 : Int) (h : fi_H) : fk_R := gG (fj_run d) 494 107 [(0, (4, 602)), (1, (0, x1)), (2, (0, x2))] [(0, s0)] h
theorem e_494_21 (d : Nat) (x1 x2 s0 s1 s2 s3 : Int) {h : fi_H} (H : Shp h) : c_494_21 d x1 x2 s0 s1 s2 s3 h =
  dv_ (fi_vt 347 (h 0 s1.toNat 0)) fun m4 => ca_ (fj_run d m4 h [(4, s1), (0, s2), (0, s3)]) 1
    (fun v2 h1 =>
    if h1 0 s0.toNat 0 = 129 then
    if 302 < s0 then
    lt_ (fi_upd h1 399 s0.toNat 0 v2) fun h5 =>
    lt_ (fi_upd h5 397 602 0 (wI (x1 + x2))) fun h7 =>
    if 9 < x2 then
      c_494_46 d x1 x2 602 0 h7
    else
      c_494_46 d x1 x2 602 3 h7
    else none
    else none)
    (fun q3 h1 => tx_ q3 h1) := by
  unfold c_494_21
  exact
    have D : fk_D 494 [(21, some [0, 1, 2], .invokevirtual 547, 3, 2, 347, 2), (24, none, .putfield 550, 3, 399, (-129), 11), (27, none, .aload_n 0, 1, 0, 0, 0), (28, none, .iload_n 1, 1, 0, 0, 0), (29, none, .iload_n 2, 1, 0, 0, 0), (30, none, .iadd, 1, 0, 0, 0), (31, none, .putfield 504, 3, 397, 129, 10), (34, none, .aload_n 0, 1, 0, 0, 0), (35, none, .iload_n 2, 1, 0, 0, 0), (36, none, .bipush 9, 2, 0, 9, 0), (38, none, .if_icmp .le 7, 3, 45, 0, 0), (41, none, .iconst 0, 1, 0, 0, 0), (42, none, .goto 4, 3, 46, 0, 0)] := fq_of2 cd_494 ow_494 cl_494 rfl (pc := 21) (by decide +kernel)
    j_ivu (pc := 21) (dd := 347) (a := [(0, s2), (0, s3)]) (rest := [(4, s0)]) H.2.1 D rfl rfl rfl rfl rfl (fun m4 v2 h1 e1 D =>
      have T := fj_run_ok _ _ _ _ _ _ H.1 e1
      have H := shp_st H T
      j_pfo (pc := 24) D rfl rfl rfl rfl rfl gn gn (gy rfl) fun h5 eh5 S kc6 D =>
      have T := fj_hs_ok H.1 S
      have H := shp_st H T
      j_aldn (pc := 27) D rfl rfl rfl fun D =>
      j_ildn (pc := 28) D rfl rfl rfl fun D =>
      j_ildn (pc := 29) D rfl rfl rfl fun D =>
      j_iadd (pc := 30) D rfl fun D =>
      j_pf (pc := 31) (a := 602) D rfl rfl rfl (s0_602 H) rfl rfl (gy (by decide)) (gy rfl) fun h7 eh7 S D =>
      have T := fj_hs_ok H.1 S
      have H := shp_st H T
      j_aldn (pc := 34) D rfl rfl rfl fun D =>
      j_ildn (pc := 35) D rfl rfl rfl fun D =>
      j_bp (pc := 36) D rfl fun D =>
      j_ile (pc := 38) D rfl (fun q D =>
        j_ic (pc := 41) D rfl fun D =>
        j_goto (pc := 42) D rfl <|
        fk_jump cut_494_46 rfl rfl) (fun q =>
        have D : fk_D 494 [(45, none, .iconst 3, 1, 0, 3, 0)] := fq_of2 cd_494 ow_494 cl_494 rfl (pc := 45) (by decide +kernel)
        j_ic (pc := 45) D rfl fun D =>
        fk_jump cut_494_46 rfl rfl)) (fun m4 q3 h1 e1 =>
      j_tx (hx_494 _))
theorem e_494_46 (d : Nat) (x1 x2 s0 s1 : Int) {h : fi_H} (H : Shp h) : c_494_46 d x1 x2 s0 s1 h =
  if h 0 s0.toNat 0 = 129 then
  if 302 < s0 then
  lt_ (fi_upd h 394 s0.toNat 0 s1) fun h1 =>
  if x2 = 4 then
    ca_ (fj_run d 488 h1 [(4, 602), (0, wI (x1 + 4))]) 0
      (fun v4 h3 =>
      if v4 = 45 then
        ca_ (fj_run d 495 h3 [(4, 602), (0, wI (x1 + 5))]) 0
          (fun v7 h6 =>
          if v7 = 2 then
            ca_ (fj_run d 488 h6 [(4, 602), (0, wI (x1 + 7))]) 0
              (fun v10 h9 =>
              if v10 = 45 then
                ca_ (fj_run d 495 h9 [(4, 602), (0, wI (x1 + 8))]) 0
                  (fun v13 h12 =>
                  if 1 < v13 then
                    c_494_107 d x1 x2 1 h12
                  else
                    c_494_106 d x1 x2 h12)
                  (fun q14 h12 => tx_ q14 h12)
              else
                c_494_106 d x1 x2 h9)
              (fun q11 h9 => tx_ q11 h9)
          else
            c_494_106 d x1 x2 h6)
          (fun q8 h6 => tx_ q8 h6)
      else
        c_494_106 d x1 x2 h3)
      (fun q5 h3 => tx_ q5 h3)
  else
    c_494_106 d x1 x2 h1
  else none
  else none := by
  unfold c_494_46
  exact
    have D : fk_D 494 [(46, some [0, 1, 2], .putfield 513, 3, 394, (-129), 10), (49, none, .iload_n 2, 1, 0, 0, 0), (50, none, .iconst 4, 1, 0, 4, 0), (51, none, .if_icmp .ne 55, 3, 106, 0, 0), (54, none, .aload_n 0, 1, 0, 0, 0), (55, none, .iload_n 1, 1, 0, 0, 0), (56, none, .iconst 4, 1, 0, 4, 0), (57, none, .iadd, 1, 0, 0, 0), (58, none, .invokevirtual 483, 3, 1, 340, 1), (61, none, .bipush 45, 2, 0, 45, 0), (63, none, .if_icmp .ne 43, 3, 106, 0, 0), (66, none, .aload_n 0, 1, 0, 0, 0), (67, none, .iload_n 1, 1, 0, 0, 0), (68, none, .iconst 5, 1, 0, 5, 0), (69, none, .iadd, 1, 0, 0, 0), (70, none, .invokevirtual 544, 3, 1, 346, 1), (73, none, .iconst 2, 1, 0, 2, 0), (74, none, .if_icmp .ne 32, 3, 106, 0, 0), (77, none, .aload_n 0, 1, 0, 0, 0), (78, none, .iload_n 1, 1, 0, 0, 0)] := fq_of2 cd_494 ow_494 cl_494 rfl (pc := 46) (by decide +kernel)
    j_pfo (pc := 46) D rfl rfl rfl rfl rfl gn gn (gy rfl) fun h1 eh1 S kc2 D =>
    have T := fj_hs_ok H.1 S
    have H := shp_st H T
    j_ildn (pc := 49) D rfl rfl rfl fun D =>
    j_ic (pc := 50) D rfl fun D =>
    j_ine (pc := 51) D rfl (fun q D =>
      j_aldn (pc := 54) D rfl rfl rfl fun D =>
      j_ildn (pc := 55) D rfl rfl rfl fun D =>
      j_ic (pc := 56) D rfl fun D =>
      j_iadd (pc := 57) D rfl fun D =>
      j_iv (pc := 58) (m := 488) (dd := 340) (a := [(0, wI (x1 + 4))]) (rest := []) D rfl rfl rfl rfl rfl (by decide) (s0_602 H) (by decide +kernel) (fun v4 h3 e1 D =>
        have T := fj_run_ok _ _ _ _ _ _ H.1 e1
        have H := shp_st H T
        j_bp (pc := 61) D rfl fun D =>
        j_ine (pc := 63) D rfl (fun q D =>
          j_aldn (pc := 66) D rfl rfl rfl fun D =>
          j_ildn (pc := 67) D rfl rfl rfl fun D =>
          j_ic (pc := 68) D rfl fun D =>
          j_iadd (pc := 69) D rfl fun D =>
          j_iv (pc := 70) (m := 495) (dd := 346) (a := [(0, wI (x1 + 5))]) (rest := []) D rfl rfl rfl rfl rfl (by decide) (s0_602 H) (by decide +kernel) (fun v7 h6 e1 D =>
            have T := fj_run_ok _ _ _ _ _ _ H.1 e1
            have H := shp_st H T
            j_ic (pc := 73) D rfl fun D =>
            j_ine (pc := 74) D rfl (fun q D =>
              j_aldn (pc := 77) D rfl rfl rfl fun D =>
              j_ildn (pc := 78) D rfl rfl rfl fun D =>
              have D : fk_D 494 [(79, none, .bipush 7, 2, 0, 7, 0), (81, none, .iadd, 1, 0, 0, 0), (82, none, .invokevirtual 483, 3, 1, 340, 1), (85, none, .bipush 45, 2, 0, 45, 0), (87, none, .if_icmp .ne 19, 3, 106, 0, 0), (90, none, .aload_n 0, 1, 0, 0, 0), (91, none, .iload_n 1, 1, 0, 0, 0), (92, none, .bipush 8, 2, 0, 8, 0), (94, none, .iadd, 1, 0, 0, 0), (95, none, .invokevirtual 544, 3, 1, 346, 1), (98, none, .iconst 1, 1, 0, 1, 0), (99, none, .if_icmp .le 7, 3, 106, 0, 0), (102, none, .iconst 1, 1, 0, 1, 0), (103, none, .goto 4, 3, 107, 0, 0)] := fq_of2 cd_494 ow_494 cl_494 rfl (pc := 79) (by decide +kernel)
              j_bp (pc := 79) D rfl fun D =>
              j_iadd (pc := 81) D rfl fun D =>
              j_iv (pc := 82) (m := 488) (dd := 340) (a := [(0, wI (x1 + 7))]) (rest := []) D rfl rfl rfl rfl rfl (by decide) (s0_602 H) (by decide +kernel) (fun v10 h9 e1 D =>
                have T := fj_run_ok _ _ _ _ _ _ H.1 e1
                have H := shp_st H T
                j_bp (pc := 85) D rfl fun D =>
                j_ine (pc := 87) D rfl (fun q D =>
                  j_aldn (pc := 90) D rfl rfl rfl fun D =>
                  j_ildn (pc := 91) D rfl rfl rfl fun D =>
                  j_bp (pc := 92) D rfl fun D =>
                  j_iadd (pc := 94) D rfl fun D =>
                  j_iv (pc := 95) (m := 495) (dd := 346) (a := [(0, wI (x1 + 8))]) (rest := []) D rfl rfl rfl rfl rfl (by decide) (s0_602 H) (by decide +kernel) (fun v13 h12 e1 D =>
                    have T := fj_run_ok _ _ _ _ _ _ H.1 e1
                    have H := shp_st H T
                    j_ic (pc := 98) D rfl fun D =>
                    j_ile (pc := 99) D rfl (fun q D =>
                      j_ic (pc := 102) D rfl fun D =>
                      j_goto (pc := 103) D rfl <|
                      fk_jump cut_494_107 rfl rfl) (fun q =>
                      fk_jump cut_494_106 rfl rfl)) (fun q14 h12 e1 =>
                    j_tx (hx_494 _))) (fun q =>
                  fk_jump cut_494_106 rfl rfl)) (fun q11 h9 e1 =>
                j_tx (hx_494 _))) (fun q =>
              fk_jump cut_494_106 rfl rfl)) (fun q8 h6 e1 =>
            j_tx (hx_494 _))) (fun q =>
          fk_jump cut_494_106 rfl rfl)) (fun q5 h3 e1 =>
        j_tx (hx_494 _))) (fun q =>
      fk_jump cut_494_106 rfl rfl)
theorem e_494_106 (d : Nat) (x1 x2 : Int) {h : fi_H} (H : Shp h) : c_494_106 d x1 x2 h =
  c_494_107 d x1 x2 0 h := by
  unfold c_494_106
  exact
    have D : fk_D 494 [(106, some [0, 1, 2], .iconst 0, 1, 0, 0, 0)] := fq_of2 cd_494 ow_494 cl_494 rfl (pc := 106) (by decide +kernel)
    j_ic (pc := 106) D rfl fun D =>
    fk_jump cut_494_107 rfl rfl
theorem e_494_107 (d : Nat) (x1 x2 s0 : Int) {h : fi_H} (H : Shp h) : c_494_107 d x1 x2 s0 h =
  if s0 = 0 then
    if x2 < 10 then
      ca_ (fj_run d 488 h [(4, 602), (0, wI (x1 + x2))]) 0
        (fun v2 h1 =>
        if v2 = 46 then
          ca_ (fj_run d 495 h1 [(4, 602), (0, wI ((wI (x1 + x2)) + 1))]) 0
            (fun v5 h4 =>
            if 1 < v5 then
              lt_ (fi_upd h4 394 602 0 4) fun h7 =>
              ca_ (fj_run d 496 h7 [(4, 602), (0, wI ((wI (x1 + x2)) + 1)), (0, 2)]) 1
                (fun v9 h8 =>
                lt_ (fi_upd h8 399 602 0 (wJ ((wJ (100 * (h7 399 602 0))) + v9))) fun h11 =>
                lt_ (fi_upd h11 397 602 0 (wI ((wI (x1 + x2)) + 3))) fun h12 =>
                some (.inl none, h12))
                (fun q10 h8 => tx_ q10 h8)
            else
              some (.inl none, h4))
            (fun q6 h4 => tx_ q6 h4)
        else
          some (.inl none, h1))
        (fun q3 h1 => tx_ q3 h1)
    else
      some (.inl none, h)
  else
    lt_ (fi_upd h 394 602 0 5) fun h13 =>
    ca_ (fj_run d 496 h13 [(4, 602), (0, wI (x1 + 5)), (0, 2)]) 1
      (fun v15 h14 =>
      ca_ (fj_run d 496 h14 [(4, 602), (0, wI (x1 + 8)), (0, 2)]) 1
        (fun v18 h17 =>
        lt_ (fi_upd h17 399 602 0 (wJ ((wJ ((wJ (10000 * (h13 399 602 0))) + (wJ (100 * v15)))) + v18))) fun h20 =>
        lt_ (fi_upd h20 397 602 0 (wI (x1 + 10))) fun h21 =>
        some (.inl none, h21))
        (fun q19 h17 => tx_ q19 h17))
      (fun q16 h14 => tx_ q16 h14) := by
  unfold c_494_107
  exact
    have D : fk_D 494 [(107, some [0, 1, 2], .istore_n 3, 1, 0, 0, 0), (108, none, .iload_n 3, 1, 0, 0, 0), (109, none, .ifCond .eq 54, 3, 163, 0, 0), (112, none, .aload_n 0, 1, 0, 0, 0), (113, none, .iconst 5, 1, 0, 5, 0), (114, none, .putfield 513, 3, 394, 129, 10), (117, none, .aload_n 0, 1, 0, 0, 0), (118, none, .ldc2_w 553, 3, 1, 10000, 0), (121, none, .aload_n 0, 1, 0, 0, 0), (122, none, .getfield 550, 3, 399, 129, 11), (125, none, .lmul, 1, 0, 0, 0), (126, none, .ldc2_w 555, 3, 1, 100, 0), (129, none, .aload_n 0, 1, 0, 0, 0), (130, none, .iload_n 1, 1, 0, 0, 0), (131, none, .iconst 5, 1, 0, 5, 0), (132, none, .iadd, 1, 0, 0, 0), (133, none, .iconst 2, 1, 0, 2, 0), (134, none, .invokevirtual 547, 3, 2, 347, 2), (137, none, .lmul, 1, 0, 0, 0), (138, none, .ladd, 1, 0, 0, 0)] := fq_of2 cd_494 ow_494 cl_494 rfl (pc := 107) (by decide +kernel)
    j_istn (pc := 107) (L' := [(3, (0, s0)), (0, (4, 602)), (1, (0, x1)), (2, (0, x2))]) D rfl nl_494 rfl rfl fun D =>
    j_ildn (pc := 108) D rfl rfl rfl fun D =>
    j_ifeq (pc := 109) D rfl (fun q =>
      have D : fk_D 494 [(163, none, .iload_n 2, 1, 0, 0, 0), (164, none, .bipush 10, 2, 0, 10, 0), (166, none, .if_icmp .ge 65, 3, 231, 0, 0), (169, none, .aload_n 0, 1, 0, 0, 0), (170, none, .iload_n 1, 1, 0, 0, 0), (171, none, .iload_n 2, 1, 0, 0, 0), (172, none, .iadd, 1, 0, 0, 0), (173, none, .invokevirtual 483, 3, 1, 340, 1), (176, none, .bipush 46, 2, 0, 46, 0), (178, none, .if_icmp .ne 53, 3, 231, 0, 0), (181, none, .aload_n 0, 1, 0, 0, 0), (182, none, .iload_n 1, 1, 0, 0, 0), (183, none, .iload_n 2, 1, 0, 0, 0), (184, none, .iadd, 1, 0, 0, 0), (185, none, .iconst 1, 1, 0, 1, 0), (186, none, .iadd, 1, 0, 0, 0), (187, none, .invokevirtual 544, 3, 1, 346, 1), (190, none, .iconst 1, 1, 0, 1, 0), (191, none, .if_icmp .le 40, 3, 231, 0, 0), (194, none, .aload_n 0, 1, 0, 0, 0)] := fq_of2 cd_494 ow_494 cl_494 rfl (pc := 163) (by decide +kernel)
      j_ildn (pc := 163) D rfl rfl rfl fun D =>
      j_bp (pc := 164) D rfl fun D =>
      j_ige (pc := 166) D rfl (fun q D =>
        j_aldn (pc := 169) D rfl rfl rfl fun D =>
        j_ildn (pc := 170) D rfl rfl rfl fun D =>
        j_ildn (pc := 171) D rfl rfl rfl fun D =>
        j_iadd (pc := 172) D rfl fun D =>
        j_iv (pc := 173) (m := 488) (dd := 340) (a := [(0, wI (x1 + x2))]) (rest := []) D rfl rfl rfl rfl rfl (by decide) (s0_602 H) (by decide +kernel) (fun v2 h1 e1 D =>
          have T := fj_run_ok _ _ _ _ _ _ H.1 e1
          have H := shp_st H T
          j_bp (pc := 176) D rfl fun D =>
          j_ine (pc := 178) D rfl (fun q D =>
            j_aldn (pc := 181) D rfl rfl rfl fun D =>
            j_ildn (pc := 182) D rfl rfl rfl fun D =>
            j_ildn (pc := 183) D rfl rfl rfl fun D =>
            j_iadd (pc := 184) D rfl fun D =>
            j_ic (pc := 185) D rfl fun D =>
            j_iadd (pc := 186) D rfl fun D =>
            j_iv (pc := 187) (m := 495) (dd := 346) (a := [(0, wI ((wI (x1 + x2)) + 1))]) (rest := []) D rfl rfl rfl rfl rfl (by decide) (s0_602 H) (by decide +kernel) (fun v5 h4 e1 D =>
              have T := fj_run_ok _ _ _ _ _ _ H.1 e1
              have H := shp_st H T
              j_ic (pc := 190) D rfl fun D =>
              j_ile (pc := 191) D rfl (fun q D =>
                j_aldn (pc := 194) D rfl rfl rfl fun D =>
                have D : fk_D 494 [(195, none, .iconst 4, 1, 0, 4, 0), (196, none, .putfield 513, 3, 394, 129, 10), (199, none, .aload_n 0, 1, 0, 0, 0), (200, none, .ldc2_w 555, 3, 1, 100, 0), (203, none, .aload_n 0, 1, 0, 0, 0), (204, none, .getfield 550, 3, 399, 129, 11), (207, none, .lmul, 1, 0, 0, 0), (208, none, .aload_n 0, 1, 0, 0, 0), (209, none, .iload_n 1, 1, 0, 0, 0), (210, none, .iload_n 2, 1, 0, 0, 0), (211, none, .iadd, 1, 0, 0, 0), (212, none, .iconst 1, 1, 0, 1, 0), (213, none, .iadd, 1, 0, 0, 0), (214, none, .iconst 2, 1, 0, 2, 0), (215, none, .invokevirtual 547, 3, 2, 347, 2), (218, none, .ladd, 1, 0, 0, 0), (219, none, .putfield 550, 3, 399, 129, 11), (222, none, .aload_n 0, 1, 0, 0, 0), (223, none, .iload_n 1, 1, 0, 0, 0), (224, none, .iload_n 2, 1, 0, 0, 0)] := fq_of2 cd_494 ow_494 cl_494 rfl (pc := 195) (by decide +kernel)
                j_ic (pc := 195) D rfl fun D =>
                j_pf (pc := 196) (a := 602) D rfl rfl rfl (s0_602 H) rfl rfl (gy (by decide)) (gy rfl) fun h7 eh7 S D =>
                have T := fj_hs_ok H.1 S
                have H := shp_st H T
                j_aldn (pc := 199) D rfl rfl rfl fun D =>
                j_ldc2 (pc := 200) D rfl fun D =>
                j_aldn (pc := 203) D rfl rfl rfl fun D =>
                j_gf (pc := 204) (a := 602) D rfl rfl (by decide) rfl (s0_602 H) rfl fun D =>
                j_lmul (pc := 207) D rfl fun D =>
                j_aldn (pc := 208) D rfl rfl rfl fun D =>
                j_ildn (pc := 209) D rfl rfl rfl fun D =>
                j_ildn (pc := 210) D rfl rfl rfl fun D =>
                j_iadd (pc := 211) D rfl fun D =>
                j_ic (pc := 212) D rfl fun D =>
                j_iadd (pc := 213) D rfl fun D =>
                j_ic (pc := 214) D rfl fun D =>
                j_iv (pc := 215) (m := 496) (dd := 347) (a := [(0, wI ((wI (x1 + x2)) + 1)), (0, 2)]) (rest := [(1, wJ (100 * (h7 399 602 0))), (4, 602)]) D rfl rfl rfl rfl rfl (by decide) (s0_602 H) (by decide +kernel) (fun v9 h8 e1 D =>
                  have T := fj_run_ok _ _ _ _ _ _ H.1 e1
                  have H := shp_st H T
                  j_ladd (pc := 218) D rfl fun D =>
                  j_pf (pc := 219) (a := 602) D rfl rfl rfl (s0_602 H) rfl rfl (gy (by decide)) (gy rfl) fun h11 eh11 S D =>
                  have T := fj_hs_ok H.1 S
                  have H := shp_st H T
                  j_aldn (pc := 222) D rfl rfl rfl fun D =>
                  j_ildn (pc := 223) D rfl rfl rfl fun D =>
                  j_ildn (pc := 224) D rfl rfl rfl fun D =>
                  have D : fk_D 494 [(225, none, .iadd, 1, 0, 0, 0), (226, none, .iconst 3, 1, 0, 3, 0), (227, none, .iadd, 1, 0, 0, 0), (228, none, .putfield 504, 3, 397, 129, 10), (231, none, .return_, 1, 0, 0, 0)] := fq_of2 cd_494 ow_494 cl_494 rfl (pc := 225) (by decide +kernel)
                  j_iadd (pc := 225) D rfl fun D =>
                  j_ic (pc := 226) D rfl fun D =>
                  j_iadd (pc := 227) D rfl fun D =>
                  j_pf (pc := 228) (a := 602) D rfl rfl rfl (s0_602 H) rfl rfl (gy (by decide)) (gy rfl) fun h12 eh12 S D =>
                  have T := fj_hs_ok H.1 S
                  have H := shp_st H T
                  j_vret D rt_494) (fun q10 h8 e1 =>
                  j_tx (hx_494 _))) (fun q =>
                have D : fk_D 494 [(231, none, .return_, 1, 0, 0, 0)] := fq_of2 cd_494 ow_494 cl_494 rfl (pc := 231) (by decide +kernel)
                j_vret D rt_494)) (fun q6 h4 e1 =>
              j_tx (hx_494 _))) (fun q =>
            have D : fk_D 494 [(231, none, .return_, 1, 0, 0, 0)] := fq_of2 cd_494 ow_494 cl_494 rfl (pc := 231) (by decide +kernel)
            j_vret D rt_494)) (fun q3 h1 e1 =>
          j_tx (hx_494 _))) (fun q =>
        have D : fk_D 494 [(231, none, .return_, 1, 0, 0, 0)] := fq_of2 cd_494 ow_494 cl_494 rfl (pc := 231) (by decide +kernel)
        j_vret D rt_494)) (fun q D =>
      j_aldn (pc := 112) D rfl rfl rfl fun D =>
      j_ic (pc := 113) D rfl fun D =>
      j_pf (pc := 114) (a := 602) D rfl rfl rfl (s0_602 H) rfl rfl (gy (by decide)) (gy rfl) fun h13 eh13 S D =>
      have T := fj_hs_ok H.1 S
      have H := shp_st H T
      j_aldn (pc := 117) D rfl rfl rfl fun D =>
      j_ldc2 (pc := 118) D rfl fun D =>
      j_aldn (pc := 121) D rfl rfl rfl fun D =>
      j_gf (pc := 122) (a := 602) D rfl rfl (by decide) rfl (s0_602 H) rfl fun D =>
      j_lmul (pc := 125) D rfl fun D =>
      j_ldc2 (pc := 126) D rfl fun D =>
      j_aldn (pc := 129) D rfl rfl rfl fun D =>
      j_ildn (pc := 130) D rfl rfl rfl fun D =>
      j_ic (pc := 131) D rfl fun D =>
      j_iadd (pc := 132) D rfl fun D =>
      j_ic (pc := 133) D rfl fun D =>
      j_iv (pc := 134) (m := 496) (dd := 347) (a := [(0, wI (x1 + 5)), (0, 2)]) (rest := [(1, 100), (1, wJ (10000 * (h13 399 602 0))), (4, 602)]) D rfl rfl rfl rfl rfl (by decide) (s0_602 H) (by decide +kernel) (fun v15 h14 e1 D =>
        have T := fj_run_ok _ _ _ _ _ _ H.1 e1
        have H := shp_st H T
        j_lmul (pc := 137) D rfl fun D =>
        j_ladd (pc := 138) D rfl fun D =>
        have D : fk_D 494 [(139, none, .aload_n 0, 1, 0, 0, 0), (140, none, .iload_n 1, 1, 0, 0, 0), (141, none, .bipush 8, 2, 0, 8, 0), (143, none, .iadd, 1, 0, 0, 0), (144, none, .iconst 2, 1, 0, 2, 0), (145, none, .invokevirtual 547, 3, 2, 347, 2), (148, none, .ladd, 1, 0, 0, 0), (149, none, .putfield 550, 3, 399, 129, 11), (152, none, .aload_n 0, 1, 0, 0, 0), (153, none, .iload_n 1, 1, 0, 0, 0), (154, none, .bipush 10, 2, 0, 10, 0), (156, none, .iadd, 1, 0, 0, 0), (157, none, .putfield 504, 3, 397, 129, 10), (160, none, .goto 71, 3, 231, 0, 0)] := fq_of2 cd_494 ow_494 cl_494 rfl (pc := 139) (by decide +kernel)
        j_aldn (pc := 139) D rfl rfl rfl fun D =>
        j_ildn (pc := 140) D rfl rfl rfl fun D =>
        j_bp (pc := 141) D rfl fun D =>
        j_iadd (pc := 143) D rfl fun D =>
        j_ic (pc := 144) D rfl fun D =>
        j_iv (pc := 145) (m := 496) (dd := 347) (a := [(0, wI (x1 + 8)), (0, 2)]) (rest := [(1, wJ ((wJ (10000 * (h13 399 602 0))) + (wJ (100 * v15)))), (4, 602)]) D rfl rfl rfl rfl rfl (by decide) (s0_602 H) (by decide +kernel) (fun v18 h17 e1 D =>
          have T := fj_run_ok _ _ _ _ _ _ H.1 e1
          have H := shp_st H T
          j_ladd (pc := 148) D rfl fun D =>
          j_pf (pc := 149) (a := 602) D rfl rfl rfl (s0_602 H) rfl rfl (gy (by decide)) (gy rfl) fun h20 eh20 S D =>
          have T := fj_hs_ok H.1 S
          have H := shp_st H T
          j_aldn (pc := 152) D rfl rfl rfl fun D =>
          j_ildn (pc := 153) D rfl rfl rfl fun D =>
          j_bp (pc := 154) D rfl fun D =>
          j_iadd (pc := 156) D rfl fun D =>
          j_pf (pc := 157) (a := 602) D rfl rfl rfl (s0_602 H) rfl rfl (gy (by decide)) (gy rfl) fun h21 eh21 S D =>
          have T := fj_hs_ok H.1 S
          have H := shp_st H T
          j_goto (pc := 160) D rfl <|
          have D : fk_D 494 [(231, none, .return_, 1, 0, 0, 0)] := fq_of2 cd_494 ow_494 cl_494 rfl (pc := 231) (by decide +kernel)
          j_vret D rt_494) (fun q19 h17 e1 =>
          j_tx (hx_494 _))) (fun q16 h14 e1 =>
        j_tx (hx_494 _)))
theorem m_494 (d : Nat) (x1 : Int) {h : fi_H} (H : Shp h) : fj_run (d + 1) 494 h [(4, 602), (0, x1)] =
  ca_ (fj_run d 495 h [(4, 602), (0, x1)]) 0
    (fun v2 h1 =>
    if v2 < 10 then
      c_494_21 d x1 v2 602 602 x1 v2 h1
    else
      c_494_21 d x1 v2 602 602 x1 9 h1)
    (fun q3 h1 => tx_ q3 h1) := by
  rw [fj_run_eq d (by decide) h [(4, 602), (0, x1)] (Nat.le_of_ble_eq_true (by rw [nl_494]; rfl))]
  show gG (fj_run d) 494 0 [(0, (4, 602)), (1, (0, x1))] [] h = _
  exact
    have D : fk_D 494 [(0, none, .aload_n 0, 1, 0, 0, 0), (1, none, .iload_n 1, 1, 0, 0, 0), (2, none, .invokevirtual 544, 3, 1, 346, 1), (5, none, .istore_n 2, 1, 0, 0, 0), (6, none, .aload_n 0, 1, 0, 0, 0), (7, none, .aload_n 0, 1, 0, 0, 0), (8, none, .iload_n 1, 1, 0, 0, 0), (9, none, .iload_n 2, 1, 0, 0, 0), (10, none, .bipush 10, 2, 0, 10, 0), (12, none, .if_icmp .ge 7, 3, 19, 0, 0), (15, none, .iload_n 2, 1, 0, 0, 0), (16, none, .goto 5, 3, 21, 0, 0)] := fq_of2 cd_494 ow_494 cl_494 rfl (pc := 0) (by decide +kernel)
    j_aldn (pc := 0) D rfl rfl rfl fun D =>
    j_ildn (pc := 1) D rfl rfl rfl fun D =>
    j_iv (pc := 2) (m := 495) (dd := 346) (a := [(0, x1)]) (rest := []) D rfl rfl rfl rfl rfl (by decide) (s0_602 H) (by decide +kernel) (fun v2 h1 e1 D =>
      have T := fj_run_ok _ _ _ _ _ _ H.1 e1
      have H := shp_st H T
      j_istn (pc := 5) (L' := [(2, (0, v2)), (0, (4, 602)), (1, (0, x1))]) D rfl nl_494 rfl rfl fun D =>
      j_aldn (pc := 6) D rfl rfl rfl fun D =>
      j_aldn (pc := 7) D rfl rfl rfl fun D =>
      j_ildn (pc := 8) D rfl rfl rfl fun D =>
      j_ildn (pc := 9) D rfl rfl rfl fun D =>
      j_bp (pc := 10) D rfl fun D =>
      j_ige (pc := 12) D rfl (fun q D =>
        j_ildn (pc := 15) D rfl rfl rfl fun D =>
        j_goto (pc := 16) D rfl <|
        fk_jump cut_494_21 rfl rfl) (fun q =>
        have D : fk_D 494 [(19, none, .bipush 9, 2, 0, 9, 0)] := fq_of2 cd_494 ow_494 cl_494 rfl (pc := 19) (by decide +kernel)
        j_bp (pc := 19) D rfl fun D =>
        fk_jump cut_494_21 rfl rfl)) (fun q3 h1 e1 =>
      j_tx (hx_494 _))
/-! 495 StatuteHouseModel.digits(I)I -/
theorem cd_495 : fi_code 495 = prog_69_method_21_code := rfl
theorem hx_495 : ∀ pc, fi_hat 495 pc = none := fun pc => by unfold fi_hat; rw [show fi_hh 495 = [] from rfl]; rfl
theorem rt_495 : fi_ret 495 = some .int := rfl
theorem nl_495 : fi_nl 495 = 3 := rfl
theorem ow_495 : fi_ow 495 = 29 := rfl
theorem cl_495 : fj_cutT.getD 495 [] = [(2, [0, 1, 2])] := rfl
theorem cut_495_2 : fj_cut 495 2 = some [0, 1, 2] := by decide +kernel
noncomputable def c_495_2 (d : Nat) (x1 x2 : Int) (h : fi_H) : fk_R := gG (fj_run d) 495 2 [(0, (4, 602)), (1, (0, x1)), (2, (0, x2))] [] h
theorem e_495_2 (d : Nat) (x1 x2 : Int) {h : fi_H} (H : Shp h) : c_495_2 d x1 x2 h =
  ca_ (fj_run d 488 h [(4, 602), (0, wI (x1 + x2))]) 0
    (fun v2 h1 =>
    ca_ (fj_run d 491 h1 [(0, v2)]) 0
      (fun v5 h4 =>
      if v5 = 0 then
        some (.inl (some (0, x2)), h4)
      else
        c_495_2 d x1 (wI (x2 + 1)) h4)
      (fun q6 h4 => tx_ q6 h4))
    (fun q3 h1 => tx_ q3 h1) := by
  unfold c_495_2
  exact
    have D : fk_D 495 [(2, some [0, 1, 2], .aload_n 0, 1, 0, 0, 0), (3, none, .iload_n 1, 1, 0, 0, 0), (4, none, .iload_n 2, 1, 0, 0, 0), (5, none, .iadd, 1, 0, 0, 0), (6, none, .invokevirtual 483, 3, 1, 340, 1), (9, none, .invokestatic 486, 3, 1, 491, 1), (12, none, .ifCond .eq 9, 3, 21, 0, 0), (15, none, .iinc 2 1, 3, 0, 1, 0), (18, none, .goto (-16), 3, 2, 0, 0)] := fq_of2 cd_495 ow_495 cl_495 rfl (pc := 2) (by decide +kernel)
    j_aldn (pc := 2) D rfl rfl rfl fun D =>
    j_ildn (pc := 3) D rfl rfl rfl fun D =>
    j_ildn (pc := 4) D rfl rfl rfl fun D =>
    j_iadd (pc := 5) D rfl fun D =>
    j_iv (pc := 6) (m := 488) (dd := 340) (a := [(0, wI (x1 + x2))]) (rest := []) D rfl rfl rfl rfl rfl (by decide) (s0_602 H) (by decide +kernel) (fun v2 h1 e1 D =>
      have T := fj_run_ok _ _ _ _ _ _ H.1 e1
      have H := shp_st H T
      j_is (pc := 9) (m := 491) (a := [(0, v2)]) (rest := []) D rfl rfl rfl rfl (fun v5 h4 e1 D =>
        have T := fj_run_ok _ _ _ _ _ _ H.1 e1
        have H := shp_st H T
        j_ifeq (pc := 12) D rfl (fun q =>
          have D : fk_D 495 [(21, none, .iload_n 2, 1, 0, 0, 0), (22, none, .ireturn, 1, 0, 0, 0)] := fq_of2 cd_495 ow_495 cl_495 rfl (pc := 21) (by decide +kernel)
          j_ildn (pc := 21) D rfl rfl rfl fun D =>
          j_iret D rt_495) (fun q D =>
          j_inc (pc := 15) (L' := [(2, (0, wI (x2 + 1))), (0, (4, 602)), (1, (0, x1))]) D rfl rfl rfl (by decide +kernel) rfl fun D =>
          j_goto (pc := 18) D rfl <|
          fk_jump cut_495_2 rfl rfl)) (fun q6 h4 e1 =>
        j_tx (hx_495 _))) (fun q3 h1 e1 =>
      j_tx (hx_495 _))
theorem m_495 (d : Nat) (x1 : Int) {h : fi_H} (H : Shp h) : fj_run (d + 1) 495 h [(4, 602), (0, x1)] =
  c_495_2 d x1 0 h := by
  rw [fj_run_eq d (by decide) h [(4, 602), (0, x1)] (Nat.le_of_ble_eq_true (by rw [nl_495]; rfl))]
  show gG (fj_run d) 495 0 [(0, (4, 602)), (1, (0, x1))] [] h = _
  exact
    have D : fk_D 495 [(0, none, .iconst 0, 1, 0, 0, 0), (1, none, .istore_n 2, 1, 0, 0, 0)] := fq_of2 cd_495 ow_495 cl_495 rfl (pc := 0) (by decide +kernel)
    j_ic (pc := 0) D rfl fun D =>
    j_istn (pc := 1) (L' := [(2, (0, 0)), (0, (4, 602)), (1, (0, x1))]) D rfl nl_495 rfl rfl fun D =>
    fk_jump cut_495_2 rfl rfl
/-! 496 StatuteHouseModel.figures(II)J -/
theorem cd_496 : fi_code 496 = prog_69_method_22_code := rfl
theorem hx_496 : ∀ pc, fi_hat 496 pc = none := fun pc => by unfold fi_hat; rw [show fi_hh 496 = [] from rfl]; rfl
theorem rt_496 : fi_ret 496 = some .long := rfl
theorem nl_496 : fi_nl 496 = 6 := rfl
theorem ow_496 : fi_ow 496 = 29 := rfl
theorem cl_496 : fj_cutT.getD 496 [] = [(5, [0, 1, 2, 3, 5])] := rfl
theorem cut_496_5 : fj_cut 496 5 = some [0, 1, 2, 3, 5] := by decide +kernel
noncomputable def c_496_5 (d : Nat) (x1 x2 x3 x5 : Int) (h : fi_H) : fk_R := gG (fj_run d) 496 5 [(0, (4, 602)), (1, (0, x1)), (2, (0, x2)), (3, (1, x3)), (5, (0, x5))] [] h
theorem e_496_5 (d : Nat) (x1 x2 x3 x5 : Int) {h : fi_H} (H : Shp h) : c_496_5 d x1 x2 x3 x5 h =
  if x5 < x2 then
    ca_ (fj_run d 488 h [(4, 602), (0, wI (x1 + x5))]) 0
      (fun v2 h1 =>
      c_496_5 d x1 x2 (wJ ((wJ ((wJ (10 * x3)) + (wI v2))) - 48)) (wI (x5 + 1)) h1)
      (fun q3 h1 => tx_ q3 h1)
  else
    some (.inl (some (1, x3)), h) := by
  unfold c_496_5
  exact
    have D : fk_D 496 [(5, some [0, 1, 2, 3, 5], .iload 5, 2, 0, 0, 0), (7, none, .iload_n 2, 1, 0, 0, 0), (8, none, .if_icmp .ge 29, 3, 37, 0, 0), (11, none, .ldc2_w 489, 3, 1, 10, 0), (14, none, .lload_n 3, 1, 0, 0, 0), (15, none, .lmul, 1, 0, 0, 0), (16, none, .aload_n 0, 1, 0, 0, 0), (17, none, .iload_n 1, 1, 0, 0, 0), (18, none, .iload 5, 2, 0, 0, 0), (20, none, .iadd, 1, 0, 0, 0), (21, none, .invokevirtual 483, 3, 1, 340, 1), (24, none, .i2l, 1, 0, 0, 0), (25, none, .ladd, 1, 0, 0, 0), (26, none, .ldc2_w 491, 3, 1, 48, 0), (29, none, .lsub, 1, 0, 0, 0), (30, none, .lstore_n 3, 1, 0, 0, 0), (31, none, .iinc 5 1, 3, 0, 1, 0), (34, none, .goto (-29), 3, 5, 0, 0)] := fq_of2 cd_496 ow_496 cl_496 rfl (pc := 5) (by decide +kernel)
    j_ild (pc := 5) D rfl rfl rfl fun D =>
    j_ildn (pc := 7) D rfl rfl rfl fun D =>
    j_ige (pc := 8) D rfl (fun q D =>
      j_ldc2 (pc := 11) D rfl fun D =>
      j_lldn (pc := 14) D rfl rfl rfl fun D =>
      j_lmul (pc := 15) D rfl fun D =>
      j_aldn (pc := 16) D rfl rfl rfl fun D =>
      j_ildn (pc := 17) D rfl rfl rfl fun D =>
      j_ild (pc := 18) D rfl rfl rfl fun D =>
      j_iadd (pc := 20) D rfl fun D =>
      j_iv (pc := 21) (m := 488) (dd := 340) (a := [(0, wI (x1 + x5))]) (rest := [(1, wJ (10 * x3))]) D rfl rfl rfl rfl rfl (by decide) (s0_602 H) (by decide +kernel) (fun v2 h1 e1 D =>
        have T := fj_run_ok _ _ _ _ _ _ H.1 e1
        have H := shp_st H T
        j_i2l (pc := 24) D rfl fun D =>
        j_ladd (pc := 25) D rfl fun D =>
        j_ldc2 (pc := 26) D rfl fun D =>
        j_lsub (pc := 29) D rfl fun D =>
        j_lstn (pc := 30) (L' := [(3, (1, wJ ((wJ ((wJ (10 * x3)) + (wI v2))) - 48))), (0, (4, 602)), (1, (0, x1)), (2, (0, x2)), (5, (0, x5))]) D rfl nl_496 rfl rfl fun D =>
        j_inc (pc := 31) (L' := [(5, (0, wI (x5 + 1))), (3, (1, wJ ((wJ ((wJ (10 * x3)) + (wI v2))) - 48))), (0, (4, 602)), (1, (0, x1)), (2, (0, x2))]) D rfl rfl rfl (by decide +kernel) rfl fun D =>
        j_goto (pc := 34) D rfl <|
        fk_jump cut_496_5 rfl rfl) (fun q3 h1 e1 =>
        j_tx (hx_496 _))) (fun q =>
      have D : fk_D 496 [(37, none, .lload_n 3, 1, 0, 0, 0), (38, none, .lreturn, 1, 0, 0, 0)] := fq_of2 cd_496 ow_496 cl_496 rfl (pc := 37) (by decide +kernel)
      j_lldn (pc := 37) D rfl rfl rfl fun D =>
      j_lret D rt_496)
theorem m_496 (d : Nat) (x1 x2 : Int) {h : fi_H} (H : Shp h) : fj_run (d + 1) 496 h [(4, 602), (0, x1), (0, x2)] =
  c_496_5 d x1 x2 0 0 h := by
  rw [fj_run_eq d (by decide) h [(4, 602), (0, x1), (0, x2)] (Nat.le_of_ble_eq_true (by rw [nl_496]; rfl))]
  show gG (fj_run d) 496 0 [(0, (4, 602)), (1, (0, x1)), (2, (0, x2))] [] h = _
  exact
    have D : fk_D 496 [(0, none, .lconst 0, 1, 0, 0, 0), (1, none, .lstore_n 3, 1, 0, 0, 0), (2, none, .iconst 0, 1, 0, 0, 0), (3, none, .istore 5, 2, 0, 0, 0)] := fq_of2 cd_496 ow_496 cl_496 rfl (pc := 0) (by decide +kernel)
    j_c0 (pc := 0) (v := (1, 0)) D rfl rfl (by decide +kernel) fun D =>
    j_lstn (pc := 1) (L' := [(3, (1, 0)), (0, (4, 602)), (1, (0, x1)), (2, (0, x2))]) D rfl nl_496 rfl rfl fun D =>
    j_ic (pc := 2) D rfl fun D =>
    j_ist (pc := 3) (L' := [(5, (0, 0)), (3, (1, 0)), (0, (4, 602)), (1, (0, x1)), (2, (0, x2))]) D rfl nl_496 rfl rfl fun D =>
    fk_jump cut_496_5 rfl rfl
/-! 497 StatuteHouseModel.cutSign(II)V -/
theorem cd_497 : fi_code 497 = prog_69_method_28_code := rfl
theorem hx_497 : ∀ pc, fi_hat 497 pc = none := fun pc => by unfold fi_hat; rw [show fi_hh 497 = [] from rfl]; rfl
theorem rt_497 : fi_ret 497 = none := rfl
theorem nl_497 : fi_nl 497 = 3 := rfl
theorem ow_497 : fi_ow 497 = 29 := rfl
theorem cl_497 : fj_cutT.getD 497 [] = [(97, [0, 1, 2]), (103, [0, 1, 2]), (130, [0, 1, 2]), (158, [0, 1])] := rfl
theorem cut_497_97 : fj_cut 497 97 = some [0, 1, 2] := by decide +kernel
noncomputable def c_497_97 (d : Nat) (x1 x2 s0 : Int) (h : fi_H) : fk_R := gG (fj_run d) 497 97 [(0, (4, 602)), (1, (0, x1)), (2, (0, x2))] [(4, s0)] h
theorem cut_497_103 : fj_cut 497 103 = some [0, 1, 2] := by decide +kernel
noncomputable def c_497_103 (d : Nat) (x1 x2 s0 s1 : Int) (h : fi_H) : fk_R := gG (fj_run d) 497 103 [(0, (4, 602)), (1, (0, x1)), (2, (0, x2))] [(0, s1), (4, s0)] h
theorem cut_497_130 : fj_cut 497 130 = some [0, 1, 2] := by decide +kernel
noncomputable def c_497_130 (d : Nat) (x1 x2 : Int) (h : fi_H) : fk_R := gG (fj_run d) 497 130 [(0, (4, 602)), (1, (0, x1)), (2, (0, x2))] [] h
theorem cut_497_158 : fj_cut 497 158 = some [0, 1] := by decide +kernel
noncomputable def c_497_158 (d : Nat) (x1 s0 s1 : Int) (h : fi_H) : fk_R := gG (fj_run d) 497 158 [(0, (4, 602)), (1, (0, x1))] [(0, s1), (4, s0)] h
theorem e_497_97 (d : Nat) (x1 x2 s0 : Int) {h : fi_H} (H : Shp h) : c_497_97 d x1 x2 s0 h =
  c_497_103 d x1 x2 s0 6 h := by
  unfold c_497_97
  exact
    have D : fk_D 497 [(97, some [0, 1, 2], .bipush 6, 2, 0, 6, 0), (99, none, .goto 4, 3, 103, 0, 0)] := fq_of2 cd_497 ow_497 cl_497 rfl (pc := 97) (by decide +kernel)
    j_bp (pc := 97) D rfl fun D =>
    j_goto (pc := 99) D rfl <|
    fk_jump cut_497_103 rfl rfl
theorem e_497_103 (d : Nat) (x1 x2 s0 s1 : Int) {h : fi_H} (H : Shp h) : c_497_103 d x1 x2 s0 s1 h =
  if h 0 s0.toNat 0 = 129 then
  if 302 < s0 then
  lt_ (fi_upd h 394 s0.toNat 0 s1) fun h1 =>
  lt_ (fi_upd h1 395 602 0 x2) fun h3 =>
  lt_ (fi_upd h3 397 602 0 (wI (x1 + 1))) fun h4 =>
  if x2 = 60 then
    c_497_130 d x1 x2 h4
  else
    if x2 = 62 then
      c_497_130 d x1 x2 h4
    else
      some (.inl none, h4)
  else none
  else none := by
  unfold c_497_103
  exact
    have D : fk_D 497 [(103, some [0, 1, 2], .putfield 513, 3, 394, (-129), 10), (106, none, .aload_n 0, 1, 0, 0, 0), (107, none, .iload_n 2, 1, 0, 0, 0), (108, none, .putfield 531, 3, 395, 129, 10), (111, none, .aload_n 0, 1, 0, 0, 0), (112, none, .iload_n 1, 1, 0, 0, 0), (113, none, .iconst 1, 1, 0, 1, 0), (114, none, .iadd, 1, 0, 0, 0), (115, none, .putfield 504, 3, 397, 129, 10), (118, none, .iload_n 2, 1, 0, 0, 0), (119, none, .bipush 60, 2, 0, 60, 0), (121, none, .if_icmp .eq 9, 3, 130, 0, 0), (124, none, .iload_n 2, 1, 0, 0, 0), (125, none, .bipush 62, 2, 0, 62, 0), (127, none, .if_icmp .ne 41, 3, 168, 0, 0)] := fq_of2 cd_497 ow_497 cl_497 rfl (pc := 103) (by decide +kernel)
    j_pfo (pc := 103) D rfl rfl rfl rfl rfl gn gn (gy rfl) fun h1 eh1 S kc2 D =>
    have T := fj_hs_ok H.1 S
    have H := shp_st H T
    j_aldn (pc := 106) D rfl rfl rfl fun D =>
    j_ildn (pc := 107) D rfl rfl rfl fun D =>
    j_pf (pc := 108) (a := 602) D rfl rfl rfl (s0_602 H) rfl rfl (gy (by decide)) (gy rfl) fun h3 eh3 S D =>
    have T := fj_hs_ok H.1 S
    have H := shp_st H T
    j_aldn (pc := 111) D rfl rfl rfl fun D =>
    j_ildn (pc := 112) D rfl rfl rfl fun D =>
    j_ic (pc := 113) D rfl fun D =>
    j_iadd (pc := 114) D rfl fun D =>
    j_pf (pc := 115) (a := 602) D rfl rfl rfl (s0_602 H) rfl rfl (gy (by decide)) (gy rfl) fun h4 eh4 S D =>
    have T := fj_hs_ok H.1 S
    have H := shp_st H T
    j_ildn (pc := 118) D rfl rfl rfl fun D =>
    j_bp (pc := 119) D rfl fun D =>
    j_ieq (pc := 121) D rfl (fun q =>
      fk_jump cut_497_130 rfl rfl) (fun q D =>
      j_ildn (pc := 124) D rfl rfl rfl fun D =>
      j_bp (pc := 125) D rfl fun D =>
      j_ine (pc := 127) D rfl (fun q D =>
        fk_jump cut_497_130 rfl rfl) (fun q =>
        have D : fk_D 497 [(168, none, .return_, 1, 0, 0, 0)] := fq_of2 cd_497 ow_497 cl_497 rfl (pc := 168) (by decide +kernel)
        j_vret D rt_497))
theorem e_497_130 (d : Nat) (x1 x2 : Int) {h : fi_H} (H : Shp h) : c_497_130 d x1 x2 h =
  ca_ (fj_run d 488 h [(4, 602), (0, wI (x1 + 1))]) 0
    (fun v2 h1 =>
    if v2 = 61 then
      if x2 = 60 then
        c_497_158 d x1 602 256 h1
      else
        c_497_158 d x1 602 257 h1
    else
      some (.inl none, h1))
    (fun q3 h1 => tx_ q3 h1) := by
  unfold c_497_130
  exact
    have D : fk_D 497 [(130, some [0, 1, 2], .aload_n 0, 1, 0, 0, 0), (131, none, .iload_n 1, 1, 0, 0, 0), (132, none, .iconst 1, 1, 0, 1, 0), (133, none, .iadd, 1, 0, 0, 0), (134, none, .invokevirtual 483, 3, 1, 340, 1), (137, none, .bipush 61, 2, 0, 61, 0), (139, none, .if_icmp .ne 29, 3, 168, 0, 0), (142, none, .aload_n 0, 1, 0, 0, 0), (143, none, .iload_n 2, 1, 0, 0, 0), (144, none, .bipush 60, 2, 0, 60, 0), (146, none, .if_icmp .ne 9, 3, 155, 0, 0), (149, none, .sipush 256, 3, 0, 256, 0), (152, none, .goto 6, 3, 158, 0, 0)] := fq_of2 cd_497 ow_497 cl_497 rfl (pc := 130) (by decide +kernel)
    j_aldn (pc := 130) D rfl rfl rfl fun D =>
    j_ildn (pc := 131) D rfl rfl rfl fun D =>
    j_ic (pc := 132) D rfl fun D =>
    j_iadd (pc := 133) D rfl fun D =>
    j_iv (pc := 134) (m := 488) (dd := 340) (a := [(0, wI (x1 + 1))]) (rest := []) D rfl rfl rfl rfl rfl (by decide) (s0_602 H) (by decide +kernel) (fun v2 h1 e1 D =>
      have T := fj_run_ok _ _ _ _ _ _ H.1 e1
      have H := shp_st H T
      j_bp (pc := 137) D rfl fun D =>
      j_ine (pc := 139) D rfl (fun q D =>
        j_aldn (pc := 142) D rfl rfl rfl fun D =>
        j_ildn (pc := 143) D rfl rfl rfl fun D =>
        j_bp (pc := 144) D rfl fun D =>
        j_ine (pc := 146) D rfl (fun q D =>
          j_sp (pc := 149) D rfl fun D =>
          j_goto (pc := 152) D rfl <|
          fk_jump cut_497_158 rfl rfl) (fun q =>
          have D : fk_D 497 [(155, none, .sipush 257, 3, 0, 257, 0)] := fq_of2 cd_497 ow_497 cl_497 rfl (pc := 155) (by decide +kernel)
          j_sp (pc := 155) D rfl fun D =>
          fk_jump cut_497_158 rfl rfl)) (fun q =>
        have D : fk_D 497 [(168, none, .return_, 1, 0, 0, 0)] := fq_of2 cd_497 ow_497 cl_497 rfl (pc := 168) (by decide +kernel)
        j_vret D rt_497)) (fun q3 h1 e1 =>
      j_tx (hx_497 _))
theorem e_497_158 (d : Nat) (x1 s0 s1 : Int) {h : fi_H} (H : Shp h) : c_497_158 d x1 s0 s1 h =
  if h 0 s0.toNat 0 = 129 then
  if 302 < s0 then
  lt_ (fi_upd h 395 s0.toNat 0 s1) fun h1 =>
  lt_ (fi_upd h1 397 602 0 (wI (x1 + 2))) fun h3 =>
  some (.inl none, h3)
  else none
  else none := by
  unfold c_497_158
  exact
    have D : fk_D 497 [(158, some [0, 1], .putfield 531, 3, 395, (-129), 10), (161, none, .aload_n 0, 1, 0, 0, 0), (162, none, .iload_n 1, 1, 0, 0, 0), (163, none, .iconst 2, 1, 0, 2, 0), (164, none, .iadd, 1, 0, 0, 0), (165, none, .putfield 504, 3, 397, 129, 10), (168, none, .return_, 1, 0, 0, 0)] := fq_of2 cd_497 ow_497 cl_497 rfl (pc := 158) (by decide +kernel)
    j_pfo (pc := 158) D rfl rfl rfl rfl rfl gn gn (gy rfl) fun h1 eh1 S kc2 D =>
    have T := fj_hs_ok H.1 S
    have H := shp_st H T
    j_aldn (pc := 161) D rfl rfl rfl fun D =>
    j_ildn (pc := 162) D rfl rfl rfl fun D =>
    j_ic (pc := 163) D rfl fun D =>
    j_iadd (pc := 164) D rfl fun D =>
    j_pf (pc := 165) (a := 602) D rfl rfl rfl (s0_602 H) rfl rfl (gy (by decide)) (gy rfl) fun h3 eh3 S D =>
    have T := fj_hs_ok H.1 S
    have H := shp_st H T
    j_vret D rt_497
theorem m_497 (d : Nat) (x1 x2 : Int) {h : fi_H} (H : Shp h) : fj_run (d + 1) 497 h [(4, 602), (0, x1), (0, x2)] =
  if x2 = 40 then
    c_497_97 d x1 x2 602 h
  else
    if x2 = 41 then
      c_497_97 d x1 x2 602 h
    else
      if x2 = 123 then
        c_497_97 d x1 x2 602 h
      else
        if x2 = 125 then
          c_497_97 d x1 x2 602 h
        else
          if x2 = 44 then
            c_497_97 d x1 x2 602 h
          else
            if x2 = 59 then
              c_497_97 d x1 x2 602 h
            else
              if x2 = 58 then
                c_497_97 d x1 x2 602 h
              else
                if x2 = 47 then
                  c_497_97 d x1 x2 602 h
                else
                  if x2 = 42 then
                    c_497_97 d x1 x2 602 h
                  else
                    if x2 = 43 then
                      c_497_97 d x1 x2 602 h
                    else
                      if x2 = 45 then
                        c_497_97 d x1 x2 602 h
                      else
                        if x2 = 37 then
                          c_497_97 d x1 x2 602 h
                        else
                          if x2 = 61 then
                            c_497_97 d x1 x2 602 h
                          else
                            if x2 = 35 then
                              c_497_97 d x1 x2 602 h
                            else
                              if x2 = 60 then
                                c_497_97 d x1 x2 602 h
                              else
                                if x2 = 62 then
                                  c_497_97 d x1 x2 602 h
                                else
                                  c_497_103 d x1 x2 602 0 h := by
  rw [fj_run_eq d (by decide) h [(4, 602), (0, x1), (0, x2)] (Nat.le_of_ble_eq_true (by rw [nl_497]; rfl))]
  show gG (fj_run d) 497 0 [(0, (4, 602)), (1, (0, x1)), (2, (0, x2))] [] h = _
  exact
    have D : fk_D 497 [(0, none, .aload_n 0, 1, 0, 0, 0), (1, none, .iload_n 2, 1, 0, 0, 0), (2, none, .bipush 40, 2, 0, 40, 0), (4, none, .if_icmp .eq 93, 3, 97, 0, 0), (7, none, .iload_n 2, 1, 0, 0, 0), (8, none, .bipush 41, 2, 0, 41, 0), (10, none, .if_icmp .eq 87, 3, 97, 0, 0), (13, none, .iload_n 2, 1, 0, 0, 0), (14, none, .bipush 123, 2, 0, 123, 0), (16, none, .if_icmp .eq 81, 3, 97, 0, 0), (19, none, .iload_n 2, 1, 0, 0, 0), (20, none, .bipush 125, 2, 0, 125, 0), (22, none, .if_icmp .eq 75, 3, 97, 0, 0), (25, none, .iload_n 2, 1, 0, 0, 0), (26, none, .bipush 44, 2, 0, 44, 0), (28, none, .if_icmp .eq 69, 3, 97, 0, 0), (31, none, .iload_n 2, 1, 0, 0, 0), (32, none, .bipush 59, 2, 0, 59, 0), (34, none, .if_icmp .eq 63, 3, 97, 0, 0), (37, none, .iload_n 2, 1, 0, 0, 0)] := fq_of2 cd_497 ow_497 cl_497 rfl (pc := 0) (by decide +kernel)
    j_aldn (pc := 0) D rfl rfl rfl fun D =>
    j_ildn (pc := 1) D rfl rfl rfl fun D =>
    j_bp (pc := 2) D rfl fun D =>
    j_ieq (pc := 4) D rfl (fun q =>
      fk_jump cut_497_97 rfl rfl) (fun q D =>
      j_ildn (pc := 7) D rfl rfl rfl fun D =>
      j_bp (pc := 8) D rfl fun D =>
      j_ieq (pc := 10) D rfl (fun q =>
        fk_jump cut_497_97 rfl rfl) (fun q D =>
        j_ildn (pc := 13) D rfl rfl rfl fun D =>
        j_bp (pc := 14) D rfl fun D =>
        j_ieq (pc := 16) D rfl (fun q =>
          fk_jump cut_497_97 rfl rfl) (fun q D =>
          j_ildn (pc := 19) D rfl rfl rfl fun D =>
          j_bp (pc := 20) D rfl fun D =>
          j_ieq (pc := 22) D rfl (fun q =>
            fk_jump cut_497_97 rfl rfl) (fun q D =>
            j_ildn (pc := 25) D rfl rfl rfl fun D =>
            j_bp (pc := 26) D rfl fun D =>
            j_ieq (pc := 28) D rfl (fun q =>
              fk_jump cut_497_97 rfl rfl) (fun q D =>
              j_ildn (pc := 31) D rfl rfl rfl fun D =>
              j_bp (pc := 32) D rfl fun D =>
              j_ieq (pc := 34) D rfl (fun q =>
                fk_jump cut_497_97 rfl rfl) (fun q D =>
                j_ildn (pc := 37) D rfl rfl rfl fun D =>
                have D : fk_D 497 [(38, none, .bipush 58, 2, 0, 58, 0), (40, none, .if_icmp .eq 57, 3, 97, 0, 0), (43, none, .iload_n 2, 1, 0, 0, 0), (44, none, .bipush 47, 2, 0, 47, 0), (46, none, .if_icmp .eq 51, 3, 97, 0, 0), (49, none, .iload_n 2, 1, 0, 0, 0), (50, none, .bipush 42, 2, 0, 42, 0), (52, none, .if_icmp .eq 45, 3, 97, 0, 0), (55, none, .iload_n 2, 1, 0, 0, 0), (56, none, .bipush 43, 2, 0, 43, 0), (58, none, .if_icmp .eq 39, 3, 97, 0, 0), (61, none, .iload_n 2, 1, 0, 0, 0), (62, none, .bipush 45, 2, 0, 45, 0), (64, none, .if_icmp .eq 33, 3, 97, 0, 0), (67, none, .iload_n 2, 1, 0, 0, 0), (68, none, .bipush 37, 2, 0, 37, 0), (70, none, .if_icmp .eq 27, 3, 97, 0, 0), (73, none, .iload_n 2, 1, 0, 0, 0), (74, none, .bipush 61, 2, 0, 61, 0), (76, none, .if_icmp .eq 21, 3, 97, 0, 0)] := fq_of2 cd_497 ow_497 cl_497 rfl (pc := 38) (by decide +kernel)
                j_bp (pc := 38) D rfl fun D =>
                j_ieq (pc := 40) D rfl (fun q =>
                  fk_jump cut_497_97 rfl rfl) (fun q D =>
                  j_ildn (pc := 43) D rfl rfl rfl fun D =>
                  j_bp (pc := 44) D rfl fun D =>
                  j_ieq (pc := 46) D rfl (fun q =>
                    fk_jump cut_497_97 rfl rfl) (fun q D =>
                    j_ildn (pc := 49) D rfl rfl rfl fun D =>
                    j_bp (pc := 50) D rfl fun D =>
                    j_ieq (pc := 52) D rfl (fun q =>
                      fk_jump cut_497_97 rfl rfl) (fun q D =>
                      j_ildn (pc := 55) D rfl rfl rfl fun D =>
                      j_bp (pc := 56) D rfl fun D =>
                      j_ieq (pc := 58) D rfl (fun q =>
                        fk_jump cut_497_97 rfl rfl) (fun q D =>
                        j_ildn (pc := 61) D rfl rfl rfl fun D =>
                        j_bp (pc := 62) D rfl fun D =>
                        j_ieq (pc := 64) D rfl (fun q =>
                          fk_jump cut_497_97 rfl rfl) (fun q D =>
                          j_ildn (pc := 67) D rfl rfl rfl fun D =>
                          j_bp (pc := 68) D rfl fun D =>
                          j_ieq (pc := 70) D rfl (fun q =>
                            fk_jump cut_497_97 rfl rfl) (fun q D =>
                            j_ildn (pc := 73) D rfl rfl rfl fun D =>
                            j_bp (pc := 74) D rfl fun D =>
                            j_ieq (pc := 76) D rfl (fun q =>
                              fk_jump cut_497_97 rfl rfl) (fun q D =>
                              have D : fk_D 497 [(79, none, .iload_n 2, 1, 0, 0, 0), (80, none, .bipush 35, 2, 0, 35, 0), (82, none, .if_icmp .eq 15, 3, 97, 0, 0), (85, none, .iload_n 2, 1, 0, 0, 0), (86, none, .bipush 60, 2, 0, 60, 0), (88, none, .if_icmp .eq 9, 3, 97, 0, 0), (91, none, .iload_n 2, 1, 0, 0, 0), (92, none, .bipush 62, 2, 0, 62, 0), (94, none, .if_icmp .ne 8, 3, 102, 0, 0)] := fq_of2 cd_497 ow_497 cl_497 rfl (pc := 79) (by decide +kernel)
                              j_ildn (pc := 79) D rfl rfl rfl fun D =>
                              j_bp (pc := 80) D rfl fun D =>
                              j_ieq (pc := 82) D rfl (fun q =>
                                fk_jump cut_497_97 rfl rfl) (fun q D =>
                                j_ildn (pc := 85) D rfl rfl rfl fun D =>
                                j_bp (pc := 86) D rfl fun D =>
                                j_ieq (pc := 88) D rfl (fun q =>
                                  fk_jump cut_497_97 rfl rfl) (fun q D =>
                                  j_ildn (pc := 91) D rfl rfl rfl fun D =>
                                  j_bp (pc := 92) D rfl fun D =>
                                  j_ine (pc := 94) D rfl (fun q D =>
                                    fk_jump cut_497_97 rfl rfl) (fun q =>
                                    have D : fk_D 497 [(102, none, .iconst 0, 1, 0, 0, 0)] := fq_of2 cd_497 ow_497 cl_497 rfl (pc := 102) (by decide +kernel)
                                    j_ic (pc := 102) D rfl fun D =>
                                    fk_jump cut_497_103 rfl rfl))))))))))))))))
