/-! forms of methods 180..201, printed by gen/forms.py -/
set_option maxRecDepth 100000
/-! 180 StatuteHouse$Function.told(Ljava/lang/String;)LStatuteHouse$Function; -/
theorem cd_180 : fi_code 180 = prog_12_method_9_code := rfl
theorem hx_180 : ∀ pc, fi_hat 180 pc = none := fun pc => by unfold fi_hat; rw [show fi_hh 180 = [] from rfl]; rfl
theorem rt_180 : fj_ft (fi_ret 180) = 5 := rfl
theorem nl_180 : fi_nl 180 = 3 := rfl
theorem ow_180 : fi_ow 180 = 34 := rfl
theorem cl_180 : fj_cutT.getD 180 [] = [(212, [1, 2]), (226, [1, 2]), (240, [1, 2]), (254, [1, 2]), (268, [1, 2]), (282, [1, 2]), (296, [1, 2]), (311, [1, 2]), (326, [1, 2]), (341, [1, 2]), (356, [1, 2]), (371, [1, 2]), (386, [1, 2]), (401, [1, 2]), (416, [1, 2]), (431, [1, 2]), (446, [1, 2]), (461, [1, 2]), (476, [1, 2]), (491, [1, 2]), (506, [1, 2]), (521, [1, 2]), (536, [1, 2]), (551, [1, 2]), (563, [2]), (676, []), (680, []), (684, []), (688, []), (692, []), (696, []), (700, []), (704, []), (708, []), (712, []), (716, []), (720, []), (724, []), (728, []), (732, []), (736, []), (740, []), (744, []), (748, []), (752, []), (756, []), (760, []), (764, []), (768, []), (772, [])] := rfl
theorem cut_180_212 : fj_cut 180 212 = some [1, 2] := by decide +kernel
noncomputable def c_180_212 (d : Nat) (x1 x2 : Int) (h : fi_H) : fk_R := gG (fj_run d) 180 212 [(1, (4, x1)), (2, (0, x2))] [] h
theorem cut_180_226 : fj_cut 180 226 = some [1, 2] := by decide +kernel
noncomputable def c_180_226 (d : Nat) (x1 x2 : Int) (h : fi_H) : fk_R := gG (fj_run d) 180 226 [(1, (4, x1)), (2, (0, x2))] [] h
theorem cut_180_240 : fj_cut 180 240 = some [1, 2] := by decide +kernel
noncomputable def c_180_240 (d : Nat) (x1 x2 : Int) (h : fi_H) : fk_R := gG (fj_run d) 180 240 [(1, (4, x1)), (2, (0, x2))] [] h
theorem cut_180_254 : fj_cut 180 254 = some [1, 2] := by decide +kernel
noncomputable def c_180_254 (d : Nat) (x1 x2 : Int) (h : fi_H) : fk_R := gG (fj_run d) 180 254 [(1, (4, x1)), (2, (0, x2))] [] h
theorem cut_180_268 : fj_cut 180 268 = some [1, 2] := by decide +kernel
noncomputable def c_180_268 (d : Nat) (x1 x2 : Int) (h : fi_H) : fk_R := gG (fj_run d) 180 268 [(1, (4, x1)), (2, (0, x2))] [] h
theorem cut_180_282 : fj_cut 180 282 = some [1, 2] := by decide +kernel
noncomputable def c_180_282 (d : Nat) (x1 x2 : Int) (h : fi_H) : fk_R := gG (fj_run d) 180 282 [(1, (4, x1)), (2, (0, x2))] [] h
theorem cut_180_296 : fj_cut 180 296 = some [1, 2] := by decide +kernel
noncomputable def c_180_296 (d : Nat) (x1 x2 : Int) (h : fi_H) : fk_R := gG (fj_run d) 180 296 [(1, (4, x1)), (2, (0, x2))] [] h
theorem cut_180_311 : fj_cut 180 311 = some [1, 2] := by decide +kernel
noncomputable def c_180_311 (d : Nat) (x1 x2 : Int) (h : fi_H) : fk_R := gG (fj_run d) 180 311 [(1, (4, x1)), (2, (0, x2))] [] h
theorem cut_180_326 : fj_cut 180 326 = some [1, 2] := by decide +kernel
noncomputable def c_180_326 (d : Nat) (x1 x2 : Int) (h : fi_H) : fk_R := gG (fj_run d) 180 326 [(1, (4, x1)), (2, (0, x2))] [] h
theorem cut_180_341 : fj_cut 180 341 = some [1, 2] := by decide +kernel
noncomputable def c_180_341 (d : Nat) (x1 x2 : Int) (h : fi_H) : fk_R := gG (fj_run d) 180 341 [(1, (4, x1)), (2, (0, x2))] [] h
theorem cut_180_356 : fj_cut 180 356 = some [1, 2] := by decide +kernel
noncomputable def c_180_356 (d : Nat) (x1 x2 : Int) (h : fi_H) : fk_R := gG (fj_run d) 180 356 [(1, (4, x1)), (2, (0, x2))] [] h
theorem cut_180_371 : fj_cut 180 371 = some [1, 2] := by decide +kernel
noncomputable def c_180_371 (d : Nat) (x1 x2 : Int) (h : fi_H) : fk_R := gG (fj_run d) 180 371 [(1, (4, x1)), (2, (0, x2))] [] h
theorem cut_180_386 : fj_cut 180 386 = some [1, 2] := by decide +kernel
noncomputable def c_180_386 (d : Nat) (x1 x2 : Int) (h : fi_H) : fk_R := gG (fj_run d) 180 386 [(1, (4, x1)), (2, (0, x2))] [] h
theorem cut_180_401 : fj_cut 180 401 = some [1, 2] := by decide +kernel
noncomputable def c_180_401 (d : Nat) (x1 x2 : Int) (h : fi_H) : fk_R := gG (fj_run d) 180 401 [(1, (4, x1)), (2, (0, x2))] [] h
theorem cut_180_416 : fj_cut 180 416 = some [1, 2] := by decide +kernel
noncomputable def c_180_416 (d : Nat) (x1 x2 : Int) (h : fi_H) : fk_R := gG (fj_run d) 180 416 [(1, (4, x1)), (2, (0, x2))] [] h
theorem cut_180_431 : fj_cut 180 431 = some [1, 2] := by decide +kernel
noncomputable def c_180_431 (d : Nat) (x1 x2 : Int) (h : fi_H) : fk_R := gG (fj_run d) 180 431 [(1, (4, x1)), (2, (0, x2))] [] h
theorem cut_180_446 : fj_cut 180 446 = some [1, 2] := by decide +kernel
noncomputable def c_180_446 (d : Nat) (x1 x2 : Int) (h : fi_H) : fk_R := gG (fj_run d) 180 446 [(1, (4, x1)), (2, (0, x2))] [] h
theorem cut_180_461 : fj_cut 180 461 = some [1, 2] := by decide +kernel
noncomputable def c_180_461 (d : Nat) (x1 x2 : Int) (h : fi_H) : fk_R := gG (fj_run d) 180 461 [(1, (4, x1)), (2, (0, x2))] [] h
theorem cut_180_476 : fj_cut 180 476 = some [1, 2] := by decide +kernel
noncomputable def c_180_476 (d : Nat) (x1 x2 : Int) (h : fi_H) : fk_R := gG (fj_run d) 180 476 [(1, (4, x1)), (2, (0, x2))] [] h
theorem cut_180_491 : fj_cut 180 491 = some [1, 2] := by decide +kernel
noncomputable def c_180_491 (d : Nat) (x1 x2 : Int) (h : fi_H) : fk_R := gG (fj_run d) 180 491 [(1, (4, x1)), (2, (0, x2))] [] h
theorem cut_180_506 : fj_cut 180 506 = some [1, 2] := by decide +kernel
noncomputable def c_180_506 (d : Nat) (x1 x2 : Int) (h : fi_H) : fk_R := gG (fj_run d) 180 506 [(1, (4, x1)), (2, (0, x2))] [] h
theorem cut_180_521 : fj_cut 180 521 = some [1, 2] := by decide +kernel
noncomputable def c_180_521 (d : Nat) (x1 x2 : Int) (h : fi_H) : fk_R := gG (fj_run d) 180 521 [(1, (4, x1)), (2, (0, x2))] [] h
theorem cut_180_536 : fj_cut 180 536 = some [1, 2] := by decide +kernel
noncomputable def c_180_536 (d : Nat) (x1 x2 : Int) (h : fi_H) : fk_R := gG (fj_run d) 180 536 [(1, (4, x1)), (2, (0, x2))] [] h
theorem cut_180_551 : fj_cut 180 551 = some [1, 2] := by decide +kernel
noncomputable def c_180_551 (d : Nat) (x1 x2 : Int) (h : fi_H) : fk_R := gG (fj_run d) 180 551 [(1, (4, x1)), (2, (0, x2))] [] h
theorem cut_180_563 : fj_cut 180 563 = some [2] := by decide +kernel
noncomputable def c_180_563 (d : Nat) (x2 : Int) (h : fi_H) : fk_R := gG (fj_run d) 180 563 [(2, (0, x2))] [] h
theorem cut_180_676 : fj_cut 180 676 = some [] := by decide +kernel
noncomputable def c_180_676 (d : Nat) (h : fi_H) : fk_R := gG (fj_run d) 180 676 [] [] h
theorem cut_180_680 : fj_cut 180 680 = some [] := by decide +kernel
noncomputable def c_180_680 (d : Nat) (h : fi_H) : fk_R := gG (fj_run d) 180 680 [] [] h
theorem cut_180_684 : fj_cut 180 684 = some [] := by decide +kernel
noncomputable def c_180_684 (d : Nat) (h : fi_H) : fk_R := gG (fj_run d) 180 684 [] [] h
theorem cut_180_688 : fj_cut 180 688 = some [] := by decide +kernel
noncomputable def c_180_688 (d : Nat) (h : fi_H) : fk_R := gG (fj_run d) 180 688 [] [] h
theorem cut_180_692 : fj_cut 180 692 = some [] := by decide +kernel
noncomputable def c_180_692 (d : Nat) (h : fi_H) : fk_R := gG (fj_run d) 180 692 [] [] h
theorem cut_180_696 : fj_cut 180 696 = some [] := by decide +kernel
noncomputable def c_180_696 (d : Nat) (h : fi_H) : fk_R := gG (fj_run d) 180 696 [] [] h
theorem cut_180_700 : fj_cut 180 700 = some [] := by decide +kernel
noncomputable def c_180_700 (d : Nat) (h : fi_H) : fk_R := gG (fj_run d) 180 700 [] [] h
theorem cut_180_704 : fj_cut 180 704 = some [] := by decide +kernel
noncomputable def c_180_704 (d : Nat) (h : fi_H) : fk_R := gG (fj_run d) 180 704 [] [] h
theorem cut_180_708 : fj_cut 180 708 = some [] := by decide +kernel
noncomputable def c_180_708 (d : Nat) (h : fi_H) : fk_R := gG (fj_run d) 180 708 [] [] h
theorem cut_180_712 : fj_cut 180 712 = some [] := by decide +kernel
noncomputable def c_180_712 (d : Nat) (h : fi_H) : fk_R := gG (fj_run d) 180 712 [] [] h
theorem cut_180_716 : fj_cut 180 716 = some [] := by decide +kernel
noncomputable def c_180_716 (d : Nat) (h : fi_H) : fk_R := gG (fj_run d) 180 716 [] [] h
theorem cut_180_720 : fj_cut 180 720 = some [] := by decide +kernel
noncomputable def c_180_720 (d : Nat) (h : fi_H) : fk_R := gG (fj_run d) 180 720 [] [] h
theorem cut_180_724 : fj_cut 180 724 = some [] := by decide +kernel
noncomputable def c_180_724 (d : Nat) (h : fi_H) : fk_R := gG (fj_run d) 180 724 [] [] h
theorem cut_180_728 : fj_cut 180 728 = some [] := by decide +kernel
noncomputable def c_180_728 (d : Nat) (h : fi_H) : fk_R := gG (fj_run d) 180 728 [] [] h
theorem cut_180_732 : fj_cut 180 732 = some [] := by decide +kernel
noncomputable def c_180_732 (d : Nat) (h : fi_H) : fk_R := gG (fj_run d) 180 732 [] [] h
theorem cut_180_736 : fj_cut 180 736 = some [] := by decide +kernel
noncomputable def c_180_736 (d : Nat) (h : fi_H) : fk_R := gG (fj_run d) 180 736 [] [] h
theorem cut_180_740 : fj_cut 180 740 = some [] := by decide +kernel
noncomputable def c_180_740 (d : Nat) (h : fi_H) : fk_R := gG (fj_run d) 180 740 [] [] h
theorem cut_180_744 : fj_cut 180 744 = some [] := by decide +kernel
noncomputable def c_180_744 (d : Nat) (h : fi_H) : fk_R := gG (fj_run d) 180 744 [] [] h
theorem cut_180_748 : fj_cut 180 748 = some [] := by decide +kernel
noncomputable def c_180_748 (d : Nat) (h : fi_H) : fk_R := gG (fj_run d) 180 748 [] [] h
theorem cut_180_752 : fj_cut 180 752 = some [] := by decide +kernel
noncomputable def c_180_752 (d : Nat) (h : fi_H) : fk_R := gG (fj_run d) 180 752 [] [] h
theorem cut_180_756 : fj_cut 180 756 = some [] := by decide +kernel
noncomputable def c_180_756 (d : Nat) (h : fi_H) : fk_R := gG (fj_run d) 180 756 [] [] h
theorem cut_180_760 : fj_cut 180 760 = some [] := by decide +kernel
noncomputable def c_180_760 (d : Nat) (h : fi_H) : fk_R := gG (fj_run d) 180 760 [] [] h
theorem cut_180_764 : fj_cut 180 764 = some [] := by decide +kernel
noncomputable def c_180_764 (d : Nat) (h : fi_H) : fk_R := gG (fj_run d) 180 764 [] [] h
theorem cut_180_768 : fj_cut 180 768 = some [] := by decide +kernel
noncomputable def c_180_768 (d : Nat) (h : fi_H) : fk_R := gG (fj_run d) 180 768 [] [] h
theorem cut_180_772 : fj_cut 180 772 = some [] := by decide +kernel
noncomputable def c_180_772 (d : Nat) (h : fi_H) : fk_R := gG (fj_run d) 180 772 [] [] h
theorem e_180_212 (d : Nat) (x1 x2 : Int) {h : fi_H} (H : Shp h) : c_180_212 d x1 x2 h =
  dv_ (fi_vt 216 (h 0 x1.toNat 0)) fun m4 => ca_ (fj_run d m4 h [(4, x1), (4, 79)]) 0
    (fun v2 h1 =>
    if v2 = 0 then
      c_180_563 d x2 h1
    else
      c_180_563 d 0 h1)
    (fun q3 h1 => tx_ q3 h1) := by
  unfold c_180_212
  exact
    have D : fk_D 180 [(212, some [1, 2], .aload_n 1, 1, 0, 0, 0), (213, none, .ldc 122, 2, 4, 79, 0), (215, none, .invokevirtual 124, 3, 1, 216, 1), (218, none, .ifCond .eq 345, 3, 563, 0, 0), (221, none, .iconst 0, 1, 0, 0, 0), (222, none, .istore_n 2, 1, 0, 0, 0), (223, none, .goto 340, 3, 563, 0, 0)] := fq_of2 cd_180 ow_180 cl_180 rfl (pc := 212) (by decide +kernel)
    j_aldn (pc := 212) D rfl rfl rfl fun D =>
    j_ldc (pc := 213) D rfl fun D =>
    j_ivu (pc := 215) (dd := 216) (a := [(4, 79)]) (rest := []) H.2.1 D rfl rfl rfl rfl rfl (fun m4 v2 h1 e1 D =>
      have T := fj_run_ok _ _ _ _ _ _ H.1 e1
      have H := shp_st H T
      j_ifeq (pc := 218) D rfl (fun q =>
        fk_jump cut_180_563 rfl rfl) (fun q D =>
        j_ic (pc := 221) D rfl fun D =>
        j_istn (pc := 222) (L' := [(2, (0, 0)), (1, (4, x1))]) D rfl nl_180 rfl rfl fun D =>
        j_goto (pc := 223) D rfl <|
        fk_jump cut_180_563 rfl rfl)) (fun m4 q3 h1 e1 =>
      j_tx (hx_180 _))
theorem e_180_226 (d : Nat) (x1 x2 : Int) {h : fi_H} (H : Shp h) : c_180_226 d x1 x2 h =
  dv_ (fi_vt 216 (h 0 x1.toNat 0)) fun m4 => ca_ (fj_run d m4 h [(4, x1), (4, 81)]) 0
    (fun v2 h1 =>
    if v2 = 0 then
      c_180_563 d x2 h1
    else
      c_180_563 d 1 h1)
    (fun q3 h1 => tx_ q3 h1) := by
  unfold c_180_226
  exact
    have D : fk_D 180 [(226, some [1, 2], .aload_n 1, 1, 0, 0, 0), (227, none, .ldc 128, 2, 4, 81, 0), (229, none, .invokevirtual 124, 3, 1, 216, 1), (232, none, .ifCond .eq 331, 3, 563, 0, 0), (235, none, .iconst 1, 1, 0, 1, 0), (236, none, .istore_n 2, 1, 0, 0, 0), (237, none, .goto 326, 3, 563, 0, 0)] := fq_of2 cd_180 ow_180 cl_180 rfl (pc := 226) (by decide +kernel)
    j_aldn (pc := 226) D rfl rfl rfl fun D =>
    j_ldc (pc := 227) D rfl fun D =>
    j_ivu (pc := 229) (dd := 216) (a := [(4, 81)]) (rest := []) H.2.1 D rfl rfl rfl rfl rfl (fun m4 v2 h1 e1 D =>
      have T := fj_run_ok _ _ _ _ _ _ H.1 e1
      have H := shp_st H T
      j_ifeq (pc := 232) D rfl (fun q =>
        fk_jump cut_180_563 rfl rfl) (fun q D =>
        j_ic (pc := 235) D rfl fun D =>
        j_istn (pc := 236) (L' := [(2, (0, 1)), (1, (4, x1))]) D rfl nl_180 rfl rfl fun D =>
        j_goto (pc := 237) D rfl <|
        fk_jump cut_180_563 rfl rfl)) (fun m4 q3 h1 e1 =>
      j_tx (hx_180 _))
theorem e_180_240 (d : Nat) (x1 x2 : Int) {h : fi_H} (H : Shp h) : c_180_240 d x1 x2 h =
  dv_ (fi_vt 216 (h 0 x1.toNat 0)) fun m4 => ca_ (fj_run d m4 h [(4, x1), (4, 83)]) 0
    (fun v2 h1 =>
    if v2 = 0 then
      c_180_563 d x2 h1
    else
      c_180_563 d 2 h1)
    (fun q3 h1 => tx_ q3 h1) := by
  unfold c_180_240
  exact
    have D : fk_D 180 [(240, some [1, 2], .aload_n 1, 1, 0, 0, 0), (241, none, .ldc 130, 2, 4, 83, 0), (243, none, .invokevirtual 124, 3, 1, 216, 1), (246, none, .ifCond .eq 317, 3, 563, 0, 0), (249, none, .iconst 2, 1, 0, 2, 0), (250, none, .istore_n 2, 1, 0, 0, 0), (251, none, .goto 312, 3, 563, 0, 0)] := fq_of2 cd_180 ow_180 cl_180 rfl (pc := 240) (by decide +kernel)
    j_aldn (pc := 240) D rfl rfl rfl fun D =>
    j_ldc (pc := 241) D rfl fun D =>
    j_ivu (pc := 243) (dd := 216) (a := [(4, 83)]) (rest := []) H.2.1 D rfl rfl rfl rfl rfl (fun m4 v2 h1 e1 D =>
      have T := fj_run_ok _ _ _ _ _ _ H.1 e1
      have H := shp_st H T
      j_ifeq (pc := 246) D rfl (fun q =>
        fk_jump cut_180_563 rfl rfl) (fun q D =>
        j_ic (pc := 249) D rfl fun D =>
        j_istn (pc := 250) (L' := [(2, (0, 2)), (1, (4, x1))]) D rfl nl_180 rfl rfl fun D =>
        j_goto (pc := 251) D rfl <|
        fk_jump cut_180_563 rfl rfl)) (fun m4 q3 h1 e1 =>
      j_tx (hx_180 _))
theorem e_180_254 (d : Nat) (x1 x2 : Int) {h : fi_H} (H : Shp h) : c_180_254 d x1 x2 h =
  dv_ (fi_vt 216 (h 0 x1.toNat 0)) fun m4 => ca_ (fj_run d m4 h [(4, x1), (4, 85)]) 0
    (fun v2 h1 =>
    if v2 = 0 then
      c_180_563 d x2 h1
    else
      c_180_563 d 3 h1)
    (fun q3 h1 => tx_ q3 h1) := by
  unfold c_180_254
  exact
    have D : fk_D 180 [(254, some [1, 2], .aload_n 1, 1, 0, 0, 0), (255, none, .ldc 132, 2, 4, 85, 0), (257, none, .invokevirtual 124, 3, 1, 216, 1), (260, none, .ifCond .eq 303, 3, 563, 0, 0), (263, none, .iconst 3, 1, 0, 3, 0), (264, none, .istore_n 2, 1, 0, 0, 0), (265, none, .goto 298, 3, 563, 0, 0)] := fq_of2 cd_180 ow_180 cl_180 rfl (pc := 254) (by decide +kernel)
    j_aldn (pc := 254) D rfl rfl rfl fun D =>
    j_ldc (pc := 255) D rfl fun D =>
    j_ivu (pc := 257) (dd := 216) (a := [(4, 85)]) (rest := []) H.2.1 D rfl rfl rfl rfl rfl (fun m4 v2 h1 e1 D =>
      have T := fj_run_ok _ _ _ _ _ _ H.1 e1
      have H := shp_st H T
      j_ifeq (pc := 260) D rfl (fun q =>
        fk_jump cut_180_563 rfl rfl) (fun q D =>
        j_ic (pc := 263) D rfl fun D =>
        j_istn (pc := 264) (L' := [(2, (0, 3)), (1, (4, x1))]) D rfl nl_180 rfl rfl fun D =>
        j_goto (pc := 265) D rfl <|
        fk_jump cut_180_563 rfl rfl)) (fun m4 q3 h1 e1 =>
      j_tx (hx_180 _))
theorem e_180_268 (d : Nat) (x1 x2 : Int) {h : fi_H} (H : Shp h) : c_180_268 d x1 x2 h =
  dv_ (fi_vt 216 (h 0 x1.toNat 0)) fun m4 => ca_ (fj_run d m4 h [(4, x1), (4, 87)]) 0
    (fun v2 h1 =>
    if v2 = 0 then
      c_180_563 d x2 h1
    else
      c_180_563 d 4 h1)
    (fun q3 h1 => tx_ q3 h1) := by
  unfold c_180_268
  exact
    have D : fk_D 180 [(268, some [1, 2], .aload_n 1, 1, 0, 0, 0), (269, none, .ldc 134, 2, 4, 87, 0), (271, none, .invokevirtual 124, 3, 1, 216, 1), (274, none, .ifCond .eq 289, 3, 563, 0, 0), (277, none, .iconst 4, 1, 0, 4, 0), (278, none, .istore_n 2, 1, 0, 0, 0), (279, none, .goto 284, 3, 563, 0, 0)] := fq_of2 cd_180 ow_180 cl_180 rfl (pc := 268) (by decide +kernel)
    j_aldn (pc := 268) D rfl rfl rfl fun D =>
    j_ldc (pc := 269) D rfl fun D =>
    j_ivu (pc := 271) (dd := 216) (a := [(4, 87)]) (rest := []) H.2.1 D rfl rfl rfl rfl rfl (fun m4 v2 h1 e1 D =>
      have T := fj_run_ok _ _ _ _ _ _ H.1 e1
      have H := shp_st H T
      j_ifeq (pc := 274) D rfl (fun q =>
        fk_jump cut_180_563 rfl rfl) (fun q D =>
        j_ic (pc := 277) D rfl fun D =>
        j_istn (pc := 278) (L' := [(2, (0, 4)), (1, (4, x1))]) D rfl nl_180 rfl rfl fun D =>
        j_goto (pc := 279) D rfl <|
        fk_jump cut_180_563 rfl rfl)) (fun m4 q3 h1 e1 =>
      j_tx (hx_180 _))
theorem e_180_282 (d : Nat) (x1 x2 : Int) {h : fi_H} (H : Shp h) : c_180_282 d x1 x2 h =
  dv_ (fi_vt 216 (h 0 x1.toNat 0)) fun m4 => ca_ (fj_run d m4 h [(4, x1), (4, 89)]) 0
    (fun v2 h1 =>
    if v2 = 0 then
      c_180_563 d x2 h1
    else
      c_180_563 d 5 h1)
    (fun q3 h1 => tx_ q3 h1) := by
  unfold c_180_282
  exact
    have D : fk_D 180 [(282, some [1, 2], .aload_n 1, 1, 0, 0, 0), (283, none, .ldc 136, 2, 4, 89, 0), (285, none, .invokevirtual 124, 3, 1, 216, 1), (288, none, .ifCond .eq 275, 3, 563, 0, 0), (291, none, .iconst 5, 1, 0, 5, 0), (292, none, .istore_n 2, 1, 0, 0, 0), (293, none, .goto 270, 3, 563, 0, 0)] := fq_of2 cd_180 ow_180 cl_180 rfl (pc := 282) (by decide +kernel)
    j_aldn (pc := 282) D rfl rfl rfl fun D =>
    j_ldc (pc := 283) D rfl fun D =>
    j_ivu (pc := 285) (dd := 216) (a := [(4, 89)]) (rest := []) H.2.1 D rfl rfl rfl rfl rfl (fun m4 v2 h1 e1 D =>
      have T := fj_run_ok _ _ _ _ _ _ H.1 e1
      have H := shp_st H T
      j_ifeq (pc := 288) D rfl (fun q =>
        fk_jump cut_180_563 rfl rfl) (fun q D =>
        j_ic (pc := 291) D rfl fun D =>
        j_istn (pc := 292) (L' := [(2, (0, 5)), (1, (4, x1))]) D rfl nl_180 rfl rfl fun D =>
        j_goto (pc := 293) D rfl <|
        fk_jump cut_180_563 rfl rfl)) (fun m4 q3 h1 e1 =>
      j_tx (hx_180 _))
theorem e_180_296 (d : Nat) (x1 x2 : Int) {h : fi_H} (H : Shp h) : c_180_296 d x1 x2 h =
  dv_ (fi_vt 216 (h 0 x1.toNat 0)) fun m4 => ca_ (fj_run d m4 h [(4, x1), (4, 91)]) 0
    (fun v2 h1 =>
    if v2 = 0 then
      c_180_563 d x2 h1
    else
      c_180_563 d 6 h1)
    (fun q3 h1 => tx_ q3 h1) := by
  unfold c_180_296
  exact
    have D : fk_D 180 [(296, some [1, 2], .aload_n 1, 1, 0, 0, 0), (297, none, .ldc 138, 2, 4, 91, 0), (299, none, .invokevirtual 124, 3, 1, 216, 1), (302, none, .ifCond .eq 261, 3, 563, 0, 0), (305, none, .bipush 6, 2, 0, 6, 0), (307, none, .istore_n 2, 1, 0, 0, 0), (308, none, .goto 255, 3, 563, 0, 0)] := fq_of2 cd_180 ow_180 cl_180 rfl (pc := 296) (by decide +kernel)
    j_aldn (pc := 296) D rfl rfl rfl fun D =>
    j_ldc (pc := 297) D rfl fun D =>
    j_ivu (pc := 299) (dd := 216) (a := [(4, 91)]) (rest := []) H.2.1 D rfl rfl rfl rfl rfl (fun m4 v2 h1 e1 D =>
      have T := fj_run_ok _ _ _ _ _ _ H.1 e1
      have H := shp_st H T
      j_ifeq (pc := 302) D rfl (fun q =>
        fk_jump cut_180_563 rfl rfl) (fun q D =>
        j_bp (pc := 305) D rfl fun D =>
        j_istn (pc := 307) (L' := [(2, (0, 6)), (1, (4, x1))]) D rfl nl_180 rfl rfl fun D =>
        j_goto (pc := 308) D rfl <|
        fk_jump cut_180_563 rfl rfl)) (fun m4 q3 h1 e1 =>
      j_tx (hx_180 _))
theorem e_180_311 (d : Nat) (x1 x2 : Int) {h : fi_H} (H : Shp h) : c_180_311 d x1 x2 h =
  dv_ (fi_vt 216 (h 0 x1.toNat 0)) fun m4 => ca_ (fj_run d m4 h [(4, x1), (4, 93)]) 0
    (fun v2 h1 =>
    if v2 = 0 then
      c_180_563 d x2 h1
    else
      c_180_563 d 7 h1)
    (fun q3 h1 => tx_ q3 h1) := by
  unfold c_180_311
  exact
    have D : fk_D 180 [(311, some [1, 2], .aload_n 1, 1, 0, 0, 0), (312, none, .ldc 140, 2, 4, 93, 0), (314, none, .invokevirtual 124, 3, 1, 216, 1), (317, none, .ifCond .eq 246, 3, 563, 0, 0), (320, none, .bipush 7, 2, 0, 7, 0), (322, none, .istore_n 2, 1, 0, 0, 0), (323, none, .goto 240, 3, 563, 0, 0)] := fq_of2 cd_180 ow_180 cl_180 rfl (pc := 311) (by decide +kernel)
    j_aldn (pc := 311) D rfl rfl rfl fun D =>
    j_ldc (pc := 312) D rfl fun D =>
    j_ivu (pc := 314) (dd := 216) (a := [(4, 93)]) (rest := []) H.2.1 D rfl rfl rfl rfl rfl (fun m4 v2 h1 e1 D =>
      have T := fj_run_ok _ _ _ _ _ _ H.1 e1
      have H := shp_st H T
      j_ifeq (pc := 317) D rfl (fun q =>
        fk_jump cut_180_563 rfl rfl) (fun q D =>
        j_bp (pc := 320) D rfl fun D =>
        j_istn (pc := 322) (L' := [(2, (0, 7)), (1, (4, x1))]) D rfl nl_180 rfl rfl fun D =>
        j_goto (pc := 323) D rfl <|
        fk_jump cut_180_563 rfl rfl)) (fun m4 q3 h1 e1 =>
      j_tx (hx_180 _))
theorem e_180_326 (d : Nat) (x1 x2 : Int) {h : fi_H} (H : Shp h) : c_180_326 d x1 x2 h =
  dv_ (fi_vt 216 (h 0 x1.toNat 0)) fun m4 => ca_ (fj_run d m4 h [(4, x1), (4, 95)]) 0
    (fun v2 h1 =>
    if v2 = 0 then
      c_180_563 d x2 h1
    else
      c_180_563 d 8 h1)
    (fun q3 h1 => tx_ q3 h1) := by
  unfold c_180_326
  exact
    have D : fk_D 180 [(326, some [1, 2], .aload_n 1, 1, 0, 0, 0), (327, none, .ldc 142, 2, 4, 95, 0), (329, none, .invokevirtual 124, 3, 1, 216, 1), (332, none, .ifCond .eq 231, 3, 563, 0, 0), (335, none, .bipush 8, 2, 0, 8, 0), (337, none, .istore_n 2, 1, 0, 0, 0), (338, none, .goto 225, 3, 563, 0, 0)] := fq_of2 cd_180 ow_180 cl_180 rfl (pc := 326) (by decide +kernel)
    j_aldn (pc := 326) D rfl rfl rfl fun D =>
    j_ldc (pc := 327) D rfl fun D =>
    j_ivu (pc := 329) (dd := 216) (a := [(4, 95)]) (rest := []) H.2.1 D rfl rfl rfl rfl rfl (fun m4 v2 h1 e1 D =>
      have T := fj_run_ok _ _ _ _ _ _ H.1 e1
      have H := shp_st H T
      j_ifeq (pc := 332) D rfl (fun q =>
        fk_jump cut_180_563 rfl rfl) (fun q D =>
        j_bp (pc := 335) D rfl fun D =>
        j_istn (pc := 337) (L' := [(2, (0, 8)), (1, (4, x1))]) D rfl nl_180 rfl rfl fun D =>
        j_goto (pc := 338) D rfl <|
        fk_jump cut_180_563 rfl rfl)) (fun m4 q3 h1 e1 =>
      j_tx (hx_180 _))
theorem e_180_341 (d : Nat) (x1 x2 : Int) {h : fi_H} (H : Shp h) : c_180_341 d x1 x2 h =
  dv_ (fi_vt 216 (h 0 x1.toNat 0)) fun m4 => ca_ (fj_run d m4 h [(4, x1), (4, 97)]) 0
    (fun v2 h1 =>
    if v2 = 0 then
      c_180_563 d x2 h1
    else
      c_180_563 d 9 h1)
    (fun q3 h1 => tx_ q3 h1) := by
  unfold c_180_341
  exact
    have D : fk_D 180 [(341, some [1, 2], .aload_n 1, 1, 0, 0, 0), (342, none, .ldc 144, 2, 4, 97, 0), (344, none, .invokevirtual 124, 3, 1, 216, 1), (347, none, .ifCond .eq 216, 3, 563, 0, 0), (350, none, .bipush 9, 2, 0, 9, 0), (352, none, .istore_n 2, 1, 0, 0, 0), (353, none, .goto 210, 3, 563, 0, 0)] := fq_of2 cd_180 ow_180 cl_180 rfl (pc := 341) (by decide +kernel)
    j_aldn (pc := 341) D rfl rfl rfl fun D =>
    j_ldc (pc := 342) D rfl fun D =>
    j_ivu (pc := 344) (dd := 216) (a := [(4, 97)]) (rest := []) H.2.1 D rfl rfl rfl rfl rfl (fun m4 v2 h1 e1 D =>
      have T := fj_run_ok _ _ _ _ _ _ H.1 e1
      have H := shp_st H T
      j_ifeq (pc := 347) D rfl (fun q =>
        fk_jump cut_180_563 rfl rfl) (fun q D =>
        j_bp (pc := 350) D rfl fun D =>
        j_istn (pc := 352) (L' := [(2, (0, 9)), (1, (4, x1))]) D rfl nl_180 rfl rfl fun D =>
        j_goto (pc := 353) D rfl <|
        fk_jump cut_180_563 rfl rfl)) (fun m4 q3 h1 e1 =>
      j_tx (hx_180 _))
theorem e_180_356 (d : Nat) (x1 x2 : Int) {h : fi_H} (H : Shp h) : c_180_356 d x1 x2 h =
  dv_ (fi_vt 216 (h 0 x1.toNat 0)) fun m4 => ca_ (fj_run d m4 h [(4, x1), (4, 99)]) 0
    (fun v2 h1 =>
    if v2 = 0 then
      c_180_563 d x2 h1
    else
      c_180_563 d 10 h1)
    (fun q3 h1 => tx_ q3 h1) := by
  unfold c_180_356
  exact
    have D : fk_D 180 [(356, some [1, 2], .aload_n 1, 1, 0, 0, 0), (357, none, .ldc 146, 2, 4, 99, 0), (359, none, .invokevirtual 124, 3, 1, 216, 1), (362, none, .ifCond .eq 201, 3, 563, 0, 0), (365, none, .bipush 10, 2, 0, 10, 0), (367, none, .istore_n 2, 1, 0, 0, 0), (368, none, .goto 195, 3, 563, 0, 0)] := fq_of2 cd_180 ow_180 cl_180 rfl (pc := 356) (by decide +kernel)
    j_aldn (pc := 356) D rfl rfl rfl fun D =>
    j_ldc (pc := 357) D rfl fun D =>
    j_ivu (pc := 359) (dd := 216) (a := [(4, 99)]) (rest := []) H.2.1 D rfl rfl rfl rfl rfl (fun m4 v2 h1 e1 D =>
      have T := fj_run_ok _ _ _ _ _ _ H.1 e1
      have H := shp_st H T
      j_ifeq (pc := 362) D rfl (fun q =>
        fk_jump cut_180_563 rfl rfl) (fun q D =>
        j_bp (pc := 365) D rfl fun D =>
        j_istn (pc := 367) (L' := [(2, (0, 10)), (1, (4, x1))]) D rfl nl_180 rfl rfl fun D =>
        j_goto (pc := 368) D rfl <|
        fk_jump cut_180_563 rfl rfl)) (fun m4 q3 h1 e1 =>
      j_tx (hx_180 _))
theorem e_180_371 (d : Nat) (x1 x2 : Int) {h : fi_H} (H : Shp h) : c_180_371 d x1 x2 h =
  dv_ (fi_vt 216 (h 0 x1.toNat 0)) fun m4 => ca_ (fj_run d m4 h [(4, x1), (4, 101)]) 0
    (fun v2 h1 =>
    if v2 = 0 then
      c_180_563 d x2 h1
    else
      c_180_563 d 11 h1)
    (fun q3 h1 => tx_ q3 h1) := by
  unfold c_180_371
  exact
    have D : fk_D 180 [(371, some [1, 2], .aload_n 1, 1, 0, 0, 0), (372, none, .ldc 148, 2, 4, 101, 0), (374, none, .invokevirtual 124, 3, 1, 216, 1), (377, none, .ifCond .eq 186, 3, 563, 0, 0), (380, none, .bipush 11, 2, 0, 11, 0), (382, none, .istore_n 2, 1, 0, 0, 0), (383, none, .goto 180, 3, 563, 0, 0)] := fq_of2 cd_180 ow_180 cl_180 rfl (pc := 371) (by decide +kernel)
    j_aldn (pc := 371) D rfl rfl rfl fun D =>
    j_ldc (pc := 372) D rfl fun D =>
    j_ivu (pc := 374) (dd := 216) (a := [(4, 101)]) (rest := []) H.2.1 D rfl rfl rfl rfl rfl (fun m4 v2 h1 e1 D =>
      have T := fj_run_ok _ _ _ _ _ _ H.1 e1
      have H := shp_st H T
      j_ifeq (pc := 377) D rfl (fun q =>
        fk_jump cut_180_563 rfl rfl) (fun q D =>
        j_bp (pc := 380) D rfl fun D =>
        j_istn (pc := 382) (L' := [(2, (0, 11)), (1, (4, x1))]) D rfl nl_180 rfl rfl fun D =>
        j_goto (pc := 383) D rfl <|
        fk_jump cut_180_563 rfl rfl)) (fun m4 q3 h1 e1 =>
      j_tx (hx_180 _))
theorem e_180_386 (d : Nat) (x1 x2 : Int) {h : fi_H} (H : Shp h) : c_180_386 d x1 x2 h =
  dv_ (fi_vt 216 (h 0 x1.toNat 0)) fun m4 => ca_ (fj_run d m4 h [(4, x1), (4, 103)]) 0
    (fun v2 h1 =>
    if v2 = 0 then
      c_180_563 d x2 h1
    else
      c_180_563 d 12 h1)
    (fun q3 h1 => tx_ q3 h1) := by
  unfold c_180_386
  exact
    have D : fk_D 180 [(386, some [1, 2], .aload_n 1, 1, 0, 0, 0), (387, none, .ldc 150, 2, 4, 103, 0), (389, none, .invokevirtual 124, 3, 1, 216, 1), (392, none, .ifCond .eq 171, 3, 563, 0, 0), (395, none, .bipush 12, 2, 0, 12, 0), (397, none, .istore_n 2, 1, 0, 0, 0), (398, none, .goto 165, 3, 563, 0, 0)] := fq_of2 cd_180 ow_180 cl_180 rfl (pc := 386) (by decide +kernel)
    j_aldn (pc := 386) D rfl rfl rfl fun D =>
    j_ldc (pc := 387) D rfl fun D =>
    j_ivu (pc := 389) (dd := 216) (a := [(4, 103)]) (rest := []) H.2.1 D rfl rfl rfl rfl rfl (fun m4 v2 h1 e1 D =>
      have T := fj_run_ok _ _ _ _ _ _ H.1 e1
      have H := shp_st H T
      j_ifeq (pc := 392) D rfl (fun q =>
        fk_jump cut_180_563 rfl rfl) (fun q D =>
        j_bp (pc := 395) D rfl fun D =>
        j_istn (pc := 397) (L' := [(2, (0, 12)), (1, (4, x1))]) D rfl nl_180 rfl rfl fun D =>
        j_goto (pc := 398) D rfl <|
        fk_jump cut_180_563 rfl rfl)) (fun m4 q3 h1 e1 =>
      j_tx (hx_180 _))
theorem e_180_401 (d : Nat) (x1 x2 : Int) {h : fi_H} (H : Shp h) : c_180_401 d x1 x2 h =
  dv_ (fi_vt 216 (h 0 x1.toNat 0)) fun m4 => ca_ (fj_run d m4 h [(4, x1), (4, 105)]) 0
    (fun v2 h1 =>
    if v2 = 0 then
      c_180_563 d x2 h1
    else
      c_180_563 d 13 h1)
    (fun q3 h1 => tx_ q3 h1) := by
  unfold c_180_401
  exact
    have D : fk_D 180 [(401, some [1, 2], .aload_n 1, 1, 0, 0, 0), (402, none, .ldc 152, 2, 4, 105, 0), (404, none, .invokevirtual 124, 3, 1, 216, 1), (407, none, .ifCond .eq 156, 3, 563, 0, 0), (410, none, .bipush 13, 2, 0, 13, 0), (412, none, .istore_n 2, 1, 0, 0, 0), (413, none, .goto 150, 3, 563, 0, 0)] := fq_of2 cd_180 ow_180 cl_180 rfl (pc := 401) (by decide +kernel)
    j_aldn (pc := 401) D rfl rfl rfl fun D =>
    j_ldc (pc := 402) D rfl fun D =>
    j_ivu (pc := 404) (dd := 216) (a := [(4, 105)]) (rest := []) H.2.1 D rfl rfl rfl rfl rfl (fun m4 v2 h1 e1 D =>
      have T := fj_run_ok _ _ _ _ _ _ H.1 e1
      have H := shp_st H T
      j_ifeq (pc := 407) D rfl (fun q =>
        fk_jump cut_180_563 rfl rfl) (fun q D =>
        j_bp (pc := 410) D rfl fun D =>
        j_istn (pc := 412) (L' := [(2, (0, 13)), (1, (4, x1))]) D rfl nl_180 rfl rfl fun D =>
        j_goto (pc := 413) D rfl <|
        fk_jump cut_180_563 rfl rfl)) (fun m4 q3 h1 e1 =>
      j_tx (hx_180 _))
theorem e_180_416 (d : Nat) (x1 x2 : Int) {h : fi_H} (H : Shp h) : c_180_416 d x1 x2 h =
  dv_ (fi_vt 216 (h 0 x1.toNat 0)) fun m4 => ca_ (fj_run d m4 h [(4, x1), (4, 107)]) 0
    (fun v2 h1 =>
    if v2 = 0 then
      c_180_563 d x2 h1
    else
      c_180_563 d 14 h1)
    (fun q3 h1 => tx_ q3 h1) := by
  unfold c_180_416
  exact
    have D : fk_D 180 [(416, some [1, 2], .aload_n 1, 1, 0, 0, 0), (417, none, .ldc 154, 2, 4, 107, 0), (419, none, .invokevirtual 124, 3, 1, 216, 1), (422, none, .ifCond .eq 141, 3, 563, 0, 0), (425, none, .bipush 14, 2, 0, 14, 0), (427, none, .istore_n 2, 1, 0, 0, 0), (428, none, .goto 135, 3, 563, 0, 0)] := fq_of2 cd_180 ow_180 cl_180 rfl (pc := 416) (by decide +kernel)
    j_aldn (pc := 416) D rfl rfl rfl fun D =>
    j_ldc (pc := 417) D rfl fun D =>
    j_ivu (pc := 419) (dd := 216) (a := [(4, 107)]) (rest := []) H.2.1 D rfl rfl rfl rfl rfl (fun m4 v2 h1 e1 D =>
      have T := fj_run_ok _ _ _ _ _ _ H.1 e1
      have H := shp_st H T
      j_ifeq (pc := 422) D rfl (fun q =>
        fk_jump cut_180_563 rfl rfl) (fun q D =>
        j_bp (pc := 425) D rfl fun D =>
        j_istn (pc := 427) (L' := [(2, (0, 14)), (1, (4, x1))]) D rfl nl_180 rfl rfl fun D =>
        j_goto (pc := 428) D rfl <|
        fk_jump cut_180_563 rfl rfl)) (fun m4 q3 h1 e1 =>
      j_tx (hx_180 _))
theorem e_180_431 (d : Nat) (x1 x2 : Int) {h : fi_H} (H : Shp h) : c_180_431 d x1 x2 h =
  dv_ (fi_vt 216 (h 0 x1.toNat 0)) fun m4 => ca_ (fj_run d m4 h [(4, x1), (4, 109)]) 0
    (fun v2 h1 =>
    if v2 = 0 then
      c_180_563 d x2 h1
    else
      c_180_563 d 15 h1)
    (fun q3 h1 => tx_ q3 h1) := by
  unfold c_180_431
  exact
    have D : fk_D 180 [(431, some [1, 2], .aload_n 1, 1, 0, 0, 0), (432, none, .ldc 156, 2, 4, 109, 0), (434, none, .invokevirtual 124, 3, 1, 216, 1), (437, none, .ifCond .eq 126, 3, 563, 0, 0), (440, none, .bipush 15, 2, 0, 15, 0), (442, none, .istore_n 2, 1, 0, 0, 0), (443, none, .goto 120, 3, 563, 0, 0)] := fq_of2 cd_180 ow_180 cl_180 rfl (pc := 431) (by decide +kernel)
    j_aldn (pc := 431) D rfl rfl rfl fun D =>
    j_ldc (pc := 432) D rfl fun D =>
    j_ivu (pc := 434) (dd := 216) (a := [(4, 109)]) (rest := []) H.2.1 D rfl rfl rfl rfl rfl (fun m4 v2 h1 e1 D =>
      have T := fj_run_ok _ _ _ _ _ _ H.1 e1
      have H := shp_st H T
      j_ifeq (pc := 437) D rfl (fun q =>
        fk_jump cut_180_563 rfl rfl) (fun q D =>
        j_bp (pc := 440) D rfl fun D =>
        j_istn (pc := 442) (L' := [(2, (0, 15)), (1, (4, x1))]) D rfl nl_180 rfl rfl fun D =>
        j_goto (pc := 443) D rfl <|
        fk_jump cut_180_563 rfl rfl)) (fun m4 q3 h1 e1 =>
      j_tx (hx_180 _))
theorem e_180_446 (d : Nat) (x1 x2 : Int) {h : fi_H} (H : Shp h) : c_180_446 d x1 x2 h =
  dv_ (fi_vt 216 (h 0 x1.toNat 0)) fun m4 => ca_ (fj_run d m4 h [(4, x1), (4, 111)]) 0
    (fun v2 h1 =>
    if v2 = 0 then
      c_180_563 d x2 h1
    else
      c_180_563 d 16 h1)
    (fun q3 h1 => tx_ q3 h1) := by
  unfold c_180_446
  exact
    have D : fk_D 180 [(446, some [1, 2], .aload_n 1, 1, 0, 0, 0), (447, none, .ldc 158, 2, 4, 111, 0), (449, none, .invokevirtual 124, 3, 1, 216, 1), (452, none, .ifCond .eq 111, 3, 563, 0, 0), (455, none, .bipush 16, 2, 0, 16, 0), (457, none, .istore_n 2, 1, 0, 0, 0), (458, none, .goto 105, 3, 563, 0, 0)] := fq_of2 cd_180 ow_180 cl_180 rfl (pc := 446) (by decide +kernel)
    j_aldn (pc := 446) D rfl rfl rfl fun D =>
    j_ldc (pc := 447) D rfl fun D =>
    j_ivu (pc := 449) (dd := 216) (a := [(4, 111)]) (rest := []) H.2.1 D rfl rfl rfl rfl rfl (fun m4 v2 h1 e1 D =>
      have T := fj_run_ok _ _ _ _ _ _ H.1 e1
      have H := shp_st H T
      j_ifeq (pc := 452) D rfl (fun q =>
        fk_jump cut_180_563 rfl rfl) (fun q D =>
        j_bp (pc := 455) D rfl fun D =>
        j_istn (pc := 457) (L' := [(2, (0, 16)), (1, (4, x1))]) D rfl nl_180 rfl rfl fun D =>
        j_goto (pc := 458) D rfl <|
        fk_jump cut_180_563 rfl rfl)) (fun m4 q3 h1 e1 =>
      j_tx (hx_180 _))
theorem e_180_461 (d : Nat) (x1 x2 : Int) {h : fi_H} (H : Shp h) : c_180_461 d x1 x2 h =
  dv_ (fi_vt 216 (h 0 x1.toNat 0)) fun m4 => ca_ (fj_run d m4 h [(4, x1), (4, 113)]) 0
    (fun v2 h1 =>
    if v2 = 0 then
      c_180_563 d x2 h1
    else
      c_180_563 d 17 h1)
    (fun q3 h1 => tx_ q3 h1) := by
  unfold c_180_461
  exact
    have D : fk_D 180 [(461, some [1, 2], .aload_n 1, 1, 0, 0, 0), (462, none, .ldc 160, 2, 4, 113, 0), (464, none, .invokevirtual 124, 3, 1, 216, 1), (467, none, .ifCond .eq 96, 3, 563, 0, 0), (470, none, .bipush 17, 2, 0, 17, 0), (472, none, .istore_n 2, 1, 0, 0, 0), (473, none, .goto 90, 3, 563, 0, 0)] := fq_of2 cd_180 ow_180 cl_180 rfl (pc := 461) (by decide +kernel)
    j_aldn (pc := 461) D rfl rfl rfl fun D =>
    j_ldc (pc := 462) D rfl fun D =>
    j_ivu (pc := 464) (dd := 216) (a := [(4, 113)]) (rest := []) H.2.1 D rfl rfl rfl rfl rfl (fun m4 v2 h1 e1 D =>
      have T := fj_run_ok _ _ _ _ _ _ H.1 e1
      have H := shp_st H T
      j_ifeq (pc := 467) D rfl (fun q =>
        fk_jump cut_180_563 rfl rfl) (fun q D =>
        j_bp (pc := 470) D rfl fun D =>
        j_istn (pc := 472) (L' := [(2, (0, 17)), (1, (4, x1))]) D rfl nl_180 rfl rfl fun D =>
        j_goto (pc := 473) D rfl <|
        fk_jump cut_180_563 rfl rfl)) (fun m4 q3 h1 e1 =>
      j_tx (hx_180 _))
theorem e_180_476 (d : Nat) (x1 x2 : Int) {h : fi_H} (H : Shp h) : c_180_476 d x1 x2 h =
  dv_ (fi_vt 216 (h 0 x1.toNat 0)) fun m4 => ca_ (fj_run d m4 h [(4, x1), (4, 115)]) 0
    (fun v2 h1 =>
    if v2 = 0 then
      c_180_563 d x2 h1
    else
      c_180_563 d 18 h1)
    (fun q3 h1 => tx_ q3 h1) := by
  unfold c_180_476
  exact
    have D : fk_D 180 [(476, some [1, 2], .aload_n 1, 1, 0, 0, 0), (477, none, .ldc 162, 2, 4, 115, 0), (479, none, .invokevirtual 124, 3, 1, 216, 1), (482, none, .ifCond .eq 81, 3, 563, 0, 0), (485, none, .bipush 18, 2, 0, 18, 0), (487, none, .istore_n 2, 1, 0, 0, 0), (488, none, .goto 75, 3, 563, 0, 0)] := fq_of2 cd_180 ow_180 cl_180 rfl (pc := 476) (by decide +kernel)
    j_aldn (pc := 476) D rfl rfl rfl fun D =>
    j_ldc (pc := 477) D rfl fun D =>
    j_ivu (pc := 479) (dd := 216) (a := [(4, 115)]) (rest := []) H.2.1 D rfl rfl rfl rfl rfl (fun m4 v2 h1 e1 D =>
      have T := fj_run_ok _ _ _ _ _ _ H.1 e1
      have H := shp_st H T
      j_ifeq (pc := 482) D rfl (fun q =>
        fk_jump cut_180_563 rfl rfl) (fun q D =>
        j_bp (pc := 485) D rfl fun D =>
        j_istn (pc := 487) (L' := [(2, (0, 18)), (1, (4, x1))]) D rfl nl_180 rfl rfl fun D =>
        j_goto (pc := 488) D rfl <|
        fk_jump cut_180_563 rfl rfl)) (fun m4 q3 h1 e1 =>
      j_tx (hx_180 _))
theorem e_180_491 (d : Nat) (x1 x2 : Int) {h : fi_H} (H : Shp h) : c_180_491 d x1 x2 h =
  dv_ (fi_vt 216 (h 0 x1.toNat 0)) fun m4 => ca_ (fj_run d m4 h [(4, x1), (4, 117)]) 0
    (fun v2 h1 =>
    if v2 = 0 then
      c_180_563 d x2 h1
    else
      c_180_563 d 19 h1)
    (fun q3 h1 => tx_ q3 h1) := by
  unfold c_180_491
  exact
    have D : fk_D 180 [(491, some [1, 2], .aload_n 1, 1, 0, 0, 0), (492, none, .ldc 164, 2, 4, 117, 0), (494, none, .invokevirtual 124, 3, 1, 216, 1), (497, none, .ifCond .eq 66, 3, 563, 0, 0), (500, none, .bipush 19, 2, 0, 19, 0), (502, none, .istore_n 2, 1, 0, 0, 0), (503, none, .goto 60, 3, 563, 0, 0)] := fq_of2 cd_180 ow_180 cl_180 rfl (pc := 491) (by decide +kernel)
    j_aldn (pc := 491) D rfl rfl rfl fun D =>
    j_ldc (pc := 492) D rfl fun D =>
    j_ivu (pc := 494) (dd := 216) (a := [(4, 117)]) (rest := []) H.2.1 D rfl rfl rfl rfl rfl (fun m4 v2 h1 e1 D =>
      have T := fj_run_ok _ _ _ _ _ _ H.1 e1
      have H := shp_st H T
      j_ifeq (pc := 497) D rfl (fun q =>
        fk_jump cut_180_563 rfl rfl) (fun q D =>
        j_bp (pc := 500) D rfl fun D =>
        j_istn (pc := 502) (L' := [(2, (0, 19)), (1, (4, x1))]) D rfl nl_180 rfl rfl fun D =>
        j_goto (pc := 503) D rfl <|
        fk_jump cut_180_563 rfl rfl)) (fun m4 q3 h1 e1 =>
      j_tx (hx_180 _))
theorem e_180_506 (d : Nat) (x1 x2 : Int) {h : fi_H} (H : Shp h) : c_180_506 d x1 x2 h =
  dv_ (fi_vt 216 (h 0 x1.toNat 0)) fun m4 => ca_ (fj_run d m4 h [(4, x1), (4, 119)]) 0
    (fun v2 h1 =>
    if v2 = 0 then
      c_180_563 d x2 h1
    else
      c_180_563 d 20 h1)
    (fun q3 h1 => tx_ q3 h1) := by
  unfold c_180_506
  exact
    have D : fk_D 180 [(506, some [1, 2], .aload_n 1, 1, 0, 0, 0), (507, none, .ldc 166, 2, 4, 119, 0), (509, none, .invokevirtual 124, 3, 1, 216, 1), (512, none, .ifCond .eq 51, 3, 563, 0, 0), (515, none, .bipush 20, 2, 0, 20, 0), (517, none, .istore_n 2, 1, 0, 0, 0), (518, none, .goto 45, 3, 563, 0, 0)] := fq_of2 cd_180 ow_180 cl_180 rfl (pc := 506) (by decide +kernel)
    j_aldn (pc := 506) D rfl rfl rfl fun D =>
    j_ldc (pc := 507) D rfl fun D =>
    j_ivu (pc := 509) (dd := 216) (a := [(4, 119)]) (rest := []) H.2.1 D rfl rfl rfl rfl rfl (fun m4 v2 h1 e1 D =>
      have T := fj_run_ok _ _ _ _ _ _ H.1 e1
      have H := shp_st H T
      j_ifeq (pc := 512) D rfl (fun q =>
        fk_jump cut_180_563 rfl rfl) (fun q D =>
        j_bp (pc := 515) D rfl fun D =>
        j_istn (pc := 517) (L' := [(2, (0, 20)), (1, (4, x1))]) D rfl nl_180 rfl rfl fun D =>
        j_goto (pc := 518) D rfl <|
        fk_jump cut_180_563 rfl rfl)) (fun m4 q3 h1 e1 =>
      j_tx (hx_180 _))
theorem e_180_521 (d : Nat) (x1 x2 : Int) {h : fi_H} (H : Shp h) : c_180_521 d x1 x2 h =
  dv_ (fi_vt 216 (h 0 x1.toNat 0)) fun m4 => ca_ (fj_run d m4 h [(4, x1), (4, 121)]) 0
    (fun v2 h1 =>
    if v2 = 0 then
      c_180_563 d x2 h1
    else
      c_180_563 d 21 h1)
    (fun q3 h1 => tx_ q3 h1) := by
  unfold c_180_521
  exact
    have D : fk_D 180 [(521, some [1, 2], .aload_n 1, 1, 0, 0, 0), (522, none, .ldc 168, 2, 4, 121, 0), (524, none, .invokevirtual 124, 3, 1, 216, 1), (527, none, .ifCond .eq 36, 3, 563, 0, 0), (530, none, .bipush 21, 2, 0, 21, 0), (532, none, .istore_n 2, 1, 0, 0, 0), (533, none, .goto 30, 3, 563, 0, 0)] := fq_of2 cd_180 ow_180 cl_180 rfl (pc := 521) (by decide +kernel)
    j_aldn (pc := 521) D rfl rfl rfl fun D =>
    j_ldc (pc := 522) D rfl fun D =>
    j_ivu (pc := 524) (dd := 216) (a := [(4, 121)]) (rest := []) H.2.1 D rfl rfl rfl rfl rfl (fun m4 v2 h1 e1 D =>
      have T := fj_run_ok _ _ _ _ _ _ H.1 e1
      have H := shp_st H T
      j_ifeq (pc := 527) D rfl (fun q =>
        fk_jump cut_180_563 rfl rfl) (fun q D =>
        j_bp (pc := 530) D rfl fun D =>
        j_istn (pc := 532) (L' := [(2, (0, 21)), (1, (4, x1))]) D rfl nl_180 rfl rfl fun D =>
        j_goto (pc := 533) D rfl <|
        fk_jump cut_180_563 rfl rfl)) (fun m4 q3 h1 e1 =>
      j_tx (hx_180 _))
theorem e_180_536 (d : Nat) (x1 x2 : Int) {h : fi_H} (H : Shp h) : c_180_536 d x1 x2 h =
  dv_ (fi_vt 216 (h 0 x1.toNat 0)) fun m4 => ca_ (fj_run d m4 h [(4, x1), (4, 123)]) 0
    (fun v2 h1 =>
    if v2 = 0 then
      c_180_563 d x2 h1
    else
      c_180_563 d 22 h1)
    (fun q3 h1 => tx_ q3 h1) := by
  unfold c_180_536
  exact
    have D : fk_D 180 [(536, some [1, 2], .aload_n 1, 1, 0, 0, 0), (537, none, .ldc 170, 2, 4, 123, 0), (539, none, .invokevirtual 124, 3, 1, 216, 1), (542, none, .ifCond .eq 21, 3, 563, 0, 0), (545, none, .bipush 22, 2, 0, 22, 0), (547, none, .istore_n 2, 1, 0, 0, 0), (548, none, .goto 15, 3, 563, 0, 0)] := fq_of2 cd_180 ow_180 cl_180 rfl (pc := 536) (by decide +kernel)
    j_aldn (pc := 536) D rfl rfl rfl fun D =>
    j_ldc (pc := 537) D rfl fun D =>
    j_ivu (pc := 539) (dd := 216) (a := [(4, 123)]) (rest := []) H.2.1 D rfl rfl rfl rfl rfl (fun m4 v2 h1 e1 D =>
      have T := fj_run_ok _ _ _ _ _ _ H.1 e1
      have H := shp_st H T
      j_ifeq (pc := 542) D rfl (fun q =>
        fk_jump cut_180_563 rfl rfl) (fun q D =>
        j_bp (pc := 545) D rfl fun D =>
        j_istn (pc := 547) (L' := [(2, (0, 22)), (1, (4, x1))]) D rfl nl_180 rfl rfl fun D =>
        j_goto (pc := 548) D rfl <|
        fk_jump cut_180_563 rfl rfl)) (fun m4 q3 h1 e1 =>
      j_tx (hx_180 _))
theorem e_180_551 (d : Nat) (x1 x2 : Int) {h : fi_H} (H : Shp h) : c_180_551 d x1 x2 h =
  dv_ (fi_vt 216 (h 0 x1.toNat 0)) fun m4 => ca_ (fj_run d m4 h [(4, x1), (4, 125)]) 0
    (fun v2 h1 =>
    if v2 = 0 then
      c_180_563 d x2 h1
    else
      c_180_563 d 23 h1)
    (fun q3 h1 => tx_ q3 h1) := by
  unfold c_180_551
  exact
    have D : fk_D 180 [(551, some [1, 2], .aload_n 1, 1, 0, 0, 0), (552, none, .ldc 172, 2, 4, 125, 0), (554, none, .invokevirtual 124, 3, 1, 216, 1), (557, none, .ifCond .eq 6, 3, 563, 0, 0), (560, none, .bipush 23, 2, 0, 23, 0), (562, none, .istore_n 2, 1, 0, 0, 0)] := fq_of2 cd_180 ow_180 cl_180 rfl (pc := 551) (by decide +kernel)
    j_aldn (pc := 551) D rfl rfl rfl fun D =>
    j_ldc (pc := 552) D rfl fun D =>
    j_ivu (pc := 554) (dd := 216) (a := [(4, 125)]) (rest := []) H.2.1 D rfl rfl rfl rfl rfl (fun m4 v2 h1 e1 D =>
      have T := fj_run_ok _ _ _ _ _ _ H.1 e1
      have H := shp_st H T
      j_ifeq (pc := 557) D rfl (fun q =>
        fk_jump cut_180_563 rfl rfl) (fun q D =>
        j_bp (pc := 560) D rfl fun D =>
        j_istn (pc := 562) (L' := [(2, (0, 23)), (1, (4, x1))]) D rfl nl_180 rfl rfl fun D =>
        fk_jump cut_180_563 rfl rfl)) (fun m4 q3 h1 e1 =>
      j_tx (hx_180 _))
theorem e_180_563 (d : Nat) (x2 : Int) {h : fi_H} (H : Shp h) : c_180_563 d x2 h =
  if x2 = 0 then
    c_180_676 d h
  else if x2 = 1 then
    c_180_680 d h
  else if x2 = 2 then
    c_180_684 d h
  else if x2 = 3 then
    c_180_688 d h
  else if x2 = 4 then
    c_180_692 d h
  else if x2 = 5 then
    c_180_696 d h
  else if x2 = 6 then
    c_180_700 d h
  else if x2 = 7 then
    c_180_704 d h
  else if x2 = 8 then
    c_180_708 d h
  else if x2 = 9 then
    c_180_712 d h
  else if x2 = 10 then
    c_180_716 d h
  else if x2 = 11 then
    c_180_720 d h
  else if x2 = 12 then
    c_180_724 d h
  else if x2 = 13 then
    c_180_728 d h
  else if x2 = 14 then
    c_180_732 d h
  else if x2 = 15 then
    c_180_736 d h
  else if x2 = 16 then
    c_180_740 d h
  else if x2 = 17 then
    c_180_744 d h
  else if x2 = 18 then
    c_180_748 d h
  else if x2 = 19 then
    c_180_752 d h
  else if x2 = 20 then
    c_180_756 d h
  else if x2 = 21 then
    c_180_760 d h
  else if x2 = 22 then
    c_180_764 d h
  else if x2 = 23 then
    c_180_768 d h
  else 
    c_180_772 d h := by
  unfold c_180_563
  exact
    have D : fk_D 180 [(563, some [2], .iload_n 2, 1, 0, 0, 0), (564, none, .tableswitch 208 0 23 #[112, 116, 120, 124, 128, 132, 136, 140, 144, 148, 152, 156, 160, 164, 168, 172, 176, 180, 184, 188, 192, 196, 200, 204], 112, 0, 0, 0)] := fq_of3 cd_180 ow_180 cl_180 rfl (pc := 563) (by decide +kernel)
    j_ildn (pc := 563) D rfl rfl rfl fun D =>
    have N : fk_ni (x2) [] := trivial
    j_tc (pc := 564) 0 (t := 676) D N rfl (by decide +kernel) (fun q =>
      fk_jump cut_180_676 rfl rfl) (fun N =>
      j_tc 1 (t := 680) D N rfl (by decide +kernel) (fun q =>
        fk_jump cut_180_680 rfl rfl) (fun N =>
        j_tc 2 (t := 684) D N rfl (by decide +kernel) (fun q =>
          fk_jump cut_180_684 rfl rfl) (fun N =>
          j_tc 3 (t := 688) D N rfl (by decide +kernel) (fun q =>
            fk_jump cut_180_688 rfl rfl) (fun N =>
            j_tc 4 (t := 692) D N rfl (by decide +kernel) (fun q =>
              fk_jump cut_180_692 rfl rfl) (fun N =>
              j_tc 5 (t := 696) D N rfl (by decide +kernel) (fun q =>
                fk_jump cut_180_696 rfl rfl) (fun N =>
                j_tc 6 (t := 700) D N rfl (by decide +kernel) (fun q =>
                  fk_jump cut_180_700 rfl rfl) (fun N =>
                  j_tc 7 (t := 704) D N rfl (by decide +kernel) (fun q =>
                    fk_jump cut_180_704 rfl rfl) (fun N =>
                    j_tc 8 (t := 708) D N rfl (by decide +kernel) (fun q =>
                      fk_jump cut_180_708 rfl rfl) (fun N =>
                      j_tc 9 (t := 712) D N rfl (by decide +kernel) (fun q =>
                        fk_jump cut_180_712 rfl rfl) (fun N =>
                        j_tc 10 (t := 716) D N rfl (by decide +kernel) (fun q =>
                          fk_jump cut_180_716 rfl rfl) (fun N =>
                          j_tc 11 (t := 720) D N rfl (by decide +kernel) (fun q =>
                            fk_jump cut_180_720 rfl rfl) (fun N =>
                            j_tc 12 (t := 724) D N rfl (by decide +kernel) (fun q =>
                              fk_jump cut_180_724 rfl rfl) (fun N =>
                              j_tc 13 (t := 728) D N rfl (by decide +kernel) (fun q =>
                                fk_jump cut_180_728 rfl rfl) (fun N =>
                                j_tc 14 (t := 732) D N rfl (by decide +kernel) (fun q =>
                                  fk_jump cut_180_732 rfl rfl) (fun N =>
                                  j_tc 15 (t := 736) D N rfl (by decide +kernel) (fun q =>
                                    fk_jump cut_180_736 rfl rfl) (fun N =>
                                    j_tc 16 (t := 740) D N rfl (by decide +kernel) (fun q =>
                                      fk_jump cut_180_740 rfl rfl) (fun N =>
                                      j_tc 17 (t := 744) D N rfl (by decide +kernel) (fun q =>
                                        fk_jump cut_180_744 rfl rfl) (fun N =>
                                        j_tc 18 (t := 748) D N rfl (by decide +kernel) (fun q =>
                                          fk_jump cut_180_748 rfl rfl) (fun N =>
                                          j_tc 19 (t := 752) D N rfl (by decide +kernel) (fun q =>
                                            fk_jump cut_180_752 rfl rfl) (fun N =>
                                            j_tc 20 (t := 756) D N rfl (by decide +kernel) (fun q =>
                                              fk_jump cut_180_756 rfl rfl) (fun N =>
                                              j_tc 21 (t := 760) D N rfl (by decide +kernel) (fun q =>
                                                fk_jump cut_180_760 rfl rfl) (fun N =>
                                                j_tc 22 (t := 764) D N rfl (by decide +kernel) (fun q =>
                                                  fk_jump cut_180_764 rfl rfl) (fun N =>
                                                  j_tc 23 (t := 768) D N rfl (by decide +kernel) (fun q =>
                                                    fk_jump cut_180_768 rfl rfl) (fun N =>
                                                    j_td (t := 772) D N rfl (by decide +kernel) (by decide +kernel) <|
                                                    fk_jump cut_180_772 rfl rfl))))))))))))))))))))))))
theorem e_180_676 (d : Nat) {h : fi_H} (H : Shp h) : c_180_676 d h =
  some (.inl (some (4, 30)), h) := by
  unfold c_180_676
  exact
    have D : fk_D 180 [(676, some [], .getstatic 3, 3, 4, 30, 0), (679, none, .areturn, 1, 0, 0, 0)] := fq_of2 cd_180 ow_180 cl_180 rfl (pc := 676) (by decide +kernel)
    j_gs (pc := 676) D rfl fun D =>
    j_aret D rt_180
theorem e_180_680 (d : Nat) {h : fi_H} (H : Shp h) : c_180_680 d h =
  some (.inl (some (4, 31)), h) := by
  unfold c_180_680
  exact
    have D : fk_D 180 [(680, some [], .getstatic 7, 3, 4, 31, 0), (683, none, .areturn, 1, 0, 0, 0)] := fq_of2 cd_180 ow_180 cl_180 rfl (pc := 680) (by decide +kernel)
    j_gs (pc := 680) D rfl fun D =>
    j_aret D rt_180
theorem e_180_684 (d : Nat) {h : fi_H} (H : Shp h) : c_180_684 d h =
  some (.inl (some (4, 32)), h) := by
  unfold c_180_684
  exact
    have D : fk_D 180 [(684, some [], .getstatic 10, 3, 4, 32, 0), (687, none, .areturn, 1, 0, 0, 0)] := fq_of2 cd_180 ow_180 cl_180 rfl (pc := 684) (by decide +kernel)
    j_gs (pc := 684) D rfl fun D =>
    j_aret D rt_180
theorem e_180_688 (d : Nat) {h : fi_H} (H : Shp h) : c_180_688 d h =
  some (.inl (some (4, 33)), h) := by
  unfold c_180_688
  exact
    have D : fk_D 180 [(688, some [], .getstatic 13, 3, 4, 33, 0), (691, none, .areturn, 1, 0, 0, 0)] := fq_of2 cd_180 ow_180 cl_180 rfl (pc := 688) (by decide +kernel)
    j_gs (pc := 688) D rfl fun D =>
    j_aret D rt_180
theorem e_180_692 (d : Nat) {h : fi_H} (H : Shp h) : c_180_692 d h =
  some (.inl (some (4, 34)), h) := by
  unfold c_180_692
  exact
    have D : fk_D 180 [(692, some [], .getstatic 16, 3, 4, 34, 0), (695, none, .areturn, 1, 0, 0, 0)] := fq_of2 cd_180 ow_180 cl_180 rfl (pc := 692) (by decide +kernel)
    j_gs (pc := 692) D rfl fun D =>
    j_aret D rt_180
theorem e_180_696 (d : Nat) {h : fi_H} (H : Shp h) : c_180_696 d h =
  some (.inl (some (4, 35)), h) := by
  unfold c_180_696
  exact
    have D : fk_D 180 [(696, some [], .getstatic 19, 3, 4, 35, 0), (699, none, .areturn, 1, 0, 0, 0)] := fq_of2 cd_180 ow_180 cl_180 rfl (pc := 696) (by decide +kernel)
    j_gs (pc := 696) D rfl fun D =>
    j_aret D rt_180
theorem e_180_700 (d : Nat) {h : fi_H} (H : Shp h) : c_180_700 d h =
  some (.inl (some (4, 36)), h) := by
  unfold c_180_700
  exact
    have D : fk_D 180 [(700, some [], .getstatic 22, 3, 4, 36, 0), (703, none, .areturn, 1, 0, 0, 0)] := fq_of2 cd_180 ow_180 cl_180 rfl (pc := 700) (by decide +kernel)
    j_gs (pc := 700) D rfl fun D =>
    j_aret D rt_180
theorem e_180_704 (d : Nat) {h : fi_H} (H : Shp h) : c_180_704 d h =
  some (.inl (some (4, 37)), h) := by
  unfold c_180_704
  exact
    have D : fk_D 180 [(704, some [], .getstatic 25, 3, 4, 37, 0), (707, none, .areturn, 1, 0, 0, 0)] := fq_of2 cd_180 ow_180 cl_180 rfl (pc := 704) (by decide +kernel)
    j_gs (pc := 704) D rfl fun D =>
    j_aret D rt_180
theorem e_180_708 (d : Nat) {h : fi_H} (H : Shp h) : c_180_708 d h =
  some (.inl (some (4, 38)), h) := by
  unfold c_180_708
  exact
    have D : fk_D 180 [(708, some [], .getstatic 28, 3, 4, 38, 0), (711, none, .areturn, 1, 0, 0, 0)] := fq_of2 cd_180 ow_180 cl_180 rfl (pc := 708) (by decide +kernel)
    j_gs (pc := 708) D rfl fun D =>
    j_aret D rt_180
theorem e_180_712 (d : Nat) {h : fi_H} (H : Shp h) : c_180_712 d h =
  some (.inl (some (4, 39)), h) := by
  unfold c_180_712
  exact
    have D : fk_D 180 [(712, some [], .getstatic 31, 3, 4, 39, 0), (715, none, .areturn, 1, 0, 0, 0)] := fq_of2 cd_180 ow_180 cl_180 rfl (pc := 712) (by decide +kernel)
    j_gs (pc := 712) D rfl fun D =>
    j_aret D rt_180
theorem e_180_716 (d : Nat) {h : fi_H} (H : Shp h) : c_180_716 d h =
  some (.inl (some (4, 40)), h) := by
  unfold c_180_716
  exact
    have D : fk_D 180 [(716, some [], .getstatic 34, 3, 4, 40, 0), (719, none, .areturn, 1, 0, 0, 0)] := fq_of2 cd_180 ow_180 cl_180 rfl (pc := 716) (by decide +kernel)
    j_gs (pc := 716) D rfl fun D =>
    j_aret D rt_180
theorem e_180_720 (d : Nat) {h : fi_H} (H : Shp h) : c_180_720 d h =
  some (.inl (some (4, 41)), h) := by
  unfold c_180_720
  exact
    have D : fk_D 180 [(720, some [], .getstatic 37, 3, 4, 41, 0), (723, none, .areturn, 1, 0, 0, 0)] := fq_of2 cd_180 ow_180 cl_180 rfl (pc := 720) (by decide +kernel)
    j_gs (pc := 720) D rfl fun D =>
    j_aret D rt_180
theorem e_180_724 (d : Nat) {h : fi_H} (H : Shp h) : c_180_724 d h =
  some (.inl (some (4, 42)), h) := by
  unfold c_180_724
  exact
    have D : fk_D 180 [(724, some [], .getstatic 40, 3, 4, 42, 0), (727, none, .areturn, 1, 0, 0, 0)] := fq_of2 cd_180 ow_180 cl_180 rfl (pc := 724) (by decide +kernel)
    j_gs (pc := 724) D rfl fun D =>
    j_aret D rt_180
theorem e_180_728 (d : Nat) {h : fi_H} (H : Shp h) : c_180_728 d h =
  some (.inl (some (4, 43)), h) := by
  unfold c_180_728
  exact
    have D : fk_D 180 [(728, some [], .getstatic 43, 3, 4, 43, 0), (731, none, .areturn, 1, 0, 0, 0)] := fq_of2 cd_180 ow_180 cl_180 rfl (pc := 728) (by decide +kernel)
    j_gs (pc := 728) D rfl fun D =>
    j_aret D rt_180
theorem e_180_732 (d : Nat) {h : fi_H} (H : Shp h) : c_180_732 d h =
  some (.inl (some (4, 44)), h) := by
  unfold c_180_732
  exact
    have D : fk_D 180 [(732, some [], .getstatic 46, 3, 4, 44, 0), (735, none, .areturn, 1, 0, 0, 0)] := fq_of2 cd_180 ow_180 cl_180 rfl (pc := 732) (by decide +kernel)
    j_gs (pc := 732) D rfl fun D =>
    j_aret D rt_180
theorem e_180_736 (d : Nat) {h : fi_H} (H : Shp h) : c_180_736 d h =
  some (.inl (some (4, 45)), h) := by
  unfold c_180_736
  exact
    have D : fk_D 180 [(736, some [], .getstatic 49, 3, 4, 45, 0), (739, none, .areturn, 1, 0, 0, 0)] := fq_of2 cd_180 ow_180 cl_180 rfl (pc := 736) (by decide +kernel)
    j_gs (pc := 736) D rfl fun D =>
    j_aret D rt_180
theorem e_180_740 (d : Nat) {h : fi_H} (H : Shp h) : c_180_740 d h =
  some (.inl (some (4, 46)), h) := by
  unfold c_180_740
  exact
    have D : fk_D 180 [(740, some [], .getstatic 52, 3, 4, 46, 0), (743, none, .areturn, 1, 0, 0, 0)] := fq_of2 cd_180 ow_180 cl_180 rfl (pc := 740) (by decide +kernel)
    j_gs (pc := 740) D rfl fun D =>
    j_aret D rt_180
theorem e_180_744 (d : Nat) {h : fi_H} (H : Shp h) : c_180_744 d h =
  some (.inl (some (4, 47)), h) := by
  unfold c_180_744
  exact
    have D : fk_D 180 [(744, some [], .getstatic 55, 3, 4, 47, 0), (747, none, .areturn, 1, 0, 0, 0)] := fq_of2 cd_180 ow_180 cl_180 rfl (pc := 744) (by decide +kernel)
    j_gs (pc := 744) D rfl fun D =>
    j_aret D rt_180
theorem e_180_748 (d : Nat) {h : fi_H} (H : Shp h) : c_180_748 d h =
  some (.inl (some (4, 48)), h) := by
  unfold c_180_748
  exact
    have D : fk_D 180 [(748, some [], .getstatic 58, 3, 4, 48, 0), (751, none, .areturn, 1, 0, 0, 0)] := fq_of2 cd_180 ow_180 cl_180 rfl (pc := 748) (by decide +kernel)
    j_gs (pc := 748) D rfl fun D =>
    j_aret D rt_180
theorem e_180_752 (d : Nat) {h : fi_H} (H : Shp h) : c_180_752 d h =
  some (.inl (some (4, 49)), h) := by
  unfold c_180_752
  exact
    have D : fk_D 180 [(752, some [], .getstatic 61, 3, 4, 49, 0), (755, none, .areturn, 1, 0, 0, 0)] := fq_of2 cd_180 ow_180 cl_180 rfl (pc := 752) (by decide +kernel)
    j_gs (pc := 752) D rfl fun D =>
    j_aret D rt_180
theorem e_180_756 (d : Nat) {h : fi_H} (H : Shp h) : c_180_756 d h =
  some (.inl (some (4, 50)), h) := by
  unfold c_180_756
  exact
    have D : fk_D 180 [(756, some [], .getstatic 64, 3, 4, 50, 0), (759, none, .areturn, 1, 0, 0, 0)] := fq_of2 cd_180 ow_180 cl_180 rfl (pc := 756) (by decide +kernel)
    j_gs (pc := 756) D rfl fun D =>
    j_aret D rt_180
theorem e_180_760 (d : Nat) {h : fi_H} (H : Shp h) : c_180_760 d h =
  some (.inl (some (4, 51)), h) := by
  unfold c_180_760
  exact
    have D : fk_D 180 [(760, some [], .getstatic 67, 3, 4, 51, 0), (763, none, .areturn, 1, 0, 0, 0)] := fq_of2 cd_180 ow_180 cl_180 rfl (pc := 760) (by decide +kernel)
    j_gs (pc := 760) D rfl fun D =>
    j_aret D rt_180
theorem e_180_764 (d : Nat) {h : fi_H} (H : Shp h) : c_180_764 d h =
  some (.inl (some (4, 52)), h) := by
  unfold c_180_764
  exact
    have D : fk_D 180 [(764, some [], .getstatic 70, 3, 4, 52, 0), (767, none, .areturn, 1, 0, 0, 0)] := fq_of2 cd_180 ow_180 cl_180 rfl (pc := 764) (by decide +kernel)
    j_gs (pc := 764) D rfl fun D =>
    j_aret D rt_180
theorem e_180_768 (d : Nat) {h : fi_H} (H : Shp h) : c_180_768 d h =
  some (.inl (some (4, 53)), h) := by
  unfold c_180_768
  exact
    have D : fk_D 180 [(768, some [], .getstatic 73, 3, 4, 53, 0), (771, none, .areturn, 1, 0, 0, 0)] := fq_of2 cd_180 ow_180 cl_180 rfl (pc := 768) (by decide +kernel)
    j_gs (pc := 768) D rfl fun D =>
    j_aret D rt_180
theorem e_180_772 (d : Nat) {h : fi_H} (H : Shp h) : c_180_772 d h =
  some (.inl (some (4, 0)), h) := by
  unfold c_180_772
  exact
    have D : fk_D 180 [(772, some [], .aconst_null, 1, 0, 0, 0), (773, none, .areturn, 1, 0, 0, 0)] := fq_of2 cd_180 ow_180 cl_180 rfl (pc := 772) (by decide +kernel)
    j_c0 (pc := 772) (v := (4, 0)) D rfl rfl (by decide +kernel) fun D =>
    j_aret D rt_180
theorem m_180 (d : Nat) (x0 : Int) {h : fi_H} (H : Shp h) : fj_run (d + 1) 180 h [(4, x0)] =
  dv_ (fi_vt 215 (h 0 x0.toNat 0)) fun m4 => ca_ (fj_run d m4 h [(4, x0)]) 0
    (fun v2 h1 =>
    if v2 = (-1653432665) then
      c_180_226 d x0 (-1) h1
    else if v2 = (-1338751726) then
      c_180_254 d x0 (-1) h1
    else if v2 = (-734561580) then
      c_180_401 d x0 (-1) h1
    else if v2 = (-50730686) then
      c_180_240 d x0 (-1) h1
    else if v2 = 3357 then
      c_180_212 d x0 (-1) h1
    else if v2 = 3739 then
      c_180_296 d x0 (-1) h1
    else if v2 = 99828 then
      c_180_476 d x0 (-1) h1
    else if v2 = 3076014 then
      c_180_356 d x0 (-1) h1
    else if v2 = 3089570 then
      c_180_311 d x0 (-1) h1
    else if v2 = 3125530 then
      c_180_341 d x0 (-1) h1
    else if v2 = 3314326 then
      c_180_386 d x0 (-1) h1
    else if v2 = 3357571 then
      c_180_282 d x0 (-1) h1
    else if v2 = 3377192 then
      c_180_326 d x0 (-1) h1
    else if v2 = 3496350 then
      c_180_506 d x0 (-1) h1
    else if v2 = 3506402 then
      c_180_521 d x0 (-1) h1
    else if v2 = 3530753 then
      c_180_491 d x0 (-1) h1
    else if v2 = 94546891 then
      c_180_536 d x0 (-1) h1
    else if v2 = 95361651 then
      c_180_431 d x0 (-1) h1
    else if v2 = 97440432 then
      c_180_371 d x0 (-1) h1
    else if v2 = 102846057 then
      c_180_268 d x0 (-1) h1
    else if v2 = 113107383 then
      c_180_551 d x0 (-1) h1
    else if v2 = 1226862376 then
      c_180_446 d x0 (-1) h1
    else if v2 = 1236635735 then
      c_180_416 d x0 (-1) h1
    else if v2 = 1525164849 then
      c_180_461 d x0 (-1) h1
    else 
      c_180_563 d (-1) h1)
    (fun q3 h1 => tx_ q3 h1) := by
  rw [fj_run_eq d (by decide) h [(4, x0)] (Nat.le_of_ble_eq_true (by rw [nl_180]; rfl))]
  show gG (fj_run d) 180 0 [(0, (4, x0))] [] h = _
  exact
    have D : fk_D 180 [(0, none, .aload_n 0, 1, 0, 0, 0), (1, none, .astore_n 1, 1, 0, 0, 0), (2, none, .iconst (-1), 1, 0, (-1), 0), (3, none, .istore_n 2, 1, 0, 0, 0), (4, none, .aload_n 1, 1, 0, 0, 0), (5, none, .invokevirtual 116, 3, 0, 215, 1), (8, none, .lookupswitch 555 #[(-1653432665, 218), (-1338751726, 246), (-734561580, 393), (-50730686, 232), (3357, 204), (3739, 288), (99828, 468), (3076014, 348), (3089570, 303), (3125530, 333), (3314326, 378), (3357571, 274), (3377192, 318), (3496350, 498), (3506402, 513), (3530753, 483), (94546891, 528), (95361651, 423), (97440432, 363), (102846057, 260), (113107383, 543), (1226862376, 438), (1236635735, 408), (1525164849, 453)], 204, 0, 0, 0)] := fq_of3 cd_180 ow_180 cl_180 rfl (pc := 0) (by decide +kernel)
    j_aldn (pc := 0) D rfl rfl rfl fun D =>
    j_astn (pc := 1) (L' := [(1, (4, x0)), (0, (4, x0))]) D rfl nl_180 rfl rfl fun D =>
    j_ic (pc := 2) D rfl fun D =>
    j_istn (pc := 3) (L' := [(2, (0, (-1))), (1, (4, x0)), (0, (4, x0))]) D rfl nl_180 rfl rfl fun D =>
    j_aldn (pc := 4) D rfl rfl rfl fun D =>
    j_ivu (pc := 5) (dd := 215) (a := []) (rest := []) H.2.1 D rfl rfl rfl rfl rfl (fun m4 v2 h1 e1 D =>
      have T := fj_run_ok _ _ _ _ _ _ H.1 e1
      have H := shp_st H T
      have N : fk_ni (v2) [] := trivial
      j_lc (pc := 8) (-1653432665) (t := 226) D N rfl (by decide +kernel) (by decide +kernel) (fun q =>
        fk_jump cut_180_226 rfl rfl) (fun N =>
        j_lc (-1338751726) (t := 254) D N rfl (by decide +kernel) (by decide +kernel) (fun q =>
          fk_jump cut_180_254 rfl rfl) (fun N =>
          j_lc (-734561580) (t := 401) D N rfl (by decide +kernel) (by decide +kernel) (fun q =>
            fk_jump cut_180_401 rfl rfl) (fun N =>
            j_lc (-50730686) (t := 240) D N rfl (by decide +kernel) (by decide +kernel) (fun q =>
              fk_jump cut_180_240 rfl rfl) (fun N =>
              j_lc 3357 (t := 212) D N rfl (by decide +kernel) (by decide +kernel) (fun q =>
                fk_jump cut_180_212 rfl rfl) (fun N =>
                j_lc 3739 (t := 296) D N rfl (by decide +kernel) (by decide +kernel) (fun q =>
                  fk_jump cut_180_296 rfl rfl) (fun N =>
                  j_lc 99828 (t := 476) D N rfl (by decide +kernel) (by decide +kernel) (fun q =>
                    fk_jump cut_180_476 rfl rfl) (fun N =>
                    j_lc 3076014 (t := 356) D N rfl (by decide +kernel) (by decide +kernel) (fun q =>
                      fk_jump cut_180_356 rfl rfl) (fun N =>
                      j_lc 3089570 (t := 311) D N rfl (by decide +kernel) (by decide +kernel) (fun q =>
                        fk_jump cut_180_311 rfl rfl) (fun N =>
                        j_lc 3125530 (t := 341) D N rfl (by decide +kernel) (by decide +kernel) (fun q =>
                          fk_jump cut_180_341 rfl rfl) (fun N =>
                          j_lc 3314326 (t := 386) D N rfl (by decide +kernel) (by decide +kernel) (fun q =>
                            fk_jump cut_180_386 rfl rfl) (fun N =>
                            j_lc 3357571 (t := 282) D N rfl (by decide +kernel) (by decide +kernel) (fun q =>
                              fk_jump cut_180_282 rfl rfl) (fun N =>
                              j_lc 3377192 (t := 326) D N rfl (by decide +kernel) (by decide +kernel) (fun q =>
                                fk_jump cut_180_326 rfl rfl) (fun N =>
                                j_lc 3496350 (t := 506) D N rfl (by decide +kernel) (by decide +kernel) (fun q =>
                                  fk_jump cut_180_506 rfl rfl) (fun N =>
                                  j_lc 3506402 (t := 521) D N rfl (by decide +kernel) (by decide +kernel) (fun q =>
                                    fk_jump cut_180_521 rfl rfl) (fun N =>
                                    j_lc 3530753 (t := 491) D N rfl (by decide +kernel) (by decide +kernel) (fun q =>
                                      fk_jump cut_180_491 rfl rfl) (fun N =>
                                      j_lc 94546891 (t := 536) D N rfl (by decide +kernel) (by decide +kernel) (fun q =>
                                        fk_jump cut_180_536 rfl rfl) (fun N =>
                                        j_lc 95361651 (t := 431) D N rfl (by decide +kernel) (by decide +kernel) (fun q =>
                                          fk_jump cut_180_431 rfl rfl) (fun N =>
                                          j_lc 97440432 (t := 371) D N rfl (by decide +kernel) (by decide +kernel) (fun q =>
                                            fk_jump cut_180_371 rfl rfl) (fun N =>
                                            j_lc 102846057 (t := 268) D N rfl (by decide +kernel) (by decide +kernel) (fun q =>
                                              fk_jump cut_180_268 rfl rfl) (fun N =>
                                              j_lc 113107383 (t := 551) D N rfl (by decide +kernel) (by decide +kernel) (fun q =>
                                                fk_jump cut_180_551 rfl rfl) (fun N =>
                                                j_lc 1226862376 (t := 446) D N rfl (by decide +kernel) (by decide +kernel) (fun q =>
                                                  fk_jump cut_180_446 rfl rfl) (fun N =>
                                                  j_lc 1236635735 (t := 416) D N rfl (by decide +kernel) (by decide +kernel) (fun q =>
                                                    fk_jump cut_180_416 rfl rfl) (fun N =>
                                                    j_lc 1525164849 (t := 461) D N rfl (by decide +kernel) (by decide +kernel) (fun q =>
                                                      fk_jump cut_180_461 rfl rfl) (fun N =>
                                                      j_ldf (t := 563) D N rfl (by decide +kernel) (by decide +kernel) (by decide +kernel) <|
                                                      fk_jump cut_180_563 rfl rfl))))))))))))))))))))))))) (fun m4 q3 h1 e1 =>
      j_tx (hx_180 _))
/-! 181 StatuteHouse$Reader.nameOf(Ljava/lang/String;)I -/
theorem cd_181 : fi_code 181 = prog_53_method_24_code := rfl
theorem hx_181 : ∀ pc, fi_hat 181 pc = none := fun pc => by unfold fi_hat; rw [show fi_hh 181 = [] from rfl]; rfl
theorem rt_181 : fi_ret 181 = some .int := rfl
theorem nl_181 : fi_nl 181 = 3 := rfl
theorem ow_181 : fi_ow 181 = 15 := rfl
theorem cl_181 : fj_cutT.getD 181 [] = [(2, [0, 1, 2])] := rfl
theorem cut_181_2 : fj_cut 181 2 = some [0, 1, 2] := by decide +kernel
noncomputable def c_181_2 (d : Nat) (x1 x2 : Int) (h : fi_H) : fk_R := gG (fj_run d) 181 2 [(0, (4, 377)), (1, (4, x1)), (2, (0, x2))] [] h
theorem e_181_2 (d : Nat) (x1 x2 : Int) {h : fi_H} (H : Shp h) : c_181_2 d x1 x2 h =
  if x2 < wI ((h 215 303 0) + (h 160 377 0)) then
    if 0 ≤ x2 ∧ x2 < 40 then
    if h 0 (h 12 320 x2.toNat).toNat 0 = 124 then
    dv_ (fi_vt 216 (h 0 (h 321 (h 12 320 x2.toNat).toNat 0).toNat 0)) fun m6 => ca_ (fj_run d m6 h [(4, h 321 (h 12 320 x2.toNat).toNat 0), (4, x1)]) 0
      (fun v4 h3 =>
      if v4 = 0 then
        c_181_2 d x1 (wI (x2 + 1)) h3
      else
        some (.inl (some (0, x2)), h3))
      (fun q5 h3 => tx_ q5 h3)
    else none
    else none
  else
    some (.inl (some (0, (-1))), h) := by
  unfold c_181_2
  exact
    have D : fk_D 181 [(2, some [0, 1, 2], .iload_n 2, 1, 0, 0, 0), (3, none, .aload_n 0, 1, 0, 0, 0), (4, none, .getfield 3, 3, 182, 115, 12), (7, none, .getfield 365, 3, 215, 100, 10), (10, none, .aload_n 0, 1, 0, 0, 0), (11, none, .getfield 113, 3, 160, 115, 10), (14, none, .iadd, 1, 0, 0, 0), (15, none, .if_icmp .ge 30, 3, 45, 0, 0), (18, none, .aload_n 0, 1, 0, 0, 0), (19, none, .getfield 3, 3, 182, 115, 12), (22, none, .getfield 368, 3, 214, 100, 12), (25, none, .iload_n 2, 1, 0, 0, 0), (26, none, .aaload, 1, 0, 0, 0), (27, none, .getfield 372, 3, 321, (-124), 12), (30, none, .aload_n 1, 1, 0, 0, 0), (31, none, .invokevirtual 194, 3, 1, 216, 1), (34, none, .ifCond .eq 5, 3, 39, 0, 0), (37, none, .iload_n 2, 1, 0, 0, 0), (38, none, .ireturn, 1, 0, 0, 0)] := fq_of2 cd_181 ow_181 cl_181 rfl (pc := 2) (by decide +kernel)
    j_ildn (pc := 2) D rfl rfl rfl fun D =>
    j_aldn (pc := 3) D rfl rfl rfl fun D =>
    j_gfc (pc := 4) (a := 377) D rfl rfl (by decide) rfl (s0_377 H) rfl (sf_182_377 H) fun D =>
    j_gf (pc := 7) (a := 303) D rfl rfl (by decide) rfl (s0_303 H) rfl fun D =>
    j_aldn (pc := 10) D rfl rfl rfl fun D =>
    j_gf (pc := 11) (a := 377) D rfl rfl (by decide) rfl (s0_377 H) rfl fun D =>
    j_iadd (pc := 14) D rfl fun D =>
    j_ige (pc := 15) D rfl (fun q D =>
      j_aldn (pc := 18) D rfl rfl rfl fun D =>
      j_gfc (pc := 19) (a := 377) D rfl rfl (by decide) rfl (s0_377 H) rfl (sf_182_377 H) fun D =>
      j_gfc (pc := 22) (a := 303) D rfl rfl (by decide) rfl (s0_303 H) rfl (sf_214_303 H) fun D =>
      j_ildn (pc := 25) D rfl rfl rfl fun D =>
      j_al (pc := 26) (a := 320) (e := 12) D rfl rfl rfl (by decide) (s0_320 H) (s1_320 H) ⟨rfl, rfl, rfl⟩ rfl gn fun qb1 D =>
      j_gfo (pc := 27) H.2.1 D rfl rfl rfl rfl fun kc2 D =>
      j_aldn (pc := 30) D rfl rfl rfl fun D =>
      j_ivu (pc := 31) (dd := 216) (a := [(4, x1)]) (rest := []) H.2.1 D rfl rfl rfl rfl rfl (fun m6 v4 h3 e1 D =>
        have T := fj_run_ok _ _ _ _ _ _ H.1 e1
        have H := shp_st H T
        j_ifeq (pc := 34) D rfl (fun q =>
          have D : fk_D 181 [(39, none, .iinc 2 1, 3, 0, 1, 0), (42, none, .goto (-40), 3, 2, 0, 0)] := fq_of2 cd_181 ow_181 cl_181 rfl (pc := 39) (by decide +kernel)
          j_inc (pc := 39) (L' := [(2, (0, wI (x2 + 1))), (0, (4, 377)), (1, (4, x1))]) D rfl rfl rfl (by decide +kernel) rfl fun D =>
          j_goto (pc := 42) D rfl <|
          fk_jump cut_181_2 rfl rfl) (fun q D =>
          j_ildn (pc := 37) D rfl rfl rfl fun D =>
          j_iret D rt_181)) (fun m6 q5 h3 e1 =>
        j_tx (hx_181 _))) (fun q =>
      have D : fk_D 181 [(45, none, .iconst (-1), 1, 0, (-1), 0), (46, none, .ireturn, 1, 0, 0, 0)] := fq_of2 cd_181 ow_181 cl_181 rfl (pc := 45) (by decide +kernel)
      j_ic (pc := 45) D rfl fun D =>
      j_iret D rt_181)
theorem m_181 (d : Nat) (x1 : Int) {h : fi_H} (H : Shp h) : fj_run (d + 1) 181 h [(4, 377), (4, x1)] =
  c_181_2 d x1 0 h := by
  rw [fj_run_eq d (by decide) h [(4, 377), (4, x1)] (Nat.le_of_ble_eq_true (by rw [nl_181]; rfl))]
  show gG (fj_run d) 181 0 [(0, (4, 377)), (1, (4, x1))] [] h = _
  exact
    have D : fk_D 181 [(0, none, .iconst 0, 1, 0, 0, 0), (1, none, .istore_n 2, 1, 0, 0, 0)] := fq_of2 cd_181 ow_181 cl_181 rfl (pc := 0) (by decide +kernel)
    j_ic (pc := 0) D rfl fun D =>
    j_istn (pc := 1) (L' := [(2, (0, 0)), (0, (4, 377)), (1, (4, x1))]) D rfl nl_181 rfl rfl fun D =>
    fk_jump cut_181_2 rfl rfl
/-! 182 StatuteHouse$Reader.need(C)V -/
theorem cd_182 : fi_code 182 = prog_53_method_16_code := rfl
theorem hx_182 : ∀ pc, fi_hat 182 pc = none := fun pc => by unfold fi_hat; rw [show fi_hh 182 = [] from rfl]; rfl
theorem rt_182 : fi_ret 182 = none := rfl
theorem nl_182 : fi_nl 182 = 2 := rfl
theorem ow_182 : fi_ow 182 = 15 := rfl
theorem cl_182 : fj_cutT.getD 182 [] = [] := rfl
theorem m_182 (d : Nat) (x1 : Int) {h : fi_H} (H : Shp h) : fj_run (d + 1) 182 h [(4, 377), (0, x1)] =
  ca_ (fj_run d 183 h [(4, 377), (0, x1)]) 0
    (fun v2 h1 =>
    if v2 = 0 then
      ca_ (fj_run d 164 h1 [(4, 377), (0, 1)]) 4
        (fun v5 h4 =>
        if v5 ≠ 0 then
        tx_ v5.toNat h4
        else none)
        (fun q6 h4 => tx_ q6 h4)
    else
      cv_ (fj_run d 166 h1 [(4, 377)])
        (fun h7 =>
        some (.inl none, h7))
        (fun q9 h7 => tx_ q9 h7))
    (fun q3 h1 => tx_ q3 h1) := by
  rw [fj_run_eq d (by decide) h [(4, 377), (0, x1)] (Nat.le_of_ble_eq_true (by rw [nl_182]; rfl))]
  show gG (fj_run d) 182 0 [(0, (4, 377)), (1, (0, x1))] [] h = _
  exact
    have D : fk_D 182 [(0, none, .aload_n 0, 1, 0, 0, 0), (1, none, .iload_n 1, 1, 0, 0, 0), (2, none, .invokevirtual 202, 3, 1, 260, 1), (5, none, .ifCond .ne 9, 3, 14, 0, 0), (8, none, .aload_n 0, 1, 0, 0, 0), (9, none, .iconst 1, 1, 0, 1, 0), (10, none, .invokevirtual 190, 3, 1, 258, 5), (13, none, .athrow, 1, 0, 0, 0)] := fq_of2 cd_182 ow_182 cl_182 rfl (pc := 0) (by decide +kernel)
    j_aldn (pc := 0) D rfl rfl rfl fun D =>
    j_ildn (pc := 1) D rfl rfl rfl fun D =>
    j_iv (pc := 2) (m := 183) (dd := 260) (a := [(0, x1)]) (rest := []) D rfl rfl rfl rfl rfl (by decide) (s0_377 H) (by decide +kernel) (fun v2 h1 e1 D =>
      have T := fj_run_ok _ _ _ _ _ _ H.1 e1
      have H := shp_st H T
      j_ifne (pc := 5) D rfl (fun q D =>
        j_aldn (pc := 8) D rfl rfl rfl fun D =>
        j_ic (pc := 9) D rfl fun D =>
        j_iv (pc := 10) (m := 164) (dd := 258) (a := [(0, 1)]) (rest := []) D rfl rfl rfl rfl rfl (by decide) (s0_377 H) (by decide +kernel) (fun v5 h4 e1 D =>
          have T := fj_run_ok _ _ _ _ _ _ H.1 e1
          have H := shp_st H T
          j_at (pc := 13) D gn <|
          j_tx (hx_182 _)) (fun q6 h4 e1 =>
          j_tx (hx_182 _))) (fun q =>
        have D : fk_D 182 [(14, none, .aload_n 0, 1, 0, 0, 0), (15, none, .invokevirtual 206, 3, 0, 261, 0), (18, none, .return_, 1, 0, 0, 0)] := fq_of2 cd_182 ow_182 cl_182 rfl (pc := 14) (by decide +kernel)
        j_aldn (pc := 14) D rfl rfl rfl fun D =>
        j_ivv (pc := 15) (m := 166) (dd := 261) (a := []) (rest := []) D rfl rfl rfl rfl rfl (by decide) (s0_377 H) (by decide +kernel) (fun h7 e1 D =>
          have T := fj_run_ok _ _ _ _ _ _ H.1 e1
          have H := shp_st H T
          j_vret D rt_182) (fun q9 h7 e1 =>
          j_tx (hx_182 _)))) (fun q3 h1 e1 =>
      j_tx (hx_182 _))
/-! 183 StatuteHouse$Reader.isSign(C)Z -/
theorem cd_183 : fi_code 183 = prog_53_method_13_code := rfl
theorem hx_183 : ∀ pc, fi_hat 183 pc = none := fun pc => by unfold fi_hat; rw [show fi_hh 183 = [] from rfl]; rfl
theorem rt_183 : fi_ret 183 = some .boolean := rfl
theorem nl_183 : fi_nl 183 = 2 := rfl
theorem ow_183 : fi_ow 183 = 15 := rfl
theorem cl_183 : fj_cutT.getD 183 [] = [] := rfl
theorem m_183 (d : Nat) (x1 : Int) {h : fi_H} (H : Shp h) : fj_run (d + 1) 183 h [(4, 377), (0, x1)] =
  if 0 ≤ h 158 377 0 ∧ h 158 377 0 < 1202 then
  if h 8 378 (h 158 377 0).toNat = 6 then
    if h 5 382 (h 158 377 0).toNat = x1 then
      some (.inl (some (0, 1)), h)
    else
      some (.inl (some (0, 0)), h)
  else
    some (.inl (some (0, 0)), h)
  else none := by
  rw [fj_run_eq d (by decide) h [(4, 377), (0, x1)] (Nat.le_of_ble_eq_true (by rw [nl_183]; rfl))]
  show gG (fj_run d) 183 0 [(0, (4, 377)), (1, (0, x1))] [] h = _
  exact
    have D : fk_D 183 [(0, none, .aload_n 0, 1, 0, 0, 0), (1, none, .getfield 15, 3, 149, 115, 12), (4, none, .aload_n 0, 1, 0, 0, 0), (5, none, .getfield 104, 3, 158, 115, 10), (8, none, .baload, 1, 0, 0, 0), (9, none, .bipush 6, 2, 0, 6, 0), (11, none, .if_icmp .ne 20, 3, 31, 0, 0), (14, none, .aload_n 0, 1, 0, 0, 0), (15, none, .getfield 31, 3, 153, 115, 12), (18, none, .aload_n 0, 1, 0, 0, 0), (19, none, .getfield 104, 3, 158, 115, 10), (22, none, .caload, 1, 0, 0, 0), (23, none, .iload_n 1, 1, 0, 0, 0), (24, none, .if_icmp .ne 7, 3, 31, 0, 0), (27, none, .iconst 1, 1, 0, 1, 0), (28, none, .goto 4, 3, 32, 0, 0)] := fq_of2 cd_183 ow_183 cl_183 rfl (pc := 0) (by decide +kernel)
    j_aldn (pc := 0) D rfl rfl rfl fun D =>
    j_gfc (pc := 1) (a := 377) D rfl rfl (by decide) rfl (s0_377 H) rfl (sf_149_377 H) fun D =>
    j_aldn (pc := 4) D rfl rfl rfl fun D =>
    j_gf (pc := 5) (a := 377) D rfl rfl (by decide) rfl (s0_377 H) rfl fun D =>
    j_al (pc := 8) (a := 378) (e := 8) D rfl rfl rfl (by decide) (s0_378 H) (s1_378 H) ⟨rfl, rfl, rfl⟩ rfl gn fun qb1 D =>
    j_bp (pc := 9) D rfl fun D =>
    j_ine (pc := 11) D rfl (fun q D =>
      j_aldn (pc := 14) D rfl rfl rfl fun D =>
      j_gfc (pc := 15) (a := 377) D rfl rfl (by decide) rfl (s0_377 H) rfl (sf_153_377 H) fun D =>
      j_aldn (pc := 18) D rfl rfl rfl fun D =>
      j_gf (pc := 19) (a := 377) D rfl rfl (by decide) rfl (s0_377 H) rfl fun D =>
      j_al (pc := 22) (a := 382) (e := 5) D rfl rfl rfl (by decide) (s0_382 H) (s1_382 H) ⟨rfl, rfl, rfl⟩ rfl (gy qb1) fun q D =>
      j_ildn (pc := 23) D rfl rfl rfl fun D =>
      j_ine (pc := 24) D rfl (fun q D =>
        j_ic (pc := 27) D rfl fun D =>
        j_goto (pc := 28) D rfl <|
        have D : fk_D 183 [(32, none, .ireturn, 1, 0, 0, 0)] := fq_of2 cd_183 ow_183 cl_183 rfl (pc := 32) (by decide +kernel)
        j_zret D rt_183 (gy (by decide))) (fun q =>
        have D : fk_D 183 [(31, none, .iconst 0, 1, 0, 0, 0), (32, none, .ireturn, 1, 0, 0, 0)] := fq_of2 cd_183 ow_183 cl_183 rfl (pc := 31) (by decide +kernel)
        j_ic (pc := 31) D rfl fun D =>
        j_zret D rt_183 (gy (by decide)))) (fun q =>
      have D : fk_D 183 [(31, none, .iconst 0, 1, 0, 0, 0), (32, none, .ireturn, 1, 0, 0, 0)] := fq_of2 cd_183 ow_183 cl_183 rfl (pc := 31) (by decide +kernel)
      j_ic (pc := 31) D rfl fun D =>
      j_zret D rt_183 (gy (by decide)))
/-! 184 StatuteHouse$Reader.kind()LStatuteHouse$Kind; -/
theorem cd_184 : fi_code 184 = prog_53_method_32_code := rfl
theorem hx_184 : ∀ pc, fi_hat 184 pc = none := fun pc => by unfold fi_hat; rw [show fi_hh 184 = [] from rfl]; rfl
theorem rt_184 : fj_ft (fi_ret 184) = 5 := rfl
theorem nl_184 : fi_nl 184 = 3 := rfl
theorem ow_184 : fi_ow 184 = 15 := rfl
theorem cl_184 : fj_cutT.getD 184 [] = [(108, [0, 1, 2]), (123, [0, 1, 2]), (138, [0, 1, 2]), (153, [0, 1, 2]), (168, [0, 1, 2]), (183, [0, 1, 2]), (198, [0, 1, 2]), (214, [0, 1, 2]), (227, [0, 2]), (276, []), (280, []), (284, []), (288, []), (292, []), (296, []), (300, []), (304, []), (308, [0])] := rfl
theorem cut_184_108 : fj_cut 184 108 = some [0, 1, 2] := by decide +kernel
noncomputable def c_184_108 (d : Nat) (x1 x2 : Int) (h : fi_H) : fk_R := gG (fj_run d) 184 108 [(0, (4, 377)), (1, (4, x1)), (2, (0, x2))] [] h
theorem cut_184_123 : fj_cut 184 123 = some [0, 1, 2] := by decide +kernel
noncomputable def c_184_123 (d : Nat) (x1 x2 : Int) (h : fi_H) : fk_R := gG (fj_run d) 184 123 [(0, (4, 377)), (1, (4, x1)), (2, (0, x2))] [] h
theorem cut_184_138 : fj_cut 184 138 = some [0, 1, 2] := by decide +kernel
noncomputable def c_184_138 (d : Nat) (x1 x2 : Int) (h : fi_H) : fk_R := gG (fj_run d) 184 138 [(0, (4, 377)), (1, (4, x1)), (2, (0, x2))] [] h
theorem cut_184_153 : fj_cut 184 153 = some [0, 1, 2] := by decide +kernel
noncomputable def c_184_153 (d : Nat) (x1 x2 : Int) (h : fi_H) : fk_R := gG (fj_run d) 184 153 [(0, (4, 377)), (1, (4, x1)), (2, (0, x2))] [] h
theorem cut_184_168 : fj_cut 184 168 = some [0, 1, 2] := by decide +kernel
noncomputable def c_184_168 (d : Nat) (x1 x2 : Int) (h : fi_H) : fk_R := gG (fj_run d) 184 168 [(0, (4, 377)), (1, (4, x1)), (2, (0, x2))] [] h
theorem cut_184_183 : fj_cut 184 183 = some [0, 1, 2] := by decide +kernel
noncomputable def c_184_183 (d : Nat) (x1 x2 : Int) (h : fi_H) : fk_R := gG (fj_run d) 184 183 [(0, (4, 377)), (1, (4, x1)), (2, (0, x2))] [] h
theorem cut_184_198 : fj_cut 184 198 = some [0, 1, 2] := by decide +kernel
noncomputable def c_184_198 (d : Nat) (x1 x2 : Int) (h : fi_H) : fk_R := gG (fj_run d) 184 198 [(0, (4, 377)), (1, (4, x1)), (2, (0, x2))] [] h
theorem cut_184_214 : fj_cut 184 214 = some [0, 1, 2] := by decide +kernel
noncomputable def c_184_214 (d : Nat) (x1 x2 : Int) (h : fi_H) : fk_R := gG (fj_run d) 184 214 [(0, (4, 377)), (1, (4, x1)), (2, (0, x2))] [] h
theorem cut_184_227 : fj_cut 184 227 = some [0, 2] := by decide +kernel
noncomputable def c_184_227 (d : Nat) (x2 : Int) (h : fi_H) : fk_R := gG (fj_run d) 184 227 [(0, (4, 377)), (2, (0, x2))] [] h
theorem cut_184_276 : fj_cut 184 276 = some [] := by decide +kernel
noncomputable def c_184_276 (d : Nat) (h : fi_H) : fk_R := gG (fj_run d) 184 276 [] [] h
theorem cut_184_280 : fj_cut 184 280 = some [] := by decide +kernel
noncomputable def c_184_280 (d : Nat) (h : fi_H) : fk_R := gG (fj_run d) 184 280 [] [] h
theorem cut_184_284 : fj_cut 184 284 = some [] := by decide +kernel
noncomputable def c_184_284 (d : Nat) (h : fi_H) : fk_R := gG (fj_run d) 184 284 [] [] h
theorem cut_184_288 : fj_cut 184 288 = some [] := by decide +kernel
noncomputable def c_184_288 (d : Nat) (h : fi_H) : fk_R := gG (fj_run d) 184 288 [] [] h
theorem cut_184_292 : fj_cut 184 292 = some [] := by decide +kernel
noncomputable def c_184_292 (d : Nat) (h : fi_H) : fk_R := gG (fj_run d) 184 292 [] [] h
theorem cut_184_296 : fj_cut 184 296 = some [] := by decide +kernel
noncomputable def c_184_296 (d : Nat) (h : fi_H) : fk_R := gG (fj_run d) 184 296 [] [] h
theorem cut_184_300 : fj_cut 184 300 = some [] := by decide +kernel
noncomputable def c_184_300 (d : Nat) (h : fi_H) : fk_R := gG (fj_run d) 184 300 [] [] h
theorem cut_184_304 : fj_cut 184 304 = some [] := by decide +kernel
noncomputable def c_184_304 (d : Nat) (h : fi_H) : fk_R := gG (fj_run d) 184 304 [] [] h
theorem cut_184_308 : fj_cut 184 308 = some [0] := by decide +kernel
noncomputable def c_184_308 (d : Nat) (h : fi_H) : fk_R := gG (fj_run d) 184 308 [(0, (4, 377))] [] h
theorem e_184_108 (d : Nat) (x1 x2 : Int) {h : fi_H} (H : Shp h) : c_184_108 d x1 x2 h =
  dv_ (fi_vt 216 (h 0 x1.toNat 0)) fun m4 => ca_ (fj_run d m4 h [(4, x1), (4, 197)]) 0
    (fun v2 h1 =>
    if v2 = 0 then
      c_184_227 d x2 h1
    else
      c_184_227 d 0 h1)
    (fun q3 h1 => tx_ q3 h1) := by
  unfold c_184_108
  exact
    have D : fk_D 184 [(108, some [0, 1, 2], .aload_n 1, 1, 0, 0, 0), (109, none, .ldc_w 256, 3, 4, 197, 0), (112, none, .invokevirtual 194, 3, 1, 216, 1), (115, none, .ifCond .eq 112, 3, 227, 0, 0), (118, none, .iconst 0, 1, 0, 0, 0), (119, none, .istore_n 2, 1, 0, 0, 0), (120, none, .goto 107, 3, 227, 0, 0)] := fq_of2 cd_184 ow_184 cl_184 rfl (pc := 108) (by decide +kernel)
    j_aldn (pc := 108) D rfl rfl rfl fun D =>
    j_ldcw (pc := 109) D rfl fun D =>
    j_ivu (pc := 112) (dd := 216) (a := [(4, 197)]) (rest := []) H.2.1 D rfl rfl rfl rfl rfl (fun m4 v2 h1 e1 D =>
      have T := fj_run_ok _ _ _ _ _ _ H.1 e1
      have H := shp_st H T
      j_ifeq (pc := 115) D rfl (fun q =>
        fk_jump cut_184_227 rfl rfl) (fun q D =>
        j_ic (pc := 118) D rfl fun D =>
        j_istn (pc := 119) (L' := [(2, (0, 0)), (0, (4, 377)), (1, (4, x1))]) D rfl nl_184 rfl rfl fun D =>
        j_goto (pc := 120) D rfl <|
        fk_jump cut_184_227 rfl rfl)) (fun m4 q3 h1 e1 =>
      j_tx (hx_184 _))
theorem e_184_123 (d : Nat) (x1 x2 : Int) {h : fi_H} (H : Shp h) : c_184_123 d x1 x2 h =
  dv_ (fi_vt 216 (h 0 x1.toNat 0)) fun m4 => ca_ (fj_run d m4 h [(4, x1), (4, 149)]) 0
    (fun v2 h1 =>
    if v2 = 0 then
      c_184_227 d x2 h1
    else
      c_184_227 d 1 h1)
    (fun q3 h1 => tx_ q3 h1) := by
  unfold c_184_123
  exact
    have D : fk_D 184 [(123, some [0, 1, 2], .aload_n 1, 1, 0, 0, 0), (124, none, .ldc_w 258, 3, 4, 149, 0), (127, none, .invokevirtual 194, 3, 1, 216, 1), (130, none, .ifCond .eq 97, 3, 227, 0, 0), (133, none, .iconst 1, 1, 0, 1, 0), (134, none, .istore_n 2, 1, 0, 0, 0), (135, none, .goto 92, 3, 227, 0, 0)] := fq_of2 cd_184 ow_184 cl_184 rfl (pc := 123) (by decide +kernel)
    j_aldn (pc := 123) D rfl rfl rfl fun D =>
    j_ldcw (pc := 124) D rfl fun D =>
    j_ivu (pc := 127) (dd := 216) (a := [(4, 149)]) (rest := []) H.2.1 D rfl rfl rfl rfl rfl (fun m4 v2 h1 e1 D =>
      have T := fj_run_ok _ _ _ _ _ _ H.1 e1
      have H := shp_st H T
      j_ifeq (pc := 130) D rfl (fun q =>
        fk_jump cut_184_227 rfl rfl) (fun q D =>
        j_ic (pc := 133) D rfl fun D =>
        j_istn (pc := 134) (L' := [(2, (0, 1)), (0, (4, 377)), (1, (4, x1))]) D rfl nl_184 rfl rfl fun D =>
        j_goto (pc := 135) D rfl <|
        fk_jump cut_184_227 rfl rfl)) (fun m4 q3 h1 e1 =>
      j_tx (hx_184 _))
theorem e_184_138 (d : Nat) (x1 x2 : Int) {h : fi_H} (H : Shp h) : c_184_138 d x1 x2 h =
  dv_ (fi_vt 216 (h 0 x1.toNat 0)) fun m4 => ca_ (fj_run d m4 h [(4, x1), (4, 199)]) 0
    (fun v2 h1 =>
    if v2 = 0 then
      c_184_227 d x2 h1
    else
      c_184_227 d 2 h1)
    (fun q3 h1 => tx_ q3 h1) := by
  unfold c_184_138
  exact
    have D : fk_D 184 [(138, some [0, 1, 2], .aload_n 1, 1, 0, 0, 0), (139, none, .ldc_w 260, 3, 4, 199, 0), (142, none, .invokevirtual 194, 3, 1, 216, 1), (145, none, .ifCond .eq 82, 3, 227, 0, 0), (148, none, .iconst 2, 1, 0, 2, 0), (149, none, .istore_n 2, 1, 0, 0, 0), (150, none, .goto 77, 3, 227, 0, 0)] := fq_of2 cd_184 ow_184 cl_184 rfl (pc := 138) (by decide +kernel)
    j_aldn (pc := 138) D rfl rfl rfl fun D =>
    j_ldcw (pc := 139) D rfl fun D =>
    j_ivu (pc := 142) (dd := 216) (a := [(4, 199)]) (rest := []) H.2.1 D rfl rfl rfl rfl rfl (fun m4 v2 h1 e1 D =>
      have T := fj_run_ok _ _ _ _ _ _ H.1 e1
      have H := shp_st H T
      j_ifeq (pc := 145) D rfl (fun q =>
        fk_jump cut_184_227 rfl rfl) (fun q D =>
        j_ic (pc := 148) D rfl fun D =>
        j_istn (pc := 149) (L' := [(2, (0, 2)), (0, (4, 377)), (1, (4, x1))]) D rfl nl_184 rfl rfl fun D =>
        j_goto (pc := 150) D rfl <|
        fk_jump cut_184_227 rfl rfl)) (fun m4 q3 h1 e1 =>
      j_tx (hx_184 _))
theorem e_184_153 (d : Nat) (x1 x2 : Int) {h : fi_H} (H : Shp h) : c_184_153 d x1 x2 h =
  dv_ (fi_vt 216 (h 0 x1.toNat 0)) fun m4 => ca_ (fj_run d m4 h [(4, x1), (4, 201)]) 0
    (fun v2 h1 =>
    if v2 = 0 then
      c_184_227 d x2 h1
    else
      c_184_227 d 3 h1)
    (fun q3 h1 => tx_ q3 h1) := by
  unfold c_184_153
  exact
    have D : fk_D 184 [(153, some [0, 1, 2], .aload_n 1, 1, 0, 0, 0), (154, none, .ldc_w 262, 3, 4, 201, 0), (157, none, .invokevirtual 194, 3, 1, 216, 1), (160, none, .ifCond .eq 67, 3, 227, 0, 0), (163, none, .iconst 3, 1, 0, 3, 0), (164, none, .istore_n 2, 1, 0, 0, 0), (165, none, .goto 62, 3, 227, 0, 0)] := fq_of2 cd_184 ow_184 cl_184 rfl (pc := 153) (by decide +kernel)
    j_aldn (pc := 153) D rfl rfl rfl fun D =>
    j_ldcw (pc := 154) D rfl fun D =>
    j_ivu (pc := 157) (dd := 216) (a := [(4, 201)]) (rest := []) H.2.1 D rfl rfl rfl rfl rfl (fun m4 v2 h1 e1 D =>
      have T := fj_run_ok _ _ _ _ _ _ H.1 e1
      have H := shp_st H T
      j_ifeq (pc := 160) D rfl (fun q =>
        fk_jump cut_184_227 rfl rfl) (fun q D =>
        j_ic (pc := 163) D rfl fun D =>
        j_istn (pc := 164) (L' := [(2, (0, 3)), (0, (4, 377)), (1, (4, x1))]) D rfl nl_184 rfl rfl fun D =>
        j_goto (pc := 165) D rfl <|
        fk_jump cut_184_227 rfl rfl)) (fun m4 q3 h1 e1 =>
      j_tx (hx_184 _))
theorem e_184_168 (d : Nat) (x1 x2 : Int) {h : fi_H} (H : Shp h) : c_184_168 d x1 x2 h =
  dv_ (fi_vt 216 (h 0 x1.toNat 0)) fun m4 => ca_ (fj_run d m4 h [(4, x1), (4, 99)]) 0
    (fun v2 h1 =>
    if v2 = 0 then
      c_184_227 d x2 h1
    else
      c_184_227 d 4 h1)
    (fun q3 h1 => tx_ q3 h1) := by
  unfold c_184_168
  exact
    have D : fk_D 184 [(168, some [0, 1, 2], .aload_n 1, 1, 0, 0, 0), (169, none, .ldc_w 264, 3, 4, 99, 0), (172, none, .invokevirtual 194, 3, 1, 216, 1), (175, none, .ifCond .eq 52, 3, 227, 0, 0), (178, none, .iconst 4, 1, 0, 4, 0), (179, none, .istore_n 2, 1, 0, 0, 0), (180, none, .goto 47, 3, 227, 0, 0)] := fq_of2 cd_184 ow_184 cl_184 rfl (pc := 168) (by decide +kernel)
    j_aldn (pc := 168) D rfl rfl rfl fun D =>
    j_ldcw (pc := 169) D rfl fun D =>
    j_ivu (pc := 172) (dd := 216) (a := [(4, 99)]) (rest := []) H.2.1 D rfl rfl rfl rfl rfl (fun m4 v2 h1 e1 D =>
      have T := fj_run_ok _ _ _ _ _ _ H.1 e1
      have H := shp_st H T
      j_ifeq (pc := 175) D rfl (fun q =>
        fk_jump cut_184_227 rfl rfl) (fun q D =>
        j_ic (pc := 178) D rfl fun D =>
        j_istn (pc := 179) (L' := [(2, (0, 4)), (0, (4, 377)), (1, (4, x1))]) D rfl nl_184 rfl rfl fun D =>
        j_goto (pc := 180) D rfl <|
        fk_jump cut_184_227 rfl rfl)) (fun m4 q3 h1 e1 =>
      j_tx (hx_184 _))
theorem e_184_183 (d : Nat) (x1 x2 : Int) {h : fi_H} (H : Shp h) : c_184_183 d x1 x2 h =
  dv_ (fi_vt 216 (h 0 x1.toNat 0)) fun m4 => ca_ (fj_run d m4 h [(4, x1), (4, 203)]) 0
    (fun v2 h1 =>
    if v2 = 0 then
      c_184_227 d x2 h1
    else
      c_184_227 d 5 h1)
    (fun q3 h1 => tx_ q3 h1) := by
  unfold c_184_183
  exact
    have D : fk_D 184 [(183, some [0, 1, 2], .aload_n 1, 1, 0, 0, 0), (184, none, .ldc_w 266, 3, 4, 203, 0), (187, none, .invokevirtual 194, 3, 1, 216, 1), (190, none, .ifCond .eq 37, 3, 227, 0, 0), (193, none, .iconst 5, 1, 0, 5, 0), (194, none, .istore_n 2, 1, 0, 0, 0), (195, none, .goto 32, 3, 227, 0, 0)] := fq_of2 cd_184 ow_184 cl_184 rfl (pc := 183) (by decide +kernel)
    j_aldn (pc := 183) D rfl rfl rfl fun D =>
    j_ldcw (pc := 184) D rfl fun D =>
    j_ivu (pc := 187) (dd := 216) (a := [(4, 203)]) (rest := []) H.2.1 D rfl rfl rfl rfl rfl (fun m4 v2 h1 e1 D =>
      have T := fj_run_ok _ _ _ _ _ _ H.1 e1
      have H := shp_st H T
      j_ifeq (pc := 190) D rfl (fun q =>
        fk_jump cut_184_227 rfl rfl) (fun q D =>
        j_ic (pc := 193) D rfl fun D =>
        j_istn (pc := 194) (L' := [(2, (0, 5)), (0, (4, 377)), (1, (4, x1))]) D rfl nl_184 rfl rfl fun D =>
        j_goto (pc := 195) D rfl <|
        fk_jump cut_184_227 rfl rfl)) (fun m4 q3 h1 e1 =>
      j_tx (hx_184 _))
theorem e_184_198 (d : Nat) (x1 x2 : Int) {h : fi_H} (H : Shp h) : c_184_198 d x1 x2 h =
  dv_ (fi_vt 216 (h 0 x1.toNat 0)) fun m4 => ca_ (fj_run d m4 h [(4, x1), (4, 119)]) 0
    (fun v2 h1 =>
    if v2 = 0 then
      c_184_227 d x2 h1
    else
      c_184_227 d 6 h1)
    (fun q3 h1 => tx_ q3 h1) := by
  unfold c_184_198
  exact
    have D : fk_D 184 [(198, some [0, 1, 2], .aload_n 1, 1, 0, 0, 0), (199, none, .ldc_w 268, 3, 4, 119, 0), (202, none, .invokevirtual 194, 3, 1, 216, 1), (205, none, .ifCond .eq 22, 3, 227, 0, 0), (208, none, .bipush 6, 2, 0, 6, 0), (210, none, .istore_n 2, 1, 0, 0, 0), (211, none, .goto 16, 3, 227, 0, 0)] := fq_of2 cd_184 ow_184 cl_184 rfl (pc := 198) (by decide +kernel)
    j_aldn (pc := 198) D rfl rfl rfl fun D =>
    j_ldcw (pc := 199) D rfl fun D =>
    j_ivu (pc := 202) (dd := 216) (a := [(4, 119)]) (rest := []) H.2.1 D rfl rfl rfl rfl rfl (fun m4 v2 h1 e1 D =>
      have T := fj_run_ok _ _ _ _ _ _ H.1 e1
      have H := shp_st H T
      j_ifeq (pc := 205) D rfl (fun q =>
        fk_jump cut_184_227 rfl rfl) (fun q D =>
        j_bp (pc := 208) D rfl fun D =>
        j_istn (pc := 210) (L' := [(2, (0, 6)), (0, (4, 377)), (1, (4, x1))]) D rfl nl_184 rfl rfl fun D =>
        j_goto (pc := 211) D rfl <|
        fk_jump cut_184_227 rfl rfl)) (fun m4 q3 h1 e1 =>
      j_tx (hx_184 _))
theorem e_184_214 (d : Nat) (x1 x2 : Int) {h : fi_H} (H : Shp h) : c_184_214 d x1 x2 h =
  dv_ (fi_vt 216 (h 0 x1.toNat 0)) fun m4 => ca_ (fj_run d m4 h [(4, x1), (4, 205)]) 0
    (fun v2 h1 =>
    if v2 = 0 then
      c_184_227 d x2 h1
    else
      c_184_227 d 7 h1)
    (fun q3 h1 => tx_ q3 h1) := by
  unfold c_184_214
  exact
    have D : fk_D 184 [(214, some [0, 1, 2], .aload_n 1, 1, 0, 0, 0), (215, none, .ldc_w 270, 3, 4, 205, 0), (218, none, .invokevirtual 194, 3, 1, 216, 1), (221, none, .ifCond .eq 6, 3, 227, 0, 0), (224, none, .bipush 7, 2, 0, 7, 0), (226, none, .istore_n 2, 1, 0, 0, 0)] := fq_of2 cd_184 ow_184 cl_184 rfl (pc := 214) (by decide +kernel)
    j_aldn (pc := 214) D rfl rfl rfl fun D =>
    j_ldcw (pc := 215) D rfl fun D =>
    j_ivu (pc := 218) (dd := 216) (a := [(4, 205)]) (rest := []) H.2.1 D rfl rfl rfl rfl rfl (fun m4 v2 h1 e1 D =>
      have T := fj_run_ok _ _ _ _ _ _ H.1 e1
      have H := shp_st H T
      j_ifeq (pc := 221) D rfl (fun q =>
        fk_jump cut_184_227 rfl rfl) (fun q D =>
        j_bp (pc := 224) D rfl fun D =>
        j_istn (pc := 226) (L' := [(2, (0, 7)), (0, (4, 377)), (1, (4, x1))]) D rfl nl_184 rfl rfl fun D =>
        fk_jump cut_184_227 rfl rfl)) (fun m4 q3 h1 e1 =>
      j_tx (hx_184 _))
theorem e_184_227 (d : Nat) (x2 : Int) {h : fi_H} (H : Shp h) : c_184_227 d x2 h =
  if x2 = 0 then
    c_184_276 d h
  else if x2 = 1 then
    c_184_280 d h
  else if x2 = 2 then
    c_184_284 d h
  else if x2 = 3 then
    c_184_288 d h
  else if x2 = 4 then
    c_184_292 d h
  else if x2 = 5 then
    c_184_296 d h
  else if x2 = 6 then
    c_184_300 d h
  else if x2 = 7 then
    c_184_304 d h
  else 
    c_184_308 d h := by
  unfold c_184_227
  exact
    have D : fk_D 184 [(227, some [0, 2], .iload_n 2, 1, 0, 0, 0), (228, none, .tableswitch 80 0 7 #[48, 52, 56, 60, 64, 68, 72, 76], 48, 0, 0, 0)] := fq_of3 cd_184 ow_184 cl_184 rfl (pc := 227) (by decide +kernel)
    j_ildn (pc := 227) D rfl rfl rfl fun D =>
    have N : fk_ni (x2) [] := trivial
    j_tc (pc := 228) 0 (t := 276) D N rfl (by decide +kernel) (fun q =>
      fk_jump cut_184_276 rfl rfl) (fun N =>
      j_tc 1 (t := 280) D N rfl (by decide +kernel) (fun q =>
        fk_jump cut_184_280 rfl rfl) (fun N =>
        j_tc 2 (t := 284) D N rfl (by decide +kernel) (fun q =>
          fk_jump cut_184_284 rfl rfl) (fun N =>
          j_tc 3 (t := 288) D N rfl (by decide +kernel) (fun q =>
            fk_jump cut_184_288 rfl rfl) (fun N =>
            j_tc 4 (t := 292) D N rfl (by decide +kernel) (fun q =>
              fk_jump cut_184_292 rfl rfl) (fun N =>
              j_tc 5 (t := 296) D N rfl (by decide +kernel) (fun q =>
                fk_jump cut_184_296 rfl rfl) (fun N =>
                j_tc 6 (t := 300) D N rfl (by decide +kernel) (fun q =>
                  fk_jump cut_184_300 rfl rfl) (fun N =>
                  j_tc 7 (t := 304) D N rfl (by decide +kernel) (fun q =>
                    fk_jump cut_184_304 rfl rfl) (fun N =>
                    j_td (t := 308) D N rfl (by decide +kernel) (by decide +kernel) <|
                    fk_jump cut_184_308 rfl rfl))))))))
theorem e_184_276 (d : Nat) {h : fi_H} (H : Shp h) : c_184_276 d h =
  some (.inl (some (4, 2)), h) := by
  unfold c_184_276
  exact
    have D : fk_D 184 [(276, some [], .getstatic 439, 3, 4, 2, 0), (279, none, .areturn, 1, 0, 0, 0)] := fq_of2 cd_184 ow_184 cl_184 rfl (pc := 276) (by decide +kernel)
    j_gs (pc := 276) D rfl fun D =>
    j_aret D rt_184
theorem e_184_280 (d : Nat) {h : fi_H} (H : Shp h) : c_184_280 d h =
  some (.inl (some (4, 3)), h) := by
  unfold c_184_280
  exact
    have D : fk_D 184 [(280, some [], .getstatic 408, 3, 4, 3, 0), (283, none, .areturn, 1, 0, 0, 0)] := fq_of2 cd_184 ow_184 cl_184 rfl (pc := 280) (by decide +kernel)
    j_gs (pc := 280) D rfl fun D =>
    j_aret D rt_184
theorem e_184_284 (d : Nat) {h : fi_H} (H : Shp h) : c_184_284 d h =
  some (.inl (some (4, 4)), h) := by
  unfold c_184_284
  exact
    have D : fk_D 184 [(284, some [], .getstatic 431, 3, 4, 4, 0), (287, none, .areturn, 1, 0, 0, 0)] := fq_of2 cd_184 ow_184 cl_184 rfl (pc := 284) (by decide +kernel)
    j_gs (pc := 284) D rfl fun D =>
    j_aret D rt_184
theorem e_184_288 (d : Nat) {h : fi_H} (H : Shp h) : c_184_288 d h =
  some (.inl (some (4, 5)), h) := by
  unfold c_184_288
  exact
    have D : fk_D 184 [(288, some [], .getstatic 420, 3, 4, 5, 0), (291, none, .areturn, 1, 0, 0, 0)] := fq_of2 cd_184 ow_184 cl_184 rfl (pc := 288) (by decide +kernel)
    j_gs (pc := 288) D rfl fun D =>
    j_aret D rt_184
theorem e_184_292 (d : Nat) {h : fi_H} (H : Shp h) : c_184_292 d h =
  some (.inl (some (4, 6)), h) := by
  unfold c_184_292
  exact
    have D : fk_D 184 [(292, some [], .getstatic 434, 3, 4, 6, 0), (295, none, .areturn, 1, 0, 0, 0)] := fq_of2 cd_184 ow_184 cl_184 rfl (pc := 292) (by decide +kernel)
    j_gs (pc := 292) D rfl fun D =>
    j_aret D rt_184
theorem e_184_296 (d : Nat) {h : fi_H} (H : Shp h) : c_184_296 d h =
  some (.inl (some (4, 7)), h) := by
  unfold c_184_296
  exact
    have D : fk_D 184 [(296, some [], .getstatic 423, 3, 4, 7, 0), (299, none, .areturn, 1, 0, 0, 0)] := fq_of2 cd_184 ow_184 cl_184 rfl (pc := 296) (by decide +kernel)
    j_gs (pc := 296) D rfl fun D =>
    j_aret D rt_184
theorem e_184_300 (d : Nat) {h : fi_H} (H : Shp h) : c_184_300 d h =
  some (.inl (some (4, 8)), h) := by
  unfold c_184_300
  exact
    have D : fk_D 184 [(300, some [], .getstatic 461, 3, 4, 8, 0), (303, none, .areturn, 1, 0, 0, 0)] := fq_of2 cd_184 ow_184 cl_184 rfl (pc := 300) (by decide +kernel)
    j_gs (pc := 300) D rfl fun D =>
    j_aret D rt_184
theorem e_184_304 (d : Nat) {h : fi_H} (H : Shp h) : c_184_304 d h =
  some (.inl (some (4, 9)), h) := by
  unfold c_184_304
  exact
    have D : fk_D 184 [(304, some [], .getstatic 464, 3, 4, 9, 0), (307, none, .areturn, 1, 0, 0, 0)] := fq_of2 cd_184 ow_184 cl_184 rfl (pc := 304) (by decide +kernel)
    j_gs (pc := 304) D rfl fun D =>
    j_aret D rt_184
theorem e_184_308 (d : Nat) {h : fi_H} (H : Shp h) : c_184_308 d h =
  ca_ (fj_run d 164 h [(4, 377), (0, 1)]) 4
    (fun v2 h1 =>
    if v2 ≠ 0 then
    tx_ v2.toNat h1
    else none)
    (fun q3 h1 => tx_ q3 h1) := by
  unfold c_184_308
  exact
    have D : fk_D 184 [(308, some [0], .aload_n 0, 1, 0, 0, 0), (309, none, .iconst 1, 1, 0, 1, 0), (310, none, .invokevirtual 190, 3, 1, 258, 5), (313, none, .athrow, 1, 0, 0, 0)] := fq_of2 cd_184 ow_184 cl_184 rfl (pc := 308) (by decide +kernel)
    j_aldn (pc := 308) D rfl rfl rfl fun D =>
    j_ic (pc := 309) D rfl fun D =>
    j_iv (pc := 310) (m := 164) (dd := 258) (a := [(0, 1)]) (rest := []) D rfl rfl rfl rfl rfl (by decide) (s0_377 H) (by decide +kernel) (fun v2 h1 e1 D =>
      have T := fj_run_ok _ _ _ _ _ _ H.1 e1
      have H := shp_st H T
      j_at (pc := 313) D gn <|
      j_tx (hx_184 _)) (fun q3 h1 e1 =>
      j_tx (hx_184 _))
theorem m_184 (d : Nat) {h : fi_H} (H : Shp h) : fj_run (d + 1) 184 h [(4, 377)] =
  if 0 ≤ h 158 377 0 ∧ h 158 377 0 < 1202 then
  if h 8 378 (h 158 377 0).toNat = 2 then
    dv_ (fi_vt 215 (h 0 (h 12 383 (h 158 377 0).toNat).toNat 0)) fun m5 => ca_ (fj_run d m5 h [(4, h 12 383 (h 158 377 0).toNat)]) 0
      (fun v3 h2 =>
      if v3 = (-991716523) then
        c_184_214 d (h 12 383 (h 158 377 0).toNat) (-1) h2
      else if v3 = 3076014 then
        c_184_168 d (h 12 383 (h 158 377 0).toNat) (-1) h2
      else if v3 = 3493088 then
        c_184_153 d (h 12 383 (h 158 377 0).toNat) (-1) h2
      else if v3 = 3496350 then
        c_184_198 d (h 12 383 (h 158 377 0).toNat) (-1) h2
      else if v3 = 3536714 then
        c_184_183 d (h 12 383 (h 158 377 0).toNat) (-1) h2
      else if v3 = 94851343 then
        c_184_123 d (h 12 383 (h 158 377 0).toNat) (-1) h2
      else if v3 = 104079552 then
        c_184_138 d (h 12 383 (h 158 377 0).toNat) (-1) h2
      else if v3 = 110640747 then
        c_184_108 d (h 12 383 (h 158 377 0).toNat) (-1) h2
      else 
        c_184_227 d (-1) h2)
      (fun q4 h2 => tx_ q4 h2)
  else
    ca_ (fj_run d 164 h [(4, 377), (0, 1)]) 4
      (fun v7 h6 =>
      if v7 ≠ 0 then
      tx_ v7.toNat h6
      else none)
      (fun q8 h6 => tx_ q8 h6)
  else none := by
  rw [fj_run_eq d (by decide) h [(4, 377)] (Nat.le_of_ble_eq_true (by rw [nl_184]; rfl))]
  show gG (fj_run d) 184 0 [(0, (4, 377))] [] h = _
  exact
    have D : fk_D 184 [(0, none, .aload_n 0, 1, 0, 0, 0), (1, none, .getfield 15, 3, 149, 115, 12), (4, none, .aload_n 0, 1, 0, 0, 0), (5, none, .getfield 104, 3, 158, 115, 10), (8, none, .baload, 1, 0, 0, 0), (9, none, .iconst 2, 1, 0, 2, 0), (10, none, .if_icmp .eq 9, 3, 19, 0, 0), (13, none, .aload_n 0, 1, 0, 0, 0), (14, none, .iconst 1, 1, 0, 1, 0), (15, none, .invokevirtual 190, 3, 1, 258, 5), (18, none, .athrow, 1, 0, 0, 0)] := fq_of2 cd_184 ow_184 cl_184 rfl (pc := 0) (by decide +kernel)
    j_aldn (pc := 0) D rfl rfl rfl fun D =>
    j_gfc (pc := 1) (a := 377) D rfl rfl (by decide) rfl (s0_377 H) rfl (sf_149_377 H) fun D =>
    j_aldn (pc := 4) D rfl rfl rfl fun D =>
    j_gf (pc := 5) (a := 377) D rfl rfl (by decide) rfl (s0_377 H) rfl fun D =>
    j_al (pc := 8) (a := 378) (e := 8) D rfl rfl rfl (by decide) (s0_378 H) (s1_378 H) ⟨rfl, rfl, rfl⟩ rfl gn fun qb1 D =>
    j_ic (pc := 9) D rfl fun D =>
    j_ieq (pc := 10) D rfl (fun q =>
      have D : fk_D 184 [(19, none, .aload_n 0, 1, 0, 0, 0), (20, none, .getfield 37, 3, 154, 115, 12), (23, none, .aload_n 0, 1, 0, 0, 0), (24, none, .getfield 104, 3, 158, 115, 10), (27, none, .aaload, 1, 0, 0, 0), (28, none, .astore_n 1, 1, 0, 0, 0), (29, none, .iconst (-1), 1, 0, (-1), 0), (30, none, .istore_n 2, 1, 0, 0, 0), (31, none, .aload_n 1, 1, 0, 0, 0), (32, none, .invokevirtual 220, 3, 0, 215, 1), (35, none, .lookupswitch 192 #[(-991716523, 179), (3076014, 133), (3493088, 118), (3496350, 163), (3536714, 148), (94851343, 88), (104079552, 103), (110640747, 73)], 73, 0, 0, 0)] := fq_of3 cd_184 ow_184 cl_184 rfl (pc := 19) (by decide +kernel)
      j_aldn (pc := 19) D rfl rfl rfl fun D =>
      j_gfc (pc := 20) (a := 377) D rfl rfl (by decide) rfl (s0_377 H) rfl (sf_154_377 H) fun D =>
      j_aldn (pc := 23) D rfl rfl rfl fun D =>
      j_gf (pc := 24) (a := 377) D rfl rfl (by decide) rfl (s0_377 H) rfl fun D =>
      j_al (pc := 27) (a := 383) (e := 12) D rfl rfl rfl (by decide) (s0_383 H) (s1_383 H) ⟨rfl, rfl, rfl⟩ rfl (gy qb1) fun q D =>
      j_astn (pc := 28) (L' := [(1, (4, h 12 383 (h 158 377 0).toNat)), (0, (4, 377))]) D rfl nl_184 rfl rfl fun D =>
      j_ic (pc := 29) D rfl fun D =>
      j_istn (pc := 30) (L' := [(2, (0, (-1))), (1, (4, h 12 383 (h 158 377 0).toNat)), (0, (4, 377))]) D rfl nl_184 rfl rfl fun D =>
      j_aldn (pc := 31) D rfl rfl rfl fun D =>
      j_ivu (pc := 32) (dd := 215) (a := []) (rest := []) H.2.1 D rfl rfl rfl rfl rfl (fun m5 v3 h2 e1 D =>
        have T := fj_run_ok _ _ _ _ _ _ H.1 e1
        have H := shp_st H T
        have N : fk_ni (v3) [] := trivial
        j_lc (pc := 35) (-991716523) (t := 214) D N rfl (by decide +kernel) (by decide +kernel) (fun q =>
          fk_jump cut_184_214 rfl rfl) (fun N =>
          j_lc 3076014 (t := 168) D N rfl (by decide +kernel) (by decide +kernel) (fun q =>
            fk_jump cut_184_168 rfl rfl) (fun N =>
            j_lc 3493088 (t := 153) D N rfl (by decide +kernel) (by decide +kernel) (fun q =>
              fk_jump cut_184_153 rfl rfl) (fun N =>
              j_lc 3496350 (t := 198) D N rfl (by decide +kernel) (by decide +kernel) (fun q =>
                fk_jump cut_184_198 rfl rfl) (fun N =>
                j_lc 3536714 (t := 183) D N rfl (by decide +kernel) (by decide +kernel) (fun q =>
                  fk_jump cut_184_183 rfl rfl) (fun N =>
                  j_lc 94851343 (t := 123) D N rfl (by decide +kernel) (by decide +kernel) (fun q =>
                    fk_jump cut_184_123 rfl rfl) (fun N =>
                    j_lc 104079552 (t := 138) D N rfl (by decide +kernel) (by decide +kernel) (fun q =>
                      fk_jump cut_184_138 rfl rfl) (fun N =>
                      j_lc 110640747 (t := 108) D N rfl (by decide +kernel) (by decide +kernel) (fun q =>
                        fk_jump cut_184_108 rfl rfl) (fun N =>
                        j_ldf (t := 227) D N rfl (by decide +kernel) (by decide +kernel) (by decide +kernel) <|
                        fk_jump cut_184_227 rfl rfl))))))))) (fun m5 q4 h2 e1 =>
        j_tx (hx_184 _))) (fun q D =>
      j_aldn (pc := 13) D rfl rfl rfl fun D =>
      j_ic (pc := 14) D rfl fun D =>
      j_iv (pc := 15) (m := 164) (dd := 258) (a := [(0, 1)]) (rest := []) D rfl rfl rfl rfl rfl (by decide) (s0_377 H) (by decide +kernel) (fun v7 h6 e1 D =>
        have T := fj_run_ok _ _ _ _ _ _ H.1 e1
        have H := shp_st H T
        j_at (pc := 18) D gn <|
        j_tx (hx_184 _)) (fun q8 h6 e1 =>
        j_tx (hx_184 _)))
/-! 185 StatuteHouse$Told.<init>(Ljava/lang/String;ZZLStatuteHouse$Kind;)V -/
theorem cd_185 : fi_code 185 = prog_63_method_1_code := rfl
theorem hx_185 : ∀ pc, fi_hat 185 pc = none := fun pc => by unfold fi_hat; rw [show fi_hh 185 = [] from rfl]; rfl
theorem rt_185 : fi_ret 185 = none := rfl
theorem nl_185 : fi_nl 185 = 5 := rfl
theorem ow_185 : fi_ow 185 = 24 := rfl
theorem cl_185 : fj_cutT.getD 185 [] = [] := rfl
theorem m_185 (d : Nat) (x0 x1 x2 x3 x4 : Int) {h : fi_H} (H : Shp h) (hk : h 0 x0.toNat 0 = 124) : fj_run (d + 1) 185 h [(4, x0), (4, x1), (0, x2), (0, x3), (4, x4)] =
  cv_ (fj_run d 1009 h [(4, x0)])
    (fun h1 =>
    if 302 < x0 then
    lt_ (fi_upd h1 325 x0.toNat 0 10) fun h4 =>
    if 302 < x0 then
    lt_ (fi_upd h4 326 x0.toNat 0 1) fun h5 =>
    if 302 < x0 then
    if h5 321 x0.toNat 0 = 0 then
    lt_ (fi_upd h5 321 x0.toNat 0 x1) fun h6 =>
    if 302 < x0 then
    if fi_rg 4 x2 = true then
    if h6 322 x0.toNat 0 = 0 then
    lt_ (fi_upd h6 322 x0.toNat 0 x2) fun h7 =>
    if 302 < x0 then
    if fi_rg 4 x3 = true then
    if h7 323 x0.toNat 0 = 0 then
    lt_ (fi_upd h7 323 x0.toNat 0 x3) fun h8 =>
    if 302 < x0 then
    if h8 324 x0.toNat 0 = 0 then
    lt_ (fi_upd h8 324 x0.toNat 0 x4) fun h9 =>
    some (.inl none, h9)
    else none
    else none
    else none
    else none
    else none
    else none
    else none
    else none
    else none
    else none
    else none
    else none)
    (fun q3 h1 => tx_ q3 h1) := by
  rw [fj_run_eq d (by decide) h [(4, x0), (4, x1), (0, x2), (0, x3), (4, x4)] (Nat.le_of_ble_eq_true (by rw [nl_185]; rfl))]
  show gG (fj_run d) 185 0 [(0, (4, x0)), (1, (4, x1)), (2, (0, x2)), (3, (0, x3)), (4, (4, x4))] [] h = _
  exact
    have D : fk_D 185 [(0, none, .aload_n 0, 1, 0, 0, 0), (1, none, .invokespecial 1, 3, 0, 1009, 0), (4, none, .aload_n 0, 1, 0, 0, 0), (5, none, .getstatic 7, 3, 4, 10, 0), (8, none, .putfield 13, 3, 325, 124, 12), (11, none, .aload_n 0, 1, 0, 0, 0), (12, none, .lconst 1, 1, 0, 0, 0), (13, none, .putfield 18, 3, 326, 124, 11), (16, none, .aload_n 0, 1, 0, 0, 0), (17, none, .aload_n 1, 1, 0, 0, 0), (18, none, .putfield 22, 3, 321, 124, 112), (21, none, .aload_n 0, 1, 0, 0, 0), (22, none, .iload_n 2, 1, 0, 0, 0), (23, none, .putfield 26, 3, 322, 124, 104), (26, none, .aload_n 0, 1, 0, 0, 0), (27, none, .iload_n 3, 1, 0, 0, 0), (28, none, .putfield 30, 3, 323, 124, 104), (31, none, .aload_n 0, 1, 0, 0, 0), (32, none, .aload 4, 2, 0, 0, 0), (34, none, .putfield 33, 3, 324, 124, 112)] := fq_of2 cd_185 ow_185 cl_185 rfl (pc := 0) (by decide +kernel)
    j_aldn (pc := 0) D rfl rfl rfl fun D =>
    j_spv (pc := 1) (m := 1009) (a := []) (rest := []) D rfl rfl rfl rfl (by rw [show h 0 x0.toNat 0 = 124 from hk]; decide) (nz_cls H.2.1 hk (by decide)) (fun h1 e1 D =>
      have T := fj_run_ok _ _ _ _ _ _ H.1 e1
      have hk := cls_st H.1 T.2 hk (by decide)
      have H := shp_st H T
      j_aldn (pc := 4) D rfl rfl rfl fun D =>
      j_gs (pc := 5) D rfl fun D =>
      j_pf (pc := 8) (a := x0.toNat) D rfl rfl rfl hk rfl rfl gn (gy rfl) fun h4 eh4 S D =>
      have T := fj_hs_ok H.1 S
      have hk := cls_st H.1 T.2 hk (by decide)
      have H := shp_st H T
      j_aldn (pc := 11) D rfl rfl rfl fun D =>
      j_c0 (pc := 12) (v := (1, 1)) D rfl rfl (by decide +kernel) fun D =>
      j_pf (pc := 13) (a := x0.toNat) D rfl rfl rfl hk rfl rfl gn (gy rfl) fun h5 eh5 S D =>
      have T := fj_hs_ok H.1 S
      have hk := cls_st H.1 T.2 hk (by decide)
      have H := shp_st H T
      j_aldn (pc := 16) D rfl rfl rfl fun D =>
      j_aldn (pc := 17) D rfl rfl rfl fun D =>
      j_pfF (pc := 18) (a := x0.toNat) (ty := 12) D rfl rfl rfl hk ⟨rfl, rfl⟩ rfl gn (gy rfl) gn fun h6 eh6 S D =>
      have T := fj_hs_ok H.1 S
      have hk := cls_st H.1 T.2 hk (by decide)
      have H := shp_st H T
      j_aldn (pc := 21) D rfl rfl rfl fun D =>
      j_ildn (pc := 22) D rfl rfl rfl fun D =>
      j_pfF (pc := 23) (a := x0.toNat) (ty := 4) D rfl rfl rfl hk ⟨rfl, rfl⟩ rfl gn gn gn fun h7 eh7 S D =>
      have T := fj_hs_ok H.1 S
      have hk := cls_st H.1 T.2 hk (by decide)
      have H := shp_st H T
      j_aldn (pc := 26) D rfl rfl rfl fun D =>
      j_ildn (pc := 27) D rfl rfl rfl fun D =>
      j_pfF (pc := 28) (a := x0.toNat) (ty := 4) D rfl rfl rfl hk ⟨rfl, rfl⟩ rfl gn gn gn fun h8 eh8 S D =>
      have T := fj_hs_ok H.1 S
      have hk := cls_st H.1 T.2 hk (by decide)
      have H := shp_st H T
      j_aldn (pc := 31) D rfl rfl rfl fun D =>
      j_ald (pc := 32) D rfl rfl rfl fun D =>
      j_pfF (pc := 34) (a := x0.toNat) (ty := 12) D rfl rfl rfl hk ⟨rfl, rfl⟩ rfl gn (gy rfl) gn fun h9 eh9 S D =>
      have T := fj_hs_ok H.1 S
      have hk := cls_st H.1 T.2 hk (by decide)
      have H := shp_st H T
      have D : fk_D 185 [(37, none, .return_, 1, 0, 0, 0)] := fq_of2 cd_185 ow_185 cl_185 rfl (pc := 37) (by decide +kernel)
      j_vret D rt_185) (fun q3 h1 e1 =>
      j_tx (hx_185 _))
/-! 186 StatuteHouse$Reader.adorned(LStatuteHouse$Told;)V -/
theorem cd_186 : fi_code 186 = prog_53_method_36_code := rfl
theorem hx_186 : ∀ pc, fi_hat 186 pc = none := fun pc => by unfold fi_hat; rw [show fi_hh 186 = [] from rfl]; rfl
theorem rt_186 : fi_ret 186 = none := rfl
theorem nl_186 : fi_nl 186 = 2 := rfl
theorem ow_186 : fi_ow 186 = 15 := rfl
theorem cl_186 : fj_cutT.getD 186 [] = [(35, [0]), (58, [0, 1]), (72, [0, 1]), (100, [0])] := rfl
theorem cut_186_35 : fj_cut 186 35 = some [0] := by decide +kernel
noncomputable def c_186_35 (d : Nat) (h : fi_H) : fk_R := gG (fj_run d) 186 35 [(0, (4, 377))] [] h
theorem cut_186_58 : fj_cut 186 58 = some [0, 1] := by decide +kernel
noncomputable def c_186_58 (d : Nat) (x1 : Int) (h : fi_H) : fk_R := gG (fj_run d) 186 58 [(0, (4, 377)), (1, (4, x1))] [] h
theorem cut_186_72 : fj_cut 186 72 = some [0, 1] := by decide +kernel
noncomputable def c_186_72 (d : Nat) (x1 : Int) (h : fi_H) : fk_R := gG (fj_run d) 186 72 [(0, (4, 377)), (1, (4, x1))] [] h
theorem cut_186_100 : fj_cut 186 100 = some [0] := by decide +kernel
noncomputable def c_186_100 (d : Nat) (h : fi_H) : fk_R := gG (fj_run d) 186 100 [(0, (4, 377))] [] h
theorem e_186_35 (d : Nat) {h : fi_H} (H : Shp h) : c_186_35 d h =
  ca_ (fj_run d 164 h [(4, 377), (0, 5)]) 4
    (fun v2 h1 =>
    if v2 ≠ 0 then
    tx_ v2.toNat h1
    else none)
    (fun q3 h1 => tx_ q3 h1) := by
  unfold c_186_35
  exact
    have D : fk_D 186 [(35, some [0], .aload_n 0, 1, 0, 0, 0), (36, none, .iconst 5, 1, 0, 5, 0), (37, none, .invokevirtual 190, 3, 1, 258, 5), (40, none, .athrow, 1, 0, 0, 0)] := fq_of2 cd_186 ow_186 cl_186 rfl (pc := 35) (by decide +kernel)
    j_aldn (pc := 35) D rfl rfl rfl fun D =>
    j_ic (pc := 36) D rfl fun D =>
    j_iv (pc := 37) (m := 164) (dd := 258) (a := [(0, 5)]) (rest := []) D rfl rfl rfl rfl rfl (by decide) (s0_377 H) (by decide +kernel) (fun v2 h1 e1 D =>
      have T := fj_run_ok _ _ _ _ _ _ H.1 e1
      have H := shp_st H T
      j_at (pc := 40) D gn <|
      j_tx (hx_186 _)) (fun q3 h1 e1 =>
      j_tx (hx_186 _))
theorem e_186_58 (d : Nat) (x1 : Int) {h : fi_H} (H : Shp h) : c_186_58 d x1 h =
  ca_ (fj_run d 162 h [(4, 377), (4, 195)]) 0
    (fun v2 h1 =>
    if v2 = 0 then
      c_186_72 d x1 h1
    else
      cv_ (fj_run d 189 h1 [(4, 377), (4, x1)])
        (fun h4 =>
        c_186_72 d x1 h4)
        (fun q6 h4 => tx_ q6 h4))
    (fun q3 h1 => tx_ q3 h1) := by
  unfold c_186_58
  exact
    have D : fk_D 186 [(58, some [0, 1], .aload_n 0, 1, 0, 0, 0), (59, none, .ldc 254, 2, 4, 195, 0), (61, none, .invokevirtual 209, 3, 1, 262, 1), (64, none, .ifCond .eq 8, 3, 72, 0, 0), (67, none, .aload_n 0, 1, 0, 0, 0), (68, none, .aload_n 1, 1, 0, 0, 0), (69, none, .invokevirtual 513, 3, 1, 278, 0)] := fq_of2 cd_186 ow_186 cl_186 rfl (pc := 58) (by decide +kernel)
    j_aldn (pc := 58) D rfl rfl rfl fun D =>
    j_ldc (pc := 59) D rfl fun D =>
    j_iv (pc := 61) (m := 162) (dd := 262) (a := [(4, 195)]) (rest := []) D rfl rfl rfl rfl rfl (by decide) (s0_377 H) (by decide +kernel) (fun v2 h1 e1 D =>
      have T := fj_run_ok _ _ _ _ _ _ H.1 e1
      have H := shp_st H T
      j_ifeq (pc := 64) D rfl (fun q =>
        fk_jump cut_186_72 rfl rfl) (fun q D =>
        j_aldn (pc := 67) D rfl rfl rfl fun D =>
        j_aldn (pc := 68) D rfl rfl rfl fun D =>
        j_ivv (pc := 69) (m := 189) (dd := 278) (a := [(4, x1)]) (rest := []) D rfl rfl rfl rfl rfl (by decide) (s0_377 H) (by decide +kernel) (fun h4 e1 D =>
          have T := fj_run_ok _ _ _ _ _ _ H.1 e1
          have H := shp_st H T
          fk_jump cut_186_72 rfl rfl) (fun q6 h4 e1 =>
          j_tx (hx_186 _)))) (fun q3 h1 e1 =>
      j_tx (hx_186 _))
theorem e_186_72 (d : Nat) (x1 : Int) {h : fi_H} (H : Shp h) : c_186_72 d x1 h =
  ca_ (fj_run d 162 h [(4, 377), (4, 243)]) 0
    (fun v2 h1 =>
    if v2 = 0 then
      some (.inl none, h1)
    else
      if h1 0 x1.toNat 0 = 124 then
      if h1 322 x1.toNat 0 = 0 then
        if h1 324 x1.toNat 0 = 9 then
          if 302 < x1 then
          lt_ (fi_upd h1 330 x1.toNat 0 1) fun h5 =>
          cv_ (fj_run d 166 h5 [(4, 377)])
            (fun h6 =>
            some (.inl none, h6))
            (fun q8 h6 => tx_ q8 h6)
          else none
        else
          c_186_100 d h1
      else
        c_186_100 d h1
      else none)
    (fun q3 h1 => tx_ q3 h1) := by
  unfold c_186_72
  exact
    have D : fk_D 186 [(72, some [0, 1], .aload_n 0, 1, 0, 0, 0), (73, none, .ldc_w 332, 3, 4, 243, 0), (76, none, .invokevirtual 209, 3, 1, 262, 1), (79, none, .ifCond .ne 4, 3, 83, 0, 0), (82, none, .return_, 1, 0, 0, 0)] := fq_of2 cd_186 ow_186 cl_186 rfl (pc := 72) (by decide +kernel)
    j_aldn (pc := 72) D rfl rfl rfl fun D =>
    j_ldcw (pc := 73) D rfl fun D =>
    j_iv (pc := 76) (m := 162) (dd := 262) (a := [(4, 243)]) (rest := []) D rfl rfl rfl rfl rfl (by decide) (s0_377 H) (by decide +kernel) (fun v2 h1 e1 D =>
      have T := fj_run_ok _ _ _ _ _ _ H.1 e1
      have H := shp_st H T
      j_ifne (pc := 79) D rfl (fun q D =>
        j_vret D rt_186) (fun q =>
        have D : fk_D 186 [(83, none, .aload_n 1, 1, 0, 0, 0), (84, none, .getfield 504, 3, 322, (-124), 4), (87, none, .ifCond .ne 13, 3, 100, 0, 0), (90, none, .aload_n 1, 1, 0, 0, 0), (91, none, .getfield 448, 3, 324, 124, 12), (94, none, .getstatic 464, 3, 4, 9, 0), (97, none, .if_acmp .eq 9, 3, 106, 0, 0)] := fq_of2 cd_186 ow_186 cl_186 rfl (pc := 83) (by decide +kernel)
        j_aldn (pc := 83) D rfl rfl rfl fun D =>
        j_gfo (pc := 84) H.2.1 D rfl rfl rfl rfl fun kc4 D =>
        j_ifne (pc := 87) D rfl (fun q D =>
          j_aldn (pc := 90) D rfl rfl rfl fun D =>
          j_gf (pc := 91) (a := x1.toNat) D rfl rfl (nz_cls H.2.1 kc4 (by decide)) rfl kc4 rfl fun D =>
          j_gs (pc := 94) D rfl fun D =>
          j_aeq (pc := 97) D rfl (fun q =>
            have D : fk_D 186 [(106, none, .aload_n 1, 1, 0, 0, 0), (107, none, .iconst 1, 1, 0, 1, 0), (108, none, .putfield 516, 3, 330, 124, 4), (111, none, .aload_n 0, 1, 0, 0, 0), (112, none, .invokevirtual 206, 3, 0, 261, 0), (115, none, .return_, 1, 0, 0, 0)] := fq_of2 cd_186 ow_186 cl_186 rfl (pc := 106) (by decide +kernel)
            j_aldn (pc := 106) D rfl rfl rfl fun D =>
            j_ic (pc := 107) D rfl fun D =>
            j_pf (pc := 108) (a := x1.toNat) D rfl rfl rfl kc4 rfl rfl gn (gy (by decide)) fun h5 eh5 S D =>
            have T := fj_hs_ok H.1 S
            have kc4 := cls_st H.1 T.2 kc4 (by decide)
            have H := shp_st H T
            j_aldn (pc := 111) D rfl rfl rfl fun D =>
            j_ivv (pc := 112) (m := 166) (dd := 261) (a := []) (rest := []) D rfl rfl rfl rfl rfl (by decide) (s0_377 H) (by decide +kernel) (fun h6 e1 D =>
              have T := fj_run_ok _ _ _ _ _ _ H.1 e1
              have kc4 := cls_st H.1 T.2 kc4 (by decide)
              have H := shp_st H T
              j_vret D rt_186) (fun q8 h6 e1 =>
              j_tx (hx_186 _))) (fun q D =>
            fk_jump cut_186_100 rfl rfl)) (fun q =>
          fk_jump cut_186_100 rfl rfl))) (fun q3 h1 e1 =>
      j_tx (hx_186 _))
theorem e_186_100 (d : Nat) {h : fi_H} (H : Shp h) : c_186_100 d h =
  ca_ (fj_run d 164 h [(4, 377), (0, 5)]) 4
    (fun v2 h1 =>
    if v2 ≠ 0 then
    tx_ v2.toNat h1
    else none)
    (fun q3 h1 => tx_ q3 h1) := by
  unfold c_186_100
  exact
    have D : fk_D 186 [(100, some [0], .aload_n 0, 1, 0, 0, 0), (101, none, .iconst 5, 1, 0, 5, 0), (102, none, .invokevirtual 190, 3, 1, 258, 5), (105, none, .athrow, 1, 0, 0, 0)] := fq_of2 cd_186 ow_186 cl_186 rfl (pc := 100) (by decide +kernel)
    j_aldn (pc := 100) D rfl rfl rfl fun D =>
    j_ic (pc := 101) D rfl fun D =>
    j_iv (pc := 102) (m := 164) (dd := 258) (a := [(0, 5)]) (rest := []) D rfl rfl rfl rfl rfl (by decide) (s0_377 H) (by decide +kernel) (fun v2 h1 e1 D =>
      have T := fj_run_ok _ _ _ _ _ _ H.1 e1
      have H := shp_st H T
      j_at (pc := 105) D gn <|
      j_tx (hx_186 _)) (fun q3 h1 e1 =>
      j_tx (hx_186 _))
theorem m_186 (d : Nat) (x1 : Int) {h : fi_H} (H : Shp h) : fj_run (d + 1) 186 h [(4, 377), (4, x1)] =
  ca_ (fj_run d 187 h [(4, 377)]) 4
    (fun v2 h1 =>
    if h1 0 x1.toNat 0 = 124 then
    if 302 < x1 then
    lt_ (fi_upd h1 325 x1.toNat 0 v2) fun h4 =>
    if h4 325 x1.toNat 0 = 10 then
      c_186_58 d x1 h4
    else
      if h4 322 x1.toNat 0 = 0 then
        c_186_35 d h4
      else
        if h4 324 x1.toNat 0 = 4 then
          cv_ (fj_run d 166 h4 [(4, 377)])
            (fun h6 =>
            ca_ (fj_run d 188 h6 [(4, 377), (0, 1), (0, 999999999)]) 0
              (fun v10 h9 =>
              if 302 < x1 then
              lt_ (fi_upd h9 326 x1.toNat 0 (wI v10)) fun h12 =>
              c_186_58 d x1 h12
              else none)
              (fun q11 h9 => tx_ q11 h9))
            (fun q8 h6 => tx_ q8 h6)
        else
          c_186_35 d h4
    else none
    else none)
    (fun q3 h1 => tx_ q3 h1) := by
  rw [fj_run_eq d (by decide) h [(4, 377), (4, x1)] (Nat.le_of_ble_eq_true (by rw [nl_186]; rfl))]
  show gG (fj_run d) 186 0 [(0, (4, 377)), (1, (4, x1))] [] h = _
  exact
    have D : fk_D 186 [(0, none, .aload_n 1, 1, 0, 0, 0), (1, none, .aload_n 0, 1, 0, 0, 0), (2, none, .invokevirtual 498, 3, 0, 276, 5), (5, none, .putfield 502, 3, 325, (-124), 12), (8, none, .aload_n 1, 1, 0, 0, 0), (9, none, .getfield 502, 3, 325, 124, 12), (12, none, .getstatic 467, 3, 4, 10, 0), (15, none, .if_acmp .eq 43, 3, 58, 0, 0), (18, none, .aload_n 1, 1, 0, 0, 0), (19, none, .getfield 504, 3, 322, 124, 4), (22, none, .ifCond .eq 13, 3, 35, 0, 0), (25, none, .aload_n 1, 1, 0, 0, 0), (26, none, .getfield 448, 3, 324, 124, 12), (29, none, .getstatic 431, 3, 4, 4, 0), (32, none, .if_acmp .eq 9, 3, 41, 0, 0)] := fq_of2 cd_186 ow_186 cl_186 rfl (pc := 0) (by decide +kernel)
    j_aldn (pc := 0) D rfl rfl rfl fun D =>
    j_aldn (pc := 1) D rfl rfl rfl fun D =>
    j_iv (pc := 2) (m := 187) (dd := 276) (a := []) (rest := [(4, x1)]) D rfl rfl rfl rfl rfl (by decide) (s0_377 H) (by decide +kernel) (fun v2 h1 e1 D =>
      have T := fj_run_ok _ _ _ _ _ _ H.1 e1
      have H := shp_st H T
      j_pfo (pc := 5) D rfl rfl rfl rfl rfl gn gn (gy rfl) fun h4 eh4 S kc5 D =>
      have T := fj_hs_ok H.1 S
      have kc5 := cls_st H.1 T.2 kc5 (by decide)
      have H := shp_st H T
      j_aldn (pc := 8) D rfl rfl rfl fun D =>
      j_gf (pc := 9) (a := x1.toNat) D rfl rfl (nz_cls H.2.1 kc5 (by decide)) rfl kc5 rfl fun D =>
      j_gs (pc := 12) D rfl fun D =>
      j_aeq (pc := 15) D rfl (fun q =>
        fk_jump cut_186_58 rfl rfl) (fun q D =>
        j_aldn (pc := 18) D rfl rfl rfl fun D =>
        j_gf (pc := 19) (a := x1.toNat) D rfl rfl (nz_cls H.2.1 kc5 (by decide)) rfl kc5 rfl fun D =>
        j_ifeq (pc := 22) D rfl (fun q =>
          fk_jump cut_186_35 rfl rfl) (fun q D =>
          j_aldn (pc := 25) D rfl rfl rfl fun D =>
          j_gf (pc := 26) (a := x1.toNat) D rfl rfl (nz_cls H.2.1 kc5 (by decide)) rfl kc5 rfl fun D =>
          j_gs (pc := 29) D rfl fun D =>
          j_aeq (pc := 32) D rfl (fun q =>
            have D : fk_D 186 [(41, none, .aload_n 0, 1, 0, 0, 0), (42, none, .invokevirtual 206, 3, 0, 261, 0), (45, none, .aload_n 1, 1, 0, 0, 0), (46, none, .aload_n 0, 1, 0, 0, 0), (47, none, .iconst 1, 1, 0, 1, 0), (48, none, .ldc_w 507, 3, 0, 999999999, 0), (51, none, .invokevirtual 508, 3, 2, 277, 1), (54, none, .i2l, 1, 0, 0, 0), (55, none, .putfield 511, 3, 326, 124, 11)] := fq_of2 cd_186 ow_186 cl_186 rfl (pc := 41) (by decide +kernel)
            j_aldn (pc := 41) D rfl rfl rfl fun D =>
            j_ivv (pc := 42) (m := 166) (dd := 261) (a := []) (rest := []) D rfl rfl rfl rfl rfl (by decide) (s0_377 H) (by decide +kernel) (fun h6 e1 D =>
              have T := fj_run_ok _ _ _ _ _ _ H.1 e1
              have kc5 := cls_st H.1 T.2 kc5 (by decide)
              have H := shp_st H T
              j_aldn (pc := 45) D rfl rfl rfl fun D =>
              j_aldn (pc := 46) D rfl rfl rfl fun D =>
              j_ic (pc := 47) D rfl fun D =>
              j_ldcw (pc := 48) D rfl fun D =>
              j_iv (pc := 51) (m := 188) (dd := 277) (a := [(0, 1), (0, 999999999)]) (rest := [(4, x1)]) D rfl rfl rfl rfl rfl (by decide) (s0_377 H) (by decide +kernel) (fun v10 h9 e1 D =>
                have T := fj_run_ok _ _ _ _ _ _ H.1 e1
                have kc5 := cls_st H.1 T.2 kc5 (by decide)
                have H := shp_st H T
                j_i2l (pc := 54) D rfl fun D =>
                j_pf (pc := 55) (a := x1.toNat) D rfl rfl rfl kc5 rfl rfl gn (gy rfl) fun h12 eh12 S D =>
                have T := fj_hs_ok H.1 S
                have kc5 := cls_st H.1 T.2 kc5 (by decide)
                have H := shp_st H T
                fk_jump cut_186_58 rfl rfl) (fun q11 h9 e1 =>
                j_tx (hx_186 _))) (fun q8 h6 e1 =>
              j_tx (hx_186 _))) (fun q D =>
            fk_jump cut_186_35 rfl rfl)))) (fun q3 h1 e1 =>
      j_tx (hx_186 _))
/-! 187 StatuteHouse$Reader.mode()LStatuteHouse$Mode; -/
theorem cd_187 : fi_code 187 = prog_53_method_33_code := rfl
theorem hx_187 : ∀ pc, fi_hat 187 pc = none := fun pc => by unfold fi_hat; rw [show fi_hh 187 = [] from rfl]; rfl
theorem rt_187 : fj_ft (fi_ret 187) = 5 := rfl
theorem nl_187 : fi_nl 187 = 3 := rfl
theorem ow_187 : fi_ow 187 = 15 := rfl
theorem cl_187 : fj_cutT.getD 187 [] = [(133, [2])] := rfl
theorem cut_187_133 : fj_cut 187 133 = some [2] := by decide +kernel
noncomputable def c_187_133 (d : Nat) (x2 : Int) (h : fi_H) : fk_R := gG (fj_run d) 187 133 [(2, (0, x2))] [] h
theorem e_187_133 (d : Nat) (x2 : Int) {h : fi_H} (H : Shp h) : c_187_133 d x2 h =
  if x2 = 0 then
    some (.inl (some (4, 11)), h)
  else if x2 = 1 then
    some (.inl (some (4, 12)), h)
  else if x2 = 2 then
    some (.inl (some (4, 13)), h)
  else if x2 = 3 then
    some (.inl (some (4, 14)), h)
  else 
    some (.inl (some (4, 10)), h) := by
  unfold c_187_133
  exact
    have D : fk_D 187 [(133, some [2], .iload_n 2, 1, 0, 0, 0), (134, none, .tableswitch 46 0 3 #[30, 34, 38, 42], 30, 0, 0, 0)] := fq_of3 cd_187 ow_187 cl_187 rfl (pc := 133) (by decide +kernel)
    j_ildn (pc := 133) D rfl rfl rfl fun D =>
    have N : fk_ni (x2) [] := trivial
    j_tc (pc := 134) 0 (t := 164) D N rfl (by decide +kernel) (fun q =>
      have D : fk_D 187 [(164, none, .getstatic 473, 3, 4, 11, 0), (167, none, .areturn, 1, 0, 0, 0)] := fq_of2 cd_187 ow_187 cl_187 rfl (pc := 164) (by decide +kernel)
      j_gs (pc := 164) D rfl fun D =>
      j_aret D rt_187) (fun N =>
      j_tc 1 (t := 168) D N rfl (by decide +kernel) (fun q =>
        have D : fk_D 187 [(168, none, .getstatic 476, 3, 4, 12, 0), (171, none, .areturn, 1, 0, 0, 0)] := fq_of2 cd_187 ow_187 cl_187 rfl (pc := 168) (by decide +kernel)
        j_gs (pc := 168) D rfl fun D =>
        j_aret D rt_187) (fun N =>
        j_tc 2 (t := 172) D N rfl (by decide +kernel) (fun q =>
          have D : fk_D 187 [(172, none, .getstatic 479, 3, 4, 13, 0), (175, none, .areturn, 1, 0, 0, 0)] := fq_of2 cd_187 ow_187 cl_187 rfl (pc := 172) (by decide +kernel)
          j_gs (pc := 172) D rfl fun D =>
          j_aret D rt_187) (fun N =>
          j_tc 3 (t := 176) D N rfl (by decide +kernel) (fun q =>
            have D : fk_D 187 [(176, none, .getstatic 482, 3, 4, 14, 0), (179, none, .areturn, 1, 0, 0, 0)] := fq_of2 cd_187 ow_187 cl_187 rfl (pc := 176) (by decide +kernel)
            j_gs (pc := 176) D rfl fun D =>
            j_aret D rt_187) (fun N =>
            j_td (t := 180) D N rfl (by decide +kernel) (by decide +kernel) <|
            have D : fk_D 187 [(180, none, .getstatic 467, 3, 4, 10, 0), (183, none, .areturn, 1, 0, 0, 0)] := fq_of2 cd_187 ow_187 cl_187 rfl (pc := 180) (by decide +kernel)
            j_gs (pc := 180) D rfl fun D =>
            j_aret D rt_187))))
theorem m_187 (d : Nat) {h : fi_H} (H : Shp h) : fj_run (d + 1) 187 h [(4, 377)] =
  if 0 ≤ h 158 377 0 ∧ h 158 377 0 < 1202 then
  if h 8 378 (h 158 377 0).toNat = 2 then
    dv_ (fi_vt 215 (h 0 (h 12 383 (h 158 377 0).toNat).toNat 0)) fun m5 => ca_ (fj_run d m5 h [(4, h 12 383 (h 158 377 0).toNat)]) 0
      (fun v3 h2 =>
      if v3 = 3739 then
        dv_ (fi_vt 216 (h2 0 (h 12 383 (h 158 377 0).toNat).toNat 0)) fun m9 => ca_ (fj_run d m9 h2 [(4, h 12 383 (h 158 377 0).toNat), (4, 91)]) 0
          (fun v7 h6 =>
          if v7 = 0 then
            c_187_133 d (-1) h6
          else
            c_187_133 d 0 h6)
          (fun q8 h6 => tx_ q8 h6)
      else if v3 = 3089570 then
        dv_ (fi_vt 216 (h2 0 (h 12 383 (h 158 377 0).toNat).toNat 0)) fun m13 => ca_ (fj_run d m13 h2 [(4, h 12 383 (h 158 377 0).toNat), (4, 93)]) 0
          (fun v11 h10 =>
          if v11 = 0 then
            c_187_133 d (-1) h10
          else
            c_187_133 d 1 h10)
          (fun q12 h10 => tx_ q12 h10)
      else if v3 = 3125530 then
        dv_ (fi_vt 216 (h2 0 (h 12 383 (h 158 377 0).toNat).toNat 0)) fun m17 => ca_ (fj_run d m17 h2 [(4, h 12 383 (h 158 377 0).toNat), (4, 97)]) 0
          (fun v15 h14 =>
          if v15 = 0 then
            c_187_133 d (-1) h14
          else
            c_187_133 d 3 h14)
          (fun q16 h14 => tx_ q16 h14)
      else if v3 = 3377192 then
        dv_ (fi_vt 216 (h2 0 (h 12 383 (h 158 377 0).toNat).toNat 0)) fun m21 => ca_ (fj_run d m21 h2 [(4, h 12 383 (h 158 377 0).toNat), (4, 95)]) 0
          (fun v19 h18 =>
          if v19 = 0 then
            c_187_133 d (-1) h18
          else
            c_187_133 d 2 h18)
          (fun q20 h18 => tx_ q20 h18)
      else 
        c_187_133 d (-1) h2)
      (fun q4 h2 => tx_ q4 h2)
  else
    some (.inl (some (4, 10)), h)
  else none := by
  rw [fj_run_eq d (by decide) h [(4, 377)] (Nat.le_of_ble_eq_true (by rw [nl_187]; rfl))]
  show gG (fj_run d) 187 0 [(0, (4, 377))] [] h = _
  exact
    have D : fk_D 187 [(0, none, .aload_n 0, 1, 0, 0, 0), (1, none, .getfield 15, 3, 149, 115, 12), (4, none, .aload_n 0, 1, 0, 0, 0), (5, none, .getfield 104, 3, 158, 115, 10), (8, none, .baload, 1, 0, 0, 0), (9, none, .iconst 2, 1, 0, 2, 0), (10, none, .if_icmp .eq 7, 3, 17, 0, 0), (13, none, .getstatic 467, 3, 4, 10, 0), (16, none, .areturn, 1, 0, 0, 0)] := fq_of2 cd_187 ow_187 cl_187 rfl (pc := 0) (by decide +kernel)
    j_aldn (pc := 0) D rfl rfl rfl fun D =>
    j_gfc (pc := 1) (a := 377) D rfl rfl (by decide) rfl (s0_377 H) rfl (sf_149_377 H) fun D =>
    j_aldn (pc := 4) D rfl rfl rfl fun D =>
    j_gf (pc := 5) (a := 377) D rfl rfl (by decide) rfl (s0_377 H) rfl fun D =>
    j_al (pc := 8) (a := 378) (e := 8) D rfl rfl rfl (by decide) (s0_378 H) (s1_378 H) ⟨rfl, rfl, rfl⟩ rfl gn fun qb1 D =>
    j_ic (pc := 9) D rfl fun D =>
    j_ieq (pc := 10) D rfl (fun q =>
      have D : fk_D 187 [(17, none, .aload_n 0, 1, 0, 0, 0), (18, none, .getfield 37, 3, 154, 115, 12), (21, none, .aload_n 0, 1, 0, 0, 0), (22, none, .getfield 104, 3, 158, 115, 10), (25, none, .aaload, 1, 0, 0, 0), (26, none, .astore_n 1, 1, 0, 0, 0), (27, none, .iconst (-1), 1, 0, (-1), 0), (28, none, .istore_n 2, 1, 0, 0, 0), (29, none, .aload_n 1, 1, 0, 0, 0), (30, none, .invokevirtual 220, 3, 0, 215, 1), (33, none, .lookupswitch 100 #[(3739, 43), (3089570, 58), (3125530, 88), (3377192, 73)], 43, 0, 0, 0)] := fq_of3 cd_187 ow_187 cl_187 rfl (pc := 17) (by decide +kernel)
      j_aldn (pc := 17) D rfl rfl rfl fun D =>
      j_gfc (pc := 18) (a := 377) D rfl rfl (by decide) rfl (s0_377 H) rfl (sf_154_377 H) fun D =>
      j_aldn (pc := 21) D rfl rfl rfl fun D =>
      j_gf (pc := 22) (a := 377) D rfl rfl (by decide) rfl (s0_377 H) rfl fun D =>
      j_al (pc := 25) (a := 383) (e := 12) D rfl rfl rfl (by decide) (s0_383 H) (s1_383 H) ⟨rfl, rfl, rfl⟩ rfl (gy qb1) fun q D =>
      j_astn (pc := 26) (L' := [(1, (4, h 12 383 (h 158 377 0).toNat)), (0, (4, 377))]) D rfl nl_187 rfl rfl fun D =>
      j_ic (pc := 27) D rfl fun D =>
      j_istn (pc := 28) (L' := [(2, (0, (-1))), (1, (4, h 12 383 (h 158 377 0).toNat)), (0, (4, 377))]) D rfl nl_187 rfl rfl fun D =>
      j_aldn (pc := 29) D rfl rfl rfl fun D =>
      j_ivu (pc := 30) (dd := 215) (a := []) (rest := []) H.2.1 D rfl rfl rfl rfl rfl (fun m5 v3 h2 e1 D =>
        have T := fj_run_ok _ _ _ _ _ _ H.1 e1
        have H := shp_st H T
        have N : fk_ni (v3) [] := trivial
        j_lc (pc := 33) 3739 (t := 76) D N rfl (by decide +kernel) (by decide +kernel) (fun q =>
          have D : fk_D 187 [(76, none, .aload_n 1, 1, 0, 0, 0), (77, none, .ldc_w 272, 3, 4, 91, 0), (80, none, .invokevirtual 194, 3, 1, 216, 1), (83, none, .ifCond .eq 50, 3, 133, 0, 0), (86, none, .iconst 0, 1, 0, 0, 0), (87, none, .istore_n 2, 1, 0, 0, 0), (88, none, .goto 45, 3, 133, 0, 0)] := fq_of2 cd_187 ow_187 cl_187 rfl (pc := 76) (by decide +kernel)
          j_aldn (pc := 76) D rfl rfl rfl fun D =>
          j_ldcw (pc := 77) D rfl fun D =>
          j_ivu (pc := 80) (dd := 216) (a := [(4, 91)]) (rest := []) H.2.1 D rfl rfl rfl rfl rfl (fun m9 v7 h6 e1 D =>
            have T := fj_run_ok _ _ _ _ _ _ H.1 e1
            have H := shp_st H T
            j_ifeq (pc := 83) D rfl (fun q =>
              fk_jump cut_187_133 rfl rfl) (fun q D =>
              j_ic (pc := 86) D rfl fun D =>
              j_istn (pc := 87) (L' := [(2, (0, 0)), (1, (4, h 12 383 (h 158 377 0).toNat)), (0, (4, 377))]) D rfl nl_187 rfl rfl fun D =>
              j_goto (pc := 88) D rfl <|
              fk_jump cut_187_133 rfl rfl)) (fun m9 q8 h6 e1 =>
            j_tx (hx_187 _))) (fun N =>
          j_lc 3089570 (t := 91) D N rfl (by decide +kernel) (by decide +kernel) (fun q =>
            have D : fk_D 187 [(91, none, .aload_n 1, 1, 0, 0, 0), (92, none, .ldc_w 274, 3, 4, 93, 0), (95, none, .invokevirtual 194, 3, 1, 216, 1), (98, none, .ifCond .eq 35, 3, 133, 0, 0), (101, none, .iconst 1, 1, 0, 1, 0), (102, none, .istore_n 2, 1, 0, 0, 0), (103, none, .goto 30, 3, 133, 0, 0)] := fq_of2 cd_187 ow_187 cl_187 rfl (pc := 91) (by decide +kernel)
            j_aldn (pc := 91) D rfl rfl rfl fun D =>
            j_ldcw (pc := 92) D rfl fun D =>
            j_ivu (pc := 95) (dd := 216) (a := [(4, 93)]) (rest := []) H.2.1 D rfl rfl rfl rfl rfl (fun m13 v11 h10 e1 D =>
              have T := fj_run_ok _ _ _ _ _ _ H.1 e1
              have H := shp_st H T
              j_ifeq (pc := 98) D rfl (fun q =>
                fk_jump cut_187_133 rfl rfl) (fun q D =>
                j_ic (pc := 101) D rfl fun D =>
                j_istn (pc := 102) (L' := [(2, (0, 1)), (1, (4, h 12 383 (h 158 377 0).toNat)), (0, (4, 377))]) D rfl nl_187 rfl rfl fun D =>
                j_goto (pc := 103) D rfl <|
                fk_jump cut_187_133 rfl rfl)) (fun m13 q12 h10 e1 =>
              j_tx (hx_187 _))) (fun N =>
            j_lc 3125530 (t := 121) D N rfl (by decide +kernel) (by decide +kernel) (fun q =>
              have D : fk_D 187 [(121, none, .aload_n 1, 1, 0, 0, 0), (122, none, .ldc_w 278, 3, 4, 97, 0), (125, none, .invokevirtual 194, 3, 1, 216, 1), (128, none, .ifCond .eq 5, 3, 133, 0, 0), (131, none, .iconst 3, 1, 0, 3, 0), (132, none, .istore_n 2, 1, 0, 0, 0)] := fq_of2 cd_187 ow_187 cl_187 rfl (pc := 121) (by decide +kernel)
              j_aldn (pc := 121) D rfl rfl rfl fun D =>
              j_ldcw (pc := 122) D rfl fun D =>
              j_ivu (pc := 125) (dd := 216) (a := [(4, 97)]) (rest := []) H.2.1 D rfl rfl rfl rfl rfl (fun m17 v15 h14 e1 D =>
                have T := fj_run_ok _ _ _ _ _ _ H.1 e1
                have H := shp_st H T
                j_ifeq (pc := 128) D rfl (fun q =>
                  fk_jump cut_187_133 rfl rfl) (fun q D =>
                  j_ic (pc := 131) D rfl fun D =>
                  j_istn (pc := 132) (L' := [(2, (0, 3)), (1, (4, h 12 383 (h 158 377 0).toNat)), (0, (4, 377))]) D rfl nl_187 rfl rfl fun D =>
                  fk_jump cut_187_133 rfl rfl)) (fun m17 q16 h14 e1 =>
                j_tx (hx_187 _))) (fun N =>
              j_lc 3377192 (t := 106) D N rfl (by decide +kernel) (by decide +kernel) (fun q =>
                have D : fk_D 187 [(106, none, .aload_n 1, 1, 0, 0, 0), (107, none, .ldc_w 276, 3, 4, 95, 0), (110, none, .invokevirtual 194, 3, 1, 216, 1), (113, none, .ifCond .eq 20, 3, 133, 0, 0), (116, none, .iconst 2, 1, 0, 2, 0), (117, none, .istore_n 2, 1, 0, 0, 0), (118, none, .goto 15, 3, 133, 0, 0)] := fq_of2 cd_187 ow_187 cl_187 rfl (pc := 106) (by decide +kernel)
                j_aldn (pc := 106) D rfl rfl rfl fun D =>
                j_ldcw (pc := 107) D rfl fun D =>
                j_ivu (pc := 110) (dd := 216) (a := [(4, 95)]) (rest := []) H.2.1 D rfl rfl rfl rfl rfl (fun m21 v19 h18 e1 D =>
                  have T := fj_run_ok _ _ _ _ _ _ H.1 e1
                  have H := shp_st H T
                  j_ifeq (pc := 113) D rfl (fun q =>
                    fk_jump cut_187_133 rfl rfl) (fun q D =>
                    j_ic (pc := 116) D rfl fun D =>
                    j_istn (pc := 117) (L' := [(2, (0, 2)), (1, (4, h 12 383 (h 158 377 0).toNat)), (0, (4, 377))]) D rfl nl_187 rfl rfl fun D =>
                    j_goto (pc := 118) D rfl <|
                    fk_jump cut_187_133 rfl rfl)) (fun m21 q20 h18 e1 =>
                  j_tx (hx_187 _))) (fun N =>
                j_ldf (t := 133) D N rfl (by decide +kernel) (by decide +kernel) (by decide +kernel) <|
                fk_jump cut_187_133 rfl rfl))))) (fun m5 q4 h2 e1 =>
        j_tx (hx_187 _))) (fun q D =>
      j_gs (pc := 13) D rfl fun D =>
      j_aret D rt_187)
/-! 188 StatuteHouse$Reader.number(II)I -/
theorem cd_188 : fi_code 188 = prog_53_method_26_code := rfl
theorem hx_188 : ∀ pc, fi_hat 188 pc = none := fun pc => by unfold fi_hat; rw [show fi_hh 188 = [] from rfl]; rfl
theorem rt_188 : fi_ret 188 = some .int := rfl
theorem nl_188 : fi_nl 188 = 4 := rfl
theorem ow_188 : fi_ow 188 = 15 := rfl
theorem cl_188 : fj_cutT.getD 188 [] = [] := rfl
theorem m_188 (d : Nat) (x1 x2 : Int) {h : fi_H} (H : Shp h) : fj_run (d + 1) 188 h [(4, 377), (0, x1), (0, x2)] =
  if 0 ≤ h 158 377 0 ∧ h 158 377 0 < 1202 then
  if h 8 378 (h 158 377 0).toNat = 3 then
    ca_ (fj_run d 3 h [(1, wI (h 10 380 (h 158 377 0).toNat)), (1, wI x1), (1, wI x2)]) 0
      (fun v3 h2 =>
      if v3 = 0 then
        ca_ (fj_run d 164 h2 [(4, 377), (0, 3)]) 4
          (fun v6 h5 =>
          if v6 ≠ 0 then
          tx_ v6.toNat h5
          else none)
          (fun q7 h5 => tx_ q7 h5)
      else
        cv_ (fj_run d 166 h2 [(4, 377)])
          (fun h8 =>
          some (.inl (some (0, h 10 380 (h 158 377 0).toNat)), h8))
          (fun q10 h8 => tx_ q10 h8))
      (fun q4 h2 => tx_ q4 h2)
  else
    ca_ (fj_run d 164 h [(4, 377), (0, 1)]) 4
      (fun v12 h11 =>
      if v12 ≠ 0 then
      tx_ v12.toNat h11
      else none)
      (fun q13 h11 => tx_ q13 h11)
  else none := by
  rw [fj_run_eq d (by decide) h [(4, 377), (0, x1), (0, x2)] (Nat.le_of_ble_eq_true (by rw [nl_188]; rfl))]
  show gG (fj_run d) 188 0 [(0, (4, 377)), (1, (0, x1)), (2, (0, x2))] [] h = _
  exact
    have D : fk_D 188 [(0, none, .aload_n 0, 1, 0, 0, 0), (1, none, .getfield 15, 3, 149, 115, 12), (4, none, .aload_n 0, 1, 0, 0, 0), (5, none, .getfield 104, 3, 158, 115, 10), (8, none, .baload, 1, 0, 0, 0), (9, none, .iconst 3, 1, 0, 3, 0), (10, none, .if_icmp .eq 9, 3, 19, 0, 0), (13, none, .aload_n 0, 1, 0, 0, 0), (14, none, .iconst 1, 1, 0, 1, 0), (15, none, .invokevirtual 190, 3, 1, 258, 5), (18, none, .athrow, 1, 0, 0, 0)] := fq_of2 cd_188 ow_188 cl_188 rfl (pc := 0) (by decide +kernel)
    j_aldn (pc := 0) D rfl rfl rfl fun D =>
    j_gfc (pc := 1) (a := 377) D rfl rfl (by decide) rfl (s0_377 H) rfl (sf_149_377 H) fun D =>
    j_aldn (pc := 4) D rfl rfl rfl fun D =>
    j_gf (pc := 5) (a := 377) D rfl rfl (by decide) rfl (s0_377 H) rfl fun D =>
    j_al (pc := 8) (a := 378) (e := 8) D rfl rfl rfl (by decide) (s0_378 H) (s1_378 H) ⟨rfl, rfl, rfl⟩ rfl gn fun qb1 D =>
    j_ic (pc := 9) D rfl fun D =>
    j_ieq (pc := 10) D rfl (fun q =>
      have D : fk_D 188 [(19, none, .aload_n 0, 1, 0, 0, 0), (20, none, .getfield 23, 3, 151, 115, 12), (23, none, .aload_n 0, 1, 0, 0, 0), (24, none, .getfield 104, 3, 158, 115, 10), (27, none, .iaload, 1, 0, 0, 0), (28, none, .istore_n 3, 1, 0, 0, 0), (29, none, .iload_n 3, 1, 0, 0, 0), (30, none, .i2l, 1, 0, 0, 0), (31, none, .iload_n 1, 1, 0, 0, 0), (32, none, .i2l, 1, 0, 0, 0), (33, none, .iload_n 2, 1, 0, 0, 0), (34, none, .i2l, 1, 0, 0, 0), (35, none, .invokestatic 385, 3, 3, 3, 1), (38, none, .ifCond .ne 9, 3, 47, 0, 0), (41, none, .aload_n 0, 1, 0, 0, 0), (42, none, .iconst 3, 1, 0, 3, 0), (43, none, .invokevirtual 190, 3, 1, 258, 5), (46, none, .athrow, 1, 0, 0, 0)] := fq_of2 cd_188 ow_188 cl_188 rfl (pc := 19) (by decide +kernel)
      j_aldn (pc := 19) D rfl rfl rfl fun D =>
      j_gfc (pc := 20) (a := 377) D rfl rfl (by decide) rfl (s0_377 H) rfl (sf_151_377 H) fun D =>
      j_aldn (pc := 23) D rfl rfl rfl fun D =>
      j_gf (pc := 24) (a := 377) D rfl rfl (by decide) rfl (s0_377 H) rfl fun D =>
      j_al (pc := 27) (a := 380) (e := 10) D rfl rfl rfl (by decide) (s0_380 H) (s1_380 H) ⟨rfl, rfl, rfl⟩ rfl (gy qb1) fun q D =>
      j_istn (pc := 28) (L' := [(3, (0, h 10 380 (h 158 377 0).toNat)), (0, (4, 377)), (1, (0, x1)), (2, (0, x2))]) D rfl nl_188 rfl rfl fun D =>
      j_ildn (pc := 29) D rfl rfl rfl fun D =>
      j_i2l (pc := 30) D rfl fun D =>
      j_ildn (pc := 31) D rfl rfl rfl fun D =>
      j_i2l (pc := 32) D rfl fun D =>
      j_ildn (pc := 33) D rfl rfl rfl fun D =>
      j_i2l (pc := 34) D rfl fun D =>
      j_is (pc := 35) (m := 3) (a := [(1, wI (h 10 380 (h 158 377 0).toNat)), (1, wI x1), (1, wI x2)]) (rest := []) D rfl rfl rfl rfl (fun v3 h2 e1 D =>
        have T := fj_run_ok _ _ _ _ _ _ H.1 e1
        have H := shp_st H T
        j_ifne (pc := 38) D rfl (fun q D =>
          j_aldn (pc := 41) D rfl rfl rfl fun D =>
          j_ic (pc := 42) D rfl fun D =>
          j_iv (pc := 43) (m := 164) (dd := 258) (a := [(0, 3)]) (rest := []) D rfl rfl rfl rfl rfl (by decide) (s0_377 H) (by decide +kernel) (fun v6 h5 e1 D =>
            have T := fj_run_ok _ _ _ _ _ _ H.1 e1
            have H := shp_st H T
            j_at (pc := 46) D gn <|
            j_tx (hx_188 _)) (fun q7 h5 e1 =>
            j_tx (hx_188 _))) (fun q =>
          have D : fk_D 188 [(47, none, .aload_n 0, 1, 0, 0, 0), (48, none, .invokevirtual 206, 3, 0, 261, 0), (51, none, .iload_n 3, 1, 0, 0, 0), (52, none, .ireturn, 1, 0, 0, 0)] := fq_of2 cd_188 ow_188 cl_188 rfl (pc := 47) (by decide +kernel)
          j_aldn (pc := 47) D rfl rfl rfl fun D =>
          j_ivv (pc := 48) (m := 166) (dd := 261) (a := []) (rest := []) D rfl rfl rfl rfl rfl (by decide) (s0_377 H) (by decide +kernel) (fun h8 e1 D =>
            have T := fj_run_ok _ _ _ _ _ _ H.1 e1
            have H := shp_st H T
            j_ildn (pc := 51) D rfl rfl rfl fun D =>
            j_iret D rt_188) (fun q10 h8 e1 =>
            j_tx (hx_188 _)))) (fun q4 h2 e1 =>
        j_tx (hx_188 _))) (fun q D =>
      j_aldn (pc := 13) D rfl rfl rfl fun D =>
      j_ic (pc := 14) D rfl fun D =>
      j_iv (pc := 15) (m := 164) (dd := 258) (a := [(0, 1)]) (rest := []) D rfl rfl rfl rfl rfl (by decide) (s0_377 H) (by decide +kernel) (fun v12 h11 e1 D =>
        have T := fj_run_ok _ _ _ _ _ _ H.1 e1
        have H := shp_st H T
        j_at (pc := 18) D gn <|
        j_tx (hx_188 _)) (fun q13 h11 e1 =>
        j_tx (hx_188 _)))
/-! 189 StatuteHouse$Reader.elseOf(LStatuteHouse$Told;)V -/
theorem cd_189 : fi_code 189 = prog_53_method_31_code := rfl
theorem hx_189 : ∀ pc, fi_hat 189 pc = none := fun pc => by unfold fi_hat; rw [show fi_hh 189 = [] from rfl]; rfl
theorem rt_189 : fi_ret 189 = none := rfl
theorem nl_189 : fi_nl 189 = 4 := rfl
theorem ow_189 : fi_ow 189 = 15 := rfl
theorem cl_189 : fj_cutT.getD 189 [] = [(75, [0, 1, 3]), (101, [0]), (105, [])] := rfl
theorem cut_189_75 : fj_cut 189 75 = some [0, 1, 3] := by decide +kernel
noncomputable def c_189_75 (d : Nat) (x1 x3 s0 s1 : Int) (h : fi_H) : fk_R := gG (fj_run d) 189 75 [(0, (4, 377)), (1, (4, x1)), (3, (0, x3))] [(1, s1), (4, s0)] h
theorem cut_189_101 : fj_cut 189 101 = some [0] := by decide +kernel
noncomputable def c_189_101 (d : Nat) (s0 : Int) (h : fi_H) : fk_R := gG (fj_run d) 189 101 [(0, (4, 377))] [(4, s0)] h
theorem cut_189_105 : fj_cut 189 105 = some [] := by decide +kernel
noncomputable def c_189_105 (d : Nat) (s0 s1 : Int) (h : fi_H) : fk_R := gG (fj_run d) 189 105 [] [(1, s1), (4, s0)] h
theorem e_189_75 (d : Nat) (x1 x3 s0 s1 : Int) {h : fi_H} (H : Shp h) : c_189_75 d x1 x3 s0 s1 h =
  if h 0 s0.toNat 0 = 124 then
  if 302 < s0 then
  lt_ (fi_upd h 327 s0.toNat 0 s1) fun h1 =>
  if x3 = 0 then
    c_189_101 d x1 h1
  else
    if h1 0 x1.toNat 0 = 124 then
    if h1 324 x1.toNat 0 = 7 then
      c_189_105 d x1 (wJ (-(h1 169 377 0))) h1
    else
      c_189_101 d x1 h1
    else none
  else none
  else none := by
  unfold c_189_75
  exact
    have D : fk_D 189 [(75, some [0, 1, 3], .putfield 455, 3, 327, (-124), 11), (78, none, .aload_n 1, 1, 0, 0, 0), (79, none, .iload_n 3, 1, 0, 0, 0), (80, none, .ifCond .eq 21, 3, 101, 0, 0), (83, none, .aload_n 1, 1, 0, 0, 0), (84, none, .getfield 448, 3, 324, (-124), 12), (87, none, .getstatic 423, 3, 4, 7, 0), (90, none, .if_acmp .ne 11, 3, 101, 0, 0), (93, none, .aload_n 0, 1, 0, 0, 0), (94, none, .getfield 405, 3, 169, 115, 11), (97, none, .lneg, 1, 0, 0, 0), (98, none, .goto 7, 3, 105, 0, 0)] := fq_of2 cd_189 ow_189 cl_189 rfl (pc := 75) (by decide +kernel)
    j_pfo (pc := 75) D rfl rfl rfl rfl rfl gn gn (gy rfl) fun h1 eh1 S kc2 D =>
    have T := fj_hs_ok H.1 S
    have H := shp_st H T
    j_aldn (pc := 78) D rfl rfl rfl fun D =>
    j_ildn (pc := 79) D rfl rfl rfl fun D =>
    j_ifeq (pc := 80) D rfl (fun q =>
      fk_jump cut_189_101 rfl rfl) (fun q D =>
      j_aldn (pc := 83) D rfl rfl rfl fun D =>
      j_gfo (pc := 84) H.2.1 D rfl rfl rfl rfl fun kc3 D =>
      j_gs (pc := 87) D rfl fun D =>
      j_ane (pc := 90) D rfl (fun q D =>
        j_aldn (pc := 93) D rfl rfl rfl fun D =>
        j_gf (pc := 94) (a := 377) D rfl rfl (by decide) rfl (s0_377 H) rfl fun D =>
        j_lneg (pc := 97) D rfl fun D =>
        j_goto (pc := 98) D rfl <|
        fk_jump cut_189_105 rfl rfl) (fun q =>
        fk_jump cut_189_101 rfl rfl))
theorem e_189_101 (d : Nat) (s0 : Int) {h : fi_H} (H : Shp h) : c_189_101 d s0 h =
  c_189_105 d s0 (h 169 377 0) h := by
  unfold c_189_101
  exact
    have D : fk_D 189 [(101, some [0], .aload_n 0, 1, 0, 0, 0), (102, none, .getfield 405, 3, 169, 115, 11)] := fq_of2 cd_189 ow_189 cl_189 rfl (pc := 101) (by decide +kernel)
    j_aldn (pc := 101) D rfl rfl rfl fun D =>
    j_gf (pc := 102) (a := 377) D rfl rfl (by decide) rfl (s0_377 H) rfl fun D =>
    fk_jump cut_189_105 rfl rfl
theorem e_189_105 (d : Nat) (s0 s1 : Int) {h : fi_H} (H : Shp h) : c_189_105 d s0 s1 h =
  if h 0 s0.toNat 0 = 124 then
  if 302 < s0 then
  lt_ (fi_upd h 328 s0.toNat 0 s1) fun h1 =>
  some (.inl none, h1)
  else none
  else none := by
  unfold c_189_105
  exact
    have D : fk_D 189 [(105, some [], .putfield 458, 3, 328, (-124), 11), (108, none, .return_, 1, 0, 0, 0)] := fq_of2 cd_189 ow_189 cl_189 rfl (pc := 105) (by decide +kernel)
    j_pfo (pc := 105) D rfl rfl rfl rfl rfl gn gn (gy rfl) fun h1 eh1 S kc2 D =>
    have T := fj_hs_ok H.1 S
    have H := shp_st H T
    j_vret D rt_189
theorem m_189 (d : Nat) (x1 : Int) {h : fi_H} (H : Shp h) : fj_run (d + 1) 189 h [(4, 377), (4, x1)] =
  cv_ (fj_run d 166 h [(4, 377)])
    (fun h1 =>
    if 0 ≤ h1 158 377 0 ∧ h1 158 377 0 < 1202 then
    ca_ (fj_run d 190 h1 [(4, 377)]) 0
      (fun v6 h5 =>
      ca_ (fj_run d 191 h5 [(4, 377)]) 0
        (fun v9 h8 =>
        if v9 = 0 then
          ca_ (fj_run d 164 h8 [(4, 377), (0, 1)]) 4
            (fun v12 h11 =>
            if v12 ≠ 0 then
            tx_ v12.toNat h11
            else none)
            (fun q13 h11 => tx_ q13 h11)
        else
          if h8 0 x1.toNat 0 = 124 then
          if h8 167 377 0 = h8 324 x1.toNat 0 then
            if 302 < x1 then
            lt_ (fi_upd h8 329 x1.toNat 0 1) fun h15 =>
            if v6 = 0 then
              c_189_75 d x1 v6 x1 (h15 168 377 0) h15
            else
              c_189_75 d x1 v6 x1 (wJ (-(h15 168 377 0))) h15
            else none
          else
            ca_ (fj_run d 165 h8 [(4, 303), (0, 5), (0, h1 9 379 (h1 158 377 0).toNat)]) 4
              (fun v17 h16 =>
              if v17 ≠ 0 then
              tx_ v17.toNat h16
              else none)
              (fun q18 h16 => tx_ q18 h16)
          else none)
        (fun q10 h8 => tx_ q10 h8))
      (fun q7 h5 => tx_ q7 h5)
    else none)
    (fun q3 h1 => tx_ q3 h1) := by
  rw [fj_run_eq d (by decide) h [(4, 377), (4, x1)] (Nat.le_of_ble_eq_true (by rw [nl_189]; rfl))]
  show gG (fj_run d) 189 0 [(0, (4, 377)), (1, (4, x1))] [] h = _
  exact
    have D : fk_D 189 [(0, none, .aload_n 0, 1, 0, 0, 0), (1, none, .invokevirtual 206, 3, 0, 261, 0), (4, none, .aload_n 0, 1, 0, 0, 0), (5, none, .getfield 19, 3, 150, 115, 12), (8, none, .aload_n 0, 1, 0, 0, 0), (9, none, .getfield 104, 3, 158, 115, 10), (12, none, .saload, 1, 0, 0, 0), (13, none, .istore_n 2, 1, 0, 0, 0), (14, none, .aload_n 0, 1, 0, 0, 0), (15, none, .invokevirtual 442, 3, 0, 271, 1), (18, none, .istore_n 3, 1, 0, 0, 0), (19, none, .aload_n 0, 1, 0, 0, 0), (20, none, .invokevirtual 445, 3, 0, 272, 1), (23, none, .ifCond .ne 9, 3, 32, 0, 0), (26, none, .aload_n 0, 1, 0, 0, 0), (27, none, .iconst 1, 1, 0, 1, 0), (28, none, .invokevirtual 190, 3, 1, 258, 5), (31, none, .athrow, 1, 0, 0, 0)] := fq_of2 cd_189 ow_189 cl_189 rfl (pc := 0) (by decide +kernel)
    j_aldn (pc := 0) D rfl rfl rfl fun D =>
    j_ivv (pc := 1) (m := 166) (dd := 261) (a := []) (rest := []) D rfl rfl rfl rfl rfl (by decide) (s0_377 H) (by decide +kernel) (fun h1 e1 D =>
      have T := fj_run_ok _ _ _ _ _ _ H.1 e1
      have H := shp_st H T
      j_aldn (pc := 4) D rfl rfl rfl fun D =>
      j_gfc (pc := 5) (a := 377) D rfl rfl (by decide) rfl (s0_377 H) rfl (sf_150_377 H) fun D =>
      j_aldn (pc := 8) D rfl rfl rfl fun D =>
      j_gf (pc := 9) (a := 377) D rfl rfl (by decide) rfl (s0_377 H) rfl fun D =>
      j_al (pc := 12) (a := 379) (e := 9) D rfl rfl rfl (by decide) (s0_379 H) (s1_379 H) ⟨rfl, rfl, rfl⟩ rfl gn fun qb4 D =>
      j_istn (pc := 13) (L' := [(2, (0, h1 9 379 (h1 158 377 0).toNat)), (0, (4, 377)), (1, (4, x1))]) D rfl nl_189 rfl rfl fun D =>
      j_aldn (pc := 14) D rfl rfl rfl fun D =>
      j_iv (pc := 15) (m := 190) (dd := 271) (a := []) (rest := []) D rfl rfl rfl rfl rfl (by decide) (s0_377 H) (by decide +kernel) (fun v6 h5 e1 D =>
        have T := fj_run_ok _ _ _ _ _ _ H.1 e1
        have H := shp_st H T
        j_istn (pc := 18) (L' := [(3, (0, v6)), (2, (0, h1 9 379 (h1 158 377 0).toNat)), (0, (4, 377)), (1, (4, x1))]) D rfl nl_189 rfl rfl fun D =>
        j_aldn (pc := 19) D rfl rfl rfl fun D =>
        j_iv (pc := 20) (m := 191) (dd := 272) (a := []) (rest := []) D rfl rfl rfl rfl rfl (by decide) (s0_377 H) (by decide +kernel) (fun v9 h8 e1 D =>
          have T := fj_run_ok _ _ _ _ _ _ H.1 e1
          have H := shp_st H T
          j_ifne (pc := 23) D rfl (fun q D =>
            j_aldn (pc := 26) D rfl rfl rfl fun D =>
            j_ic (pc := 27) D rfl fun D =>
            j_iv (pc := 28) (m := 164) (dd := 258) (a := [(0, 1)]) (rest := []) D rfl rfl rfl rfl rfl (by decide) (s0_377 H) (by decide +kernel) (fun v12 h11 e1 D =>
              have T := fj_run_ok _ _ _ _ _ _ H.1 e1
              have H := shp_st H T
              j_at (pc := 31) D gn <|
              j_tx (hx_189 _)) (fun q13 h11 e1 =>
              j_tx (hx_189 _))) (fun q =>
            have D : fk_D 189 [(32, none, .aload_n 0, 1, 0, 0, 0), (33, none, .getfield 414, 3, 167, 115, 12), (36, none, .aload_n 1, 1, 0, 0, 0), (37, none, .getfield 448, 3, 324, (-124), 12), (40, none, .if_acmp .eq 13, 3, 53, 0, 0), (43, none, .aload_n 0, 1, 0, 0, 0), (44, none, .getfield 3, 3, 182, 115, 12), (47, none, .iconst 5, 1, 0, 5, 0), (48, none, .iload_n 2, 1, 0, 0, 0), (49, none, .invokevirtual 186, 3, 2, 257, 5), (52, none, .athrow, 1, 0, 0, 0)] := fq_of2 cd_189 ow_189 cl_189 rfl (pc := 32) (by decide +kernel)
            j_aldn (pc := 32) D rfl rfl rfl fun D =>
            j_gf (pc := 33) (a := 377) D rfl rfl (by decide) rfl (s0_377 H) rfl fun D =>
            j_aldn (pc := 36) D rfl rfl rfl fun D =>
            j_gfo (pc := 37) H.2.1 D rfl rfl rfl rfl fun kc14 D =>
            j_aeq (pc := 40) D rfl (fun q =>
              have D : fk_D 189 [(53, none, .aload_n 1, 1, 0, 0, 0), (54, none, .iconst 1, 1, 0, 1, 0), (55, none, .putfield 451, 3, 329, 124, 4), (58, none, .aload_n 1, 1, 0, 0, 0), (59, none, .iload_n 3, 1, 0, 0, 0), (60, none, .ifCond .eq 11, 3, 71, 0, 0), (63, none, .aload_n 0, 1, 0, 0, 0), (64, none, .getfield 402, 3, 168, 115, 11), (67, none, .lneg, 1, 0, 0, 0), (68, none, .goto 7, 3, 75, 0, 0)] := fq_of2 cd_189 ow_189 cl_189 rfl (pc := 53) (by decide +kernel)
              j_aldn (pc := 53) D rfl rfl rfl fun D =>
              j_ic (pc := 54) D rfl fun D =>
              j_pf (pc := 55) (a := x1.toNat) D rfl rfl rfl kc14 rfl rfl gn (gy (by decide)) fun h15 eh15 S D =>
              have T := fj_hs_ok H.1 S
              have kc14 := cls_st H.1 T.2 kc14 (by decide)
              have H := shp_st H T
              j_aldn (pc := 58) D rfl rfl rfl fun D =>
              j_ildn (pc := 59) D rfl rfl rfl fun D =>
              j_ifeq (pc := 60) D rfl (fun q =>
                have D : fk_D 189 [(71, none, .aload_n 0, 1, 0, 0, 0), (72, none, .getfield 402, 3, 168, 115, 11)] := fq_of2 cd_189 ow_189 cl_189 rfl (pc := 71) (by decide +kernel)
                j_aldn (pc := 71) D rfl rfl rfl fun D =>
                j_gf (pc := 72) (a := 377) D rfl rfl (by decide) rfl (s0_377 H) rfl fun D =>
                fk_jump cut_189_75 rfl rfl) (fun q D =>
                j_aldn (pc := 63) D rfl rfl rfl fun D =>
                j_gf (pc := 64) (a := 377) D rfl rfl (by decide) rfl (s0_377 H) rfl fun D =>
                j_lneg (pc := 67) D rfl fun D =>
                j_goto (pc := 68) D rfl <|
                fk_jump cut_189_75 rfl rfl)) (fun q D =>
              j_aldn (pc := 43) D rfl rfl rfl fun D =>
              j_gfc (pc := 44) (a := 377) D rfl rfl (by decide) rfl (s0_377 H) rfl (sf_182_377 H) fun D =>
              j_ic (pc := 47) D rfl fun D =>
              j_ildn (pc := 48) D rfl rfl rfl fun D =>
              j_iv (pc := 49) (m := 165) (dd := 257) (a := [(0, 5), (0, h1 9 379 (h1 158 377 0).toNat)]) (rest := []) D rfl rfl rfl rfl rfl (by decide) (s0_303 H) (by decide +kernel) (fun v17 h16 e1 D =>
                have T := fj_run_ok _ _ _ _ _ _ H.1 e1
                have kc14 := cls_st H.1 T.2 kc14 (by decide)
                have H := shp_st H T
                j_at (pc := 52) D gn <|
                j_tx (hx_189 _)) (fun q18 h16 e1 =>
                j_tx (hx_189 _))))) (fun q10 h8 e1 =>
          j_tx (hx_189 _))) (fun q7 h5 e1 =>
        j_tx (hx_189 _))) (fun q3 h1 e1 =>
      j_tx (hx_189 _))
/-! 190 StatuteHouse$Reader.isMinus()Z -/
theorem cd_190 : fi_code 190 = prog_53_method_40_code := rfl
theorem hx_190 : ∀ pc, fi_hat 190 pc = none := fun pc => by unfold fi_hat; rw [show fi_hh 190 = [] from rfl]; rfl
theorem rt_190 : fi_ret 190 = some .boolean := rfl
theorem nl_190 : fi_nl 190 = 1 := rfl
theorem ow_190 : fi_ow 190 = 15 := rfl
theorem cl_190 : fj_cutT.getD 190 [] = [] := rfl
theorem m_190 (d : Nat) {h : fi_H} (H : Shp h) : fj_run (d + 1) 190 h [(4, 377)] =
  ca_ (fj_run d 183 h [(4, 377), (0, 45)]) 0
    (fun v2 h1 =>
    if v2 = 0 then
      some (.inl (some (0, 0)), h1)
    else
      cv_ (fj_run d 166 h1 [(4, 377)])
        (fun h4 =>
        if 0 ≤ h4 158 377 0 ∧ h4 158 377 0 < 1202 then
        if h4 8 378 (h4 158 377 0).toNat = 3 then
          some (.inl (some (0, 1)), h4)
        else
          if h4 8 378 (h4 158 377 0).toNat = 4 then
            some (.inl (some (0, 1)), h4)
          else
            ca_ (fj_run d 164 h4 [(4, 377), (0, 1)]) 4
              (fun v9 h8 =>
              if v9 ≠ 0 then
              tx_ v9.toNat h8
              else none)
              (fun q10 h8 => tx_ q10 h8)
        else none)
        (fun q6 h4 => tx_ q6 h4))
    (fun q3 h1 => tx_ q3 h1) := by
  rw [fj_run_eq d (by decide) h [(4, 377)] (Nat.le_of_ble_eq_true (by rw [nl_190]; rfl))]
  show gG (fj_run d) 190 0 [(0, (4, 377))] [] h = _
  exact
    have D : fk_D 190 [(0, none, .aload_n 0, 1, 0, 0, 0), (1, none, .bipush 45, 2, 0, 45, 0), (3, none, .invokevirtual 202, 3, 1, 260, 1), (6, none, .ifCond .ne 5, 3, 11, 0, 0), (9, none, .iconst 0, 1, 0, 0, 0), (10, none, .ireturn, 1, 0, 0, 0)] := fq_of2 cd_190 ow_190 cl_190 rfl (pc := 0) (by decide +kernel)
    j_aldn (pc := 0) D rfl rfl rfl fun D =>
    j_bp (pc := 1) D rfl fun D =>
    j_iv (pc := 3) (m := 183) (dd := 260) (a := [(0, 45)]) (rest := []) D rfl rfl rfl rfl rfl (by decide) (s0_377 H) (by decide +kernel) (fun v2 h1 e1 D =>
      have T := fj_run_ok _ _ _ _ _ _ H.1 e1
      have H := shp_st H T
      j_ifne (pc := 6) D rfl (fun q D =>
        j_ic (pc := 9) D rfl fun D =>
        j_zret D rt_190 (gy (by decide))) (fun q =>
        have D : fk_D 190 [(11, none, .aload_n 0, 1, 0, 0, 0), (12, none, .invokevirtual 206, 3, 0, 261, 0), (15, none, .aload_n 0, 1, 0, 0, 0), (16, none, .getfield 15, 3, 149, 115, 12), (19, none, .aload_n 0, 1, 0, 0, 0), (20, none, .getfield 104, 3, 158, 115, 10), (23, none, .baload, 1, 0, 0, 0), (24, none, .iconst 3, 1, 0, 3, 0), (25, none, .if_icmp .eq 22, 3, 47, 0, 0), (28, none, .aload_n 0, 1, 0, 0, 0), (29, none, .getfield 15, 3, 149, 115, 12), (32, none, .aload_n 0, 1, 0, 0, 0), (33, none, .getfield 104, 3, 158, 115, 10), (36, none, .baload, 1, 0, 0, 0), (37, none, .iconst 4, 1, 0, 4, 0), (38, none, .if_icmp .eq 9, 3, 47, 0, 0), (41, none, .aload_n 0, 1, 0, 0, 0), (42, none, .iconst 1, 1, 0, 1, 0), (43, none, .invokevirtual 190, 3, 1, 258, 5), (46, none, .athrow, 1, 0, 0, 0)] := fq_of2 cd_190 ow_190 cl_190 rfl (pc := 11) (by decide +kernel)
        j_aldn (pc := 11) D rfl rfl rfl fun D =>
        j_ivv (pc := 12) (m := 166) (dd := 261) (a := []) (rest := []) D rfl rfl rfl rfl rfl (by decide) (s0_377 H) (by decide +kernel) (fun h4 e1 D =>
          have T := fj_run_ok _ _ _ _ _ _ H.1 e1
          have H := shp_st H T
          j_aldn (pc := 15) D rfl rfl rfl fun D =>
          j_gfc (pc := 16) (a := 377) D rfl rfl (by decide) rfl (s0_377 H) rfl (sf_149_377 H) fun D =>
          j_aldn (pc := 19) D rfl rfl rfl fun D =>
          j_gf (pc := 20) (a := 377) D rfl rfl (by decide) rfl (s0_377 H) rfl fun D =>
          j_al (pc := 23) (a := 378) (e := 8) D rfl rfl rfl (by decide) (s0_378 H) (s1_378 H) ⟨rfl, rfl, rfl⟩ rfl gn fun qb7 D =>
          j_ic (pc := 24) D rfl fun D =>
          j_ieq (pc := 25) D rfl (fun q =>
            have D : fk_D 190 [(47, none, .iconst 1, 1, 0, 1, 0), (48, none, .ireturn, 1, 0, 0, 0)] := fq_of2 cd_190 ow_190 cl_190 rfl (pc := 47) (by decide +kernel)
            j_ic (pc := 47) D rfl fun D =>
            j_zret D rt_190 (gy (by decide))) (fun q D =>
            j_aldn (pc := 28) D rfl rfl rfl fun D =>
            j_gfc (pc := 29) (a := 377) D rfl rfl (by decide) rfl (s0_377 H) rfl (sf_149_377 H) fun D =>
            j_aldn (pc := 32) D rfl rfl rfl fun D =>
            j_gf (pc := 33) (a := 377) D rfl rfl (by decide) rfl (s0_377 H) rfl fun D =>
            j_al (pc := 36) (a := 378) (e := 8) D rfl rfl rfl (by decide) (s0_378 H) (s1_378 H) ⟨rfl, rfl, rfl⟩ rfl (gy qb7) fun q D =>
            j_ic (pc := 37) D rfl fun D =>
            j_ieq (pc := 38) D rfl (fun q =>
              have D : fk_D 190 [(47, none, .iconst 1, 1, 0, 1, 0), (48, none, .ireturn, 1, 0, 0, 0)] := fq_of2 cd_190 ow_190 cl_190 rfl (pc := 47) (by decide +kernel)
              j_ic (pc := 47) D rfl fun D =>
              j_zret D rt_190 (gy (by decide))) (fun q D =>
              j_aldn (pc := 41) D rfl rfl rfl fun D =>
              j_ic (pc := 42) D rfl fun D =>
              j_iv (pc := 43) (m := 164) (dd := 258) (a := [(0, 1)]) (rest := []) D rfl rfl rfl rfl rfl (by decide) (s0_377 H) (by decide +kernel) (fun v9 h8 e1 D =>
                have T := fj_run_ok _ _ _ _ _ _ H.1 e1
                have H := shp_st H T
                j_at (pc := 46) D gn <|
                j_tx (hx_190 _)) (fun q10 h8 e1 =>
                j_tx (hx_190 _))))) (fun q6 h4 e1 =>
          j_tx (hx_190 _)))) (fun q3 h1 e1 =>
      j_tx (hx_190 _))
/-! 191 StatuteHouse$Reader.isValue()Z -/
theorem cd_191 : fi_code 191 = prog_53_method_30_code := rfl
theorem hx_191 : ∀ pc, fi_hat 191 pc = none := fun pc => by unfold fi_hat; rw [show fi_hh 191 = [] from rfl]; rfl
theorem rt_191 : fi_ret 191 = some .boolean := rfl
theorem nl_191 : fi_nl 191 = 1 := rfl
theorem ow_191 : fi_ow 191 = 15 := rfl
theorem cl_191 : fj_cutT.getD 191 [] = [(116, [0]), (139, [0])] := rfl
theorem cut_191_116 : fj_cut 191 116 = some [0] := by decide +kernel
noncomputable def c_191_116 (d : Nat) (h : fi_H) : fk_R := gG (fj_run d) 191 116 [(0, (4, 377))] [] h
theorem cut_191_139 : fj_cut 191 139 = some [0] := by decide +kernel
noncomputable def c_191_139 (d : Nat) (s0 s1 : Int) (h : fi_H) : fk_R := gG (fj_run d) 191 139 [(0, (4, 377))] [(1, s1), (4, s0)] h
theorem e_191_116 (d : Nat) {h : fi_H} (H : Shp h) : c_191_116 d h =
  lt_ (fi_upd h 167 377 0 2) fun h1 =>
  ca_ (fj_run d 162 h1 [(4, 377), (4, 131)]) 0
    (fun v3 h2 =>
    if v3 = 0 then
      c_191_139 d 377 0 h2
    else
      c_191_139 d 377 1 h2)
    (fun q4 h2 => tx_ q4 h2) := by
  unfold c_191_116
  exact
    have D : fk_D 191 [(116, some [0], .aload_n 0, 1, 0, 0, 0), (117, none, .getstatic 439, 3, 4, 2, 0), (120, none, .putfield 414, 3, 167, 115, 12), (123, none, .aload_n 0, 1, 0, 0, 0), (124, none, .aload_n 0, 1, 0, 0, 0), (125, none, .ldc_w 286, 3, 4, 131, 0), (128, none, .invokevirtual 209, 3, 1, 262, 1), (131, none, .ifCond .eq 7, 3, 138, 0, 0), (134, none, .lconst 1, 1, 0, 0, 0), (135, none, .goto 4, 3, 139, 0, 0)] := fq_of2 cd_191 ow_191 cl_191 rfl (pc := 116) (by decide +kernel)
    j_aldn (pc := 116) D rfl rfl rfl fun D =>
    j_gs (pc := 117) D rfl fun D =>
    j_pf (pc := 120) (a := 377) D rfl rfl rfl (s0_377 H) rfl rfl (gy (by decide)) (gy rfl) fun h1 eh1 S D =>
    have T := fj_hs_ok H.1 S
    have H := shp_st H T
    j_aldn (pc := 123) D rfl rfl rfl fun D =>
    j_aldn (pc := 124) D rfl rfl rfl fun D =>
    j_ldcw (pc := 125) D rfl fun D =>
    j_iv (pc := 128) (m := 162) (dd := 262) (a := [(4, 131)]) (rest := [(4, 377)]) D rfl rfl rfl rfl rfl (by decide) (s0_377 H) (by decide +kernel) (fun v3 h2 e1 D =>
      have T := fj_run_ok _ _ _ _ _ _ H.1 e1
      have H := shp_st H T
      j_ifeq (pc := 131) D rfl (fun q =>
        have D : fk_D 191 [(138, none, .lconst 0, 1, 0, 0, 0)] := fq_of2 cd_191 ow_191 cl_191 rfl (pc := 138) (by decide +kernel)
        j_c0 (pc := 138) (v := (1, 0)) D rfl rfl (by decide +kernel) fun D =>
        fk_jump cut_191_139 rfl rfl) (fun q D =>
        j_c0 (pc := 134) (v := (1, 1)) D rfl rfl (by decide +kernel) fun D =>
        j_goto (pc := 135) D rfl <|
        fk_jump cut_191_139 rfl rfl)) (fun q4 h2 e1 =>
      j_tx (hx_191 _))
theorem e_191_139 (d : Nat) (s0 s1 : Int) {h : fi_H} (H : Shp h) : c_191_139 d s0 s1 h =
  if h 0 s0.toNat 0 = 115 then
  if 302 < s0 then
  lt_ (fi_upd h 168 s0.toNat 0 s1) fun h1 =>
  cv_ (fj_run d 166 h1 [(4, 377)])
    (fun h3 =>
    some (.inl (some (0, 1)), h3))
    (fun q5 h3 => tx_ q5 h3)
  else none
  else none := by
  unfold c_191_139
  exact
    have D : fk_D 191 [(139, some [0], .putfield 402, 3, 168, (-115), 11), (142, none, .aload_n 0, 1, 0, 0, 0), (143, none, .invokevirtual 206, 3, 0, 261, 0), (146, none, .iconst 1, 1, 0, 1, 0), (147, none, .ireturn, 1, 0, 0, 0)] := fq_of2 cd_191 ow_191 cl_191 rfl (pc := 139) (by decide +kernel)
    j_pfo (pc := 139) D rfl rfl rfl rfl rfl gn gn (gy rfl) fun h1 eh1 S kc2 D =>
    have T := fj_hs_ok H.1 S
    have H := shp_st H T
    j_aldn (pc := 142) D rfl rfl rfl fun D =>
    j_ivv (pc := 143) (m := 166) (dd := 261) (a := []) (rest := []) D rfl rfl rfl rfl rfl (by decide) (s0_377 H) (by decide +kernel) (fun h3 e1 D =>
      have T := fj_run_ok _ _ _ _ _ _ H.1 e1
      have H := shp_st H T
      j_ic (pc := 146) D rfl fun D =>
      j_zret D rt_191 (gy (by decide))) (fun q5 h3 e1 =>
      j_tx (hx_191 _))
theorem m_191 (d : Nat) {h : fi_H} (H : Shp h) : fj_run (d + 1) 191 h [(4, 377)] =
  lt_ (fi_upd h 169 377 0 0) fun h1 =>
  if 0 ≤ h1 158 377 0 ∧ h1 158 377 0 < 1202 then
  if h1 8 378 (h1 158 377 0).toNat = 2 then
    ca_ (fj_run d 162 h1 [(4, 377), (4, 131)]) 0
      (fun v4 h3 =>
      if v4 = 0 then
        ca_ (fj_run d 162 h3 [(4, 377), (4, 133)]) 0
          (fun v7 h6 =>
          if v7 = 0 then
            some (.inl (some (0, 0)), h6)
          else
            c_191_116 d h6)
          (fun q8 h6 => tx_ q8 h6)
      else
        c_191_116 d h3)
      (fun q5 h3 => tx_ q5 h3)
  else if h1 8 378 (h1 158 377 0).toNat = 3 then
    cv_ (fj_run d 192 h1 [(4, 377)])
      (fun h9 =>
      some (.inl (some (0, 1)), h9))
      (fun q11 h9 => tx_ q11 h9)
  else if h1 8 378 (h1 158 377 0).toNat = 4 then
    lt_ (fi_upd h1 167 377 0 4) fun h12 =>
    if 0 ≤ h12 158 377 0 ∧ h12 158 377 0 < 1202 then
    lt_ (fi_upd h12 168 377 0 (h12 11 381 (h12 158 377 0).toNat)) fun h14 =>
    cv_ (fj_run d 166 h14 [(4, 377)])
      (fun h15 =>
      some (.inl (some (0, 1)), h15))
      (fun q17 h15 => tx_ q17 h15)
    else none
  else if h1 8 378 (h1 158 377 0).toNat = 5 then
    lt_ (fi_upd h1 167 377 0 6) fun h18 =>
    ca_ (fj_run d 195 h18 [(4, 377)]) 0
      (fun v20 h19 =>
      lt_ (fi_upd h19 168 377 0 (wI v20)) fun h22 =>
      some (.inl (some (0, 1)), h22))
      (fun q21 h19 => tx_ q21 h19)
  else 
    some (.inl (some (0, 0)), h1)
  else none := by
  rw [fj_run_eq d (by decide) h [(4, 377)] (Nat.le_of_ble_eq_true (by rw [nl_191]; rfl))]
  show gG (fj_run d) 191 0 [(0, (4, 377))] [] h = _
  exact
    have D : fk_D 191 [(0, none, .aload_n 0, 1, 0, 0, 0), (1, none, .lconst 0, 1, 0, 0, 0), (2, none, .putfield 405, 3, 169, 115, 11), (5, none, .aload_n 0, 1, 0, 0, 0), (6, none, .getfield 15, 3, 149, 115, 12), (9, none, .aload_n 0, 1, 0, 0, 0), (10, none, .getfield 104, 3, 158, 115, 10), (13, none, .baload, 1, 0, 0, 0), (14, none, .tableswitch 134 2 5 #[80, 30, 36, 62], 30, 0, 0, 0)] := fq_of3 cd_191 ow_191 cl_191 rfl (pc := 0) (by decide +kernel)
    j_aldn (pc := 0) D rfl rfl rfl fun D =>
    j_c0 (pc := 1) (v := (1, 0)) D rfl rfl (by decide +kernel) fun D =>
    j_pf (pc := 2) (a := 377) D rfl rfl rfl (s0_377 H) rfl rfl (gy (by decide)) (gy rfl) fun h1 eh1 S D =>
    have T := fj_hs_ok H.1 S
    have H := shp_st H T
    j_aldn (pc := 5) D rfl rfl rfl fun D =>
    j_gfc (pc := 6) (a := 377) D rfl rfl (by decide) rfl (s0_377 H) rfl (sf_149_377 H) fun D =>
    j_aldn (pc := 9) D rfl rfl rfl fun D =>
    j_gf (pc := 10) (a := 377) D rfl rfl (by decide) rfl (s0_377 H) rfl fun D =>
    j_al (pc := 13) (a := 378) (e := 8) D rfl rfl rfl (by decide) (s0_378 H) (s1_378 H) ⟨rfl, rfl, rfl⟩ rfl gn fun qb2 D =>
    have N : fk_ni (h1 8 378 (h1 158 377 0).toNat) [] := trivial
    j_tc (pc := 14) 2 (t := 94) D N rfl (by decide +kernel) (fun q =>
      have D : fk_D 191 [(94, none, .aload_n 0, 1, 0, 0, 0), (95, none, .ldc_w 286, 3, 4, 131, 0), (98, none, .invokevirtual 209, 3, 1, 262, 1), (101, none, .ifCond .ne 15, 3, 116, 0, 0), (104, none, .aload_n 0, 1, 0, 0, 0), (105, none, .ldc_w 288, 3, 4, 133, 0), (108, none, .invokevirtual 209, 3, 1, 262, 1), (111, none, .ifCond .ne 5, 3, 116, 0, 0), (114, none, .iconst 0, 1, 0, 0, 0), (115, none, .ireturn, 1, 0, 0, 0)] := fq_of2 cd_191 ow_191 cl_191 rfl (pc := 94) (by decide +kernel)
      j_aldn (pc := 94) D rfl rfl rfl fun D =>
      j_ldcw (pc := 95) D rfl fun D =>
      j_iv (pc := 98) (m := 162) (dd := 262) (a := [(4, 131)]) (rest := []) D rfl rfl rfl rfl rfl (by decide) (s0_377 H) (by decide +kernel) (fun v4 h3 e1 D =>
        have T := fj_run_ok _ _ _ _ _ _ H.1 e1
        have H := shp_st H T
        j_ifne (pc := 101) D rfl (fun q D =>
          j_aldn (pc := 104) D rfl rfl rfl fun D =>
          j_ldcw (pc := 105) D rfl fun D =>
          j_iv (pc := 108) (m := 162) (dd := 262) (a := [(4, 133)]) (rest := []) D rfl rfl rfl rfl rfl (by decide) (s0_377 H) (by decide +kernel) (fun v7 h6 e1 D =>
            have T := fj_run_ok _ _ _ _ _ _ H.1 e1
            have H := shp_st H T
            j_ifne (pc := 111) D rfl (fun q D =>
              j_ic (pc := 114) D rfl fun D =>
              j_zret D rt_191 (gy (by decide))) (fun q =>
              fk_jump cut_191_116 rfl rfl)) (fun q8 h6 e1 =>
            j_tx (hx_191 _))) (fun q =>
          fk_jump cut_191_116 rfl rfl)) (fun q5 h3 e1 =>
        j_tx (hx_191 _))) (fun N =>
      j_tc 3 (t := 44) D N rfl (by decide +kernel) (fun q =>
        have D : fk_D 191 [(44, none, .aload_n 0, 1, 0, 0, 0), (45, none, .invokevirtual 428, 3, 0, 269, 0), (48, none, .iconst 1, 1, 0, 1, 0), (49, none, .ireturn, 1, 0, 0, 0)] := fq_of2 cd_191 ow_191 cl_191 rfl (pc := 44) (by decide +kernel)
        j_aldn (pc := 44) D rfl rfl rfl fun D =>
        j_ivv (pc := 45) (m := 192) (dd := 269) (a := []) (rest := []) D rfl rfl rfl rfl rfl (by decide) (s0_377 H) (by decide +kernel) (fun h9 e1 D =>
          have T := fj_run_ok _ _ _ _ _ _ H.1 e1
          have H := shp_st H T
          j_ic (pc := 48) D rfl fun D =>
          j_zret D rt_191 (gy (by decide))) (fun q11 h9 e1 =>
          j_tx (hx_191 _))) (fun N =>
        j_tc 4 (t := 50) D N rfl (by decide +kernel) (fun q =>
          have D : fk_D 191 [(50, none, .aload_n 0, 1, 0, 0, 0), (51, none, .getstatic 431, 3, 4, 4, 0), (54, none, .putfield 414, 3, 167, 115, 12), (57, none, .aload_n 0, 1, 0, 0, 0), (58, none, .aload_n 0, 1, 0, 0, 0), (59, none, .getfield 27, 3, 152, 115, 12), (62, none, .aload_n 0, 1, 0, 0, 0), (63, none, .getfield 104, 3, 158, 115, 10), (66, none, .laload, 1, 0, 0, 0), (67, none, .putfield 402, 3, 168, 115, 11), (70, none, .aload_n 0, 1, 0, 0, 0), (71, none, .invokevirtual 206, 3, 0, 261, 0), (74, none, .iconst 1, 1, 0, 1, 0), (75, none, .ireturn, 1, 0, 0, 0)] := fq_of2 cd_191 ow_191 cl_191 rfl (pc := 50) (by decide +kernel)
          j_aldn (pc := 50) D rfl rfl rfl fun D =>
          j_gs (pc := 51) D rfl fun D =>
          j_pf (pc := 54) (a := 377) D rfl rfl rfl (s0_377 H) rfl rfl (gy (by decide)) (gy rfl) fun h12 eh12 S D =>
          have T := fj_hs_ok H.1 S
          have H := shp_st H T
          j_aldn (pc := 57) D rfl rfl rfl fun D =>
          j_aldn (pc := 58) D rfl rfl rfl fun D =>
          j_gfc (pc := 59) (a := 377) D rfl rfl (by decide) rfl (s0_377 H) rfl (sf_152_377 H) fun D =>
          j_aldn (pc := 62) D rfl rfl rfl fun D =>
          j_gf (pc := 63) (a := 377) D rfl rfl (by decide) rfl (s0_377 H) rfl fun D =>
          j_al (pc := 66) (a := 381) (e := 11) D rfl rfl rfl (by decide) (s0_381 H) (s1_381 H) ⟨rfl, rfl, rfl⟩ rfl gn fun qb13 D =>
          j_pf (pc := 67) (a := 377) D rfl rfl rfl (s0_377 H) rfl rfl (gy (by decide)) (gy rfl) fun h14 eh14 S D =>
          have T := fj_hs_ok H.1 S
          have H := shp_st H T
          j_aldn (pc := 70) D rfl rfl rfl fun D =>
          j_ivv (pc := 71) (m := 166) (dd := 261) (a := []) (rest := []) D rfl rfl rfl rfl rfl (by decide) (s0_377 H) (by decide +kernel) (fun h15 e1 D =>
            have T := fj_run_ok _ _ _ _ _ _ H.1 e1
            have H := shp_st H T
            j_ic (pc := 74) D rfl fun D =>
            j_zret D rt_191 (gy (by decide))) (fun q17 h15 e1 =>
            j_tx (hx_191 _))) (fun N =>
          j_tc 5 (t := 76) D N rfl (by decide +kernel) (fun q =>
            have D : fk_D 191 [(76, none, .aload_n 0, 1, 0, 0, 0), (77, none, .getstatic 434, 3, 4, 6, 0), (80, none, .putfield 414, 3, 167, 115, 12), (83, none, .aload_n 0, 1, 0, 0, 0), (84, none, .aload_n 0, 1, 0, 0, 0), (85, none, .invokevirtual 437, 3, 0, 270, 1), (88, none, .i2l, 1, 0, 0, 0), (89, none, .putfield 402, 3, 168, 115, 11), (92, none, .iconst 1, 1, 0, 1, 0), (93, none, .ireturn, 1, 0, 0, 0)] := fq_of2 cd_191 ow_191 cl_191 rfl (pc := 76) (by decide +kernel)
            j_aldn (pc := 76) D rfl rfl rfl fun D =>
            j_gs (pc := 77) D rfl fun D =>
            j_pf (pc := 80) (a := 377) D rfl rfl rfl (s0_377 H) rfl rfl (gy (by decide)) (gy rfl) fun h18 eh18 S D =>
            have T := fj_hs_ok H.1 S
            have H := shp_st H T
            j_aldn (pc := 83) D rfl rfl rfl fun D =>
            j_aldn (pc := 84) D rfl rfl rfl fun D =>
            j_iv (pc := 85) (m := 195) (dd := 270) (a := []) (rest := [(4, 377)]) D rfl rfl rfl rfl rfl (by decide) (s0_377 H) (by decide +kernel) (fun v20 h19 e1 D =>
              have T := fj_run_ok _ _ _ _ _ _ H.1 e1
              have H := shp_st H T
              j_i2l (pc := 88) D rfl fun D =>
              j_pf (pc := 89) (a := 377) D rfl rfl rfl (s0_377 H) rfl rfl (gy (by decide)) (gy rfl) fun h22 eh22 S D =>
              have T := fj_hs_ok H.1 S
              have H := shp_st H T
              j_ic (pc := 92) D rfl fun D =>
              j_zret D rt_191 (gy (by decide))) (fun q21 h19 e1 =>
              j_tx (hx_191 _))) (fun N =>
            j_td (t := 148) D N rfl (by decide +kernel) (by decide +kernel) <|
            have D : fk_D 191 [(148, none, .iconst 0, 1, 0, 0, 0), (149, none, .ireturn, 1, 0, 0, 0)] := fq_of2 cd_191 ow_191 cl_191 rfl (pc := 148) (by decide +kernel)
            j_ic (pc := 148) D rfl fun D =>
            j_zret D rt_191 (gy (by decide))))))
/-! 192 StatuteHouse$Reader.figure()V -/
theorem cd_192 : fi_code 192 = prog_53_method_29_code := rfl
theorem hx_192 : ∀ pc, fi_hat 192 pc = none := fun pc => by unfold fi_hat; rw [show fi_hh 192 = [] from rfl]; rfl
theorem rt_192 : fi_ret 192 = none := rfl
theorem nl_192 : fi_nl 192 = 8 := rfl
theorem ow_192 : fi_ow 192 = 15 := rfl
theorem cl_192 : fj_cutT.getD 192 [] = [(68, [0, 1]), (106, [0, 1, 4]), (205, [0, 1, 4]), (220, [])] := rfl
theorem cut_192_68 : fj_cut 192 68 = some [0, 1] := by decide +kernel
noncomputable def c_192_68 (d : Nat) (x1 s0 : Int) (h : fi_H) : fk_R := gG (fj_run d) 192 68 [(0, (4, 377)), (1, (0, x1))] [(1, s0)] h
theorem cut_192_106 : fj_cut 192 106 = some [0, 1, 4] := by decide +kernel
noncomputable def c_192_106 (d : Nat) (x1 x4 : Int) (h : fi_H) : fk_R := gG (fj_run d) 192 106 [(0, (4, 377)), (1, (0, x1)), (4, (1, x4))] [] h
theorem cut_192_205 : fj_cut 192 205 = some [0, 1, 4] := by decide +kernel
noncomputable def c_192_205 (d : Nat) (x1 x4 s0 s1 : Int) (h : fi_H) : fk_R := gG (fj_run d) 192 205 [(0, (4, 377)), (1, (0, x1)), (4, (1, x4))] [(1, s1), (4, s0)] h
theorem cut_192_220 : fj_cut 192 220 = some [] := by decide +kernel
noncomputable def c_192_220 (d : Nat) (s0 s1 : Int) (h : fi_H) : fk_R := gG (fj_run d) 192 220 [] [(1, s1), (4, s0)] h
theorem e_192_68 (d : Nat) (x1 s0 : Int) {h : fi_H} (H : Shp h) : c_192_68 d x1 s0 h =
  if 0 ≤ h 158 377 0 ∧ h 158 377 0 < 1202 then
  if 0 < lc_ (wI (h 10 380 (h 158 377 0).toNat)) s0 then
    ca_ (fj_run d 164 h [(4, 377), (0, 3)]) 4
      (fun v3 h2 =>
      if v3 ≠ 0 then
      tx_ v3.toNat h2
      else none)
      (fun q4 h2 => tx_ q4 h2)
  else
    cv_ (fj_run d 166 h [(4, 377)])
      (fun h5 =>
      if x1 = 0 then
        c_192_106 d x1 (wI (h 10 380 (h 158 377 0).toNat)) h5
      else
        cv_ (fj_run d 166 h5 [(4, 377)])
          (fun h8 =>
          c_192_106 d x1 (wI (h 10 380 (h 158 377 0).toNat)) h8)
          (fun q10 h8 => tx_ q10 h8))
      (fun q7 h5 => tx_ q7 h5)
  else none := by
  unfold c_192_68
  exact
    have D : fk_D 192 [(68, some [0, 1], .lstore_n 2, 1, 0, 0, 0), (69, none, .aload_n 0, 1, 0, 0, 0), (70, none, .getfield 23, 3, 151, 115, 12), (73, none, .aload_n 0, 1, 0, 0, 0), (74, none, .getfield 104, 3, 158, 115, 10), (77, none, .iaload, 1, 0, 0, 0), (78, none, .i2l, 1, 0, 0, 0), (79, none, .lstore 4, 2, 0, 0, 0), (81, none, .lload 4, 2, 0, 0, 0), (83, none, .lload_n 2, 1, 0, 0, 0), (84, none, .lcmp, 1, 0, 0, 0), (85, none, .ifCond .le 9, 3, 94, 0, 0), (88, none, .aload_n 0, 1, 0, 0, 0), (89, none, .iconst 3, 1, 0, 3, 0), (90, none, .invokevirtual 190, 3, 1, 258, 5), (93, none, .athrow, 1, 0, 0, 0)] := fq_of2 cd_192 ow_192 cl_192 rfl (pc := 68) (by decide +kernel)
    j_lstn (pc := 68) (L' := [(2, (1, s0)), (0, (4, 377)), (1, (0, x1))]) D rfl nl_192 rfl rfl fun D =>
    j_aldn (pc := 69) D rfl rfl rfl fun D =>
    j_gfc (pc := 70) (a := 377) D rfl rfl (by decide) rfl (s0_377 H) rfl (sf_151_377 H) fun D =>
    j_aldn (pc := 73) D rfl rfl rfl fun D =>
    j_gf (pc := 74) (a := 377) D rfl rfl (by decide) rfl (s0_377 H) rfl fun D =>
    j_al (pc := 77) (a := 380) (e := 10) D rfl rfl rfl (by decide) (s0_380 H) (s1_380 H) ⟨rfl, rfl, rfl⟩ rfl gn fun qb1 D =>
    j_i2l (pc := 78) D rfl fun D =>
    j_lst (pc := 79) (L' := [(4, (1, wI (h 10 380 (h 158 377 0).toNat))), (2, (1, s0)), (0, (4, 377)), (1, (0, x1))]) D rfl nl_192 rfl rfl fun D =>
    j_lld (pc := 81) D rfl rfl rfl fun D =>
    j_lldn (pc := 83) D rfl rfl rfl fun D =>
    j_lcmp (pc := 84) D rfl fun D =>
    j_ifle (pc := 85) D rfl (fun q D =>
      j_aldn (pc := 88) D rfl rfl rfl fun D =>
      j_ic (pc := 89) D rfl fun D =>
      j_iv (pc := 90) (m := 164) (dd := 258) (a := [(0, 3)]) (rest := []) D rfl rfl rfl rfl rfl (by decide) (s0_377 H) (by decide +kernel) (fun v3 h2 e1 D =>
        have T := fj_run_ok _ _ _ _ _ _ H.1 e1
        have H := shp_st H T
        j_at (pc := 93) D gn <|
        j_tx (hx_192 _)) (fun q4 h2 e1 =>
        j_tx (hx_192 _))) (fun q =>
      have D : fk_D 192 [(94, none, .aload_n 0, 1, 0, 0, 0), (95, none, .invokevirtual 206, 3, 0, 261, 0), (98, none, .iload_n 1, 1, 0, 0, 0), (99, none, .ifCond .eq 7, 3, 106, 0, 0), (102, none, .aload_n 0, 1, 0, 0, 0), (103, none, .invokevirtual 206, 3, 0, 261, 0)] := fq_of2 cd_192 ow_192 cl_192 rfl (pc := 94) (by decide +kernel)
      j_aldn (pc := 94) D rfl rfl rfl fun D =>
      j_ivv (pc := 95) (m := 166) (dd := 261) (a := []) (rest := []) D rfl rfl rfl rfl rfl (by decide) (s0_377 H) (by decide +kernel) (fun h5 e1 D =>
        have T := fj_run_ok _ _ _ _ _ _ H.1 e1
        have H := shp_st H T
        j_ildn (pc := 98) D rfl rfl rfl fun D =>
        j_ifeq (pc := 99) D rfl (fun q =>
          fk_jump cut_192_106 rfl rfl) (fun q D =>
          j_aldn (pc := 102) D rfl rfl rfl fun D =>
          j_ivv (pc := 103) (m := 166) (dd := 261) (a := []) (rest := []) D rfl rfl rfl rfl rfl (by decide) (s0_377 H) (by decide +kernel) (fun h8 e1 D =>
            have T := fj_run_ok _ _ _ _ _ _ H.1 e1
            have H := shp_st H T
            fk_jump cut_192_106 rfl rfl) (fun q10 h8 e1 =>
            j_tx (hx_192 _)))) (fun q7 h5 e1 =>
        j_tx (hx_192 _)))
theorem e_192_106 (d : Nat) (x1 x4 : Int) {h : fi_H} (H : Shp h) : c_192_106 d x1 x4 h =
  lt_ (fi_upd h 168 377 0 x4) fun h1 =>
  lt_ (fi_upd h1 169 377 0 0) fun h2 =>
  lt_ (fi_upd h2 167 377 0 3) fun h3 =>
  if x1 = 1 then
    ca_ (fj_run d 194 h3 [(1, x4), (1, 100)]) 1
      (fun v5 h4 =>
      lt_ (fi_upd h4 167 377 0 5) fun h7 =>
      if v5 = 0 then none else
      lt_ (fi_upd h7 168 377 0 (lq_ x4 v5)) fun h8 =>
      if v5 = 0 then none else
      lt_ (fi_upd h8 169 377 0 (lq_ 100 v5)) fun h9 =>
      some (.inl none, h9))
      (fun q6 h4 => tx_ q6 h4)
  else
    if x1 = 0 then
      some (.inl none, h3)
    else
      lt_ (fi_upd h3 167 377 0 7) fun h10 =>
      if x1 = 2 then
        c_192_205 d x1 x4 377 0 h10
      else
        if x1 = 4 then
          c_192_205 d x1 x4 377 (wJ (12 * x4)) h10
        else
          c_192_205 d x1 x4 377 x4 h10 := by
  unfold c_192_106
  exact
    have D : fk_D 192 [(106, some [0, 1, 4], .aload_n 0, 1, 0, 0, 0), (107, none, .lload 4, 2, 0, 0, 0), (109, none, .putfield 402, 3, 168, 115, 11), (112, none, .aload_n 0, 1, 0, 0, 0), (113, none, .lconst 0, 1, 0, 0, 0), (114, none, .putfield 405, 3, 169, 115, 11), (117, none, .aload_n 0, 1, 0, 0, 0), (118, none, .getstatic 408, 3, 4, 3, 0), (121, none, .putfield 414, 3, 167, 115, 12), (124, none, .iload_n 1, 1, 0, 0, 0), (125, none, .iconst 1, 1, 0, 1, 0), (126, none, .if_icmp .ne 42, 3, 168, 0, 0), (129, none, .lload 4, 2, 0, 0, 0), (131, none, .ldc2_w 175, 3, 1, 100, 0), (134, none, .invokestatic 417, 3, 2, 194, 2), (137, none, .lstore 6, 2, 0, 0, 0), (139, none, .aload_n 0, 1, 0, 0, 0), (140, none, .getstatic 420, 3, 4, 5, 0), (143, none, .putfield 414, 3, 167, 115, 12), (146, none, .aload_n 0, 1, 0, 0, 0)] := fq_of2 cd_192 ow_192 cl_192 rfl (pc := 106) (by decide +kernel)
    j_aldn (pc := 106) D rfl rfl rfl fun D =>
    j_lld (pc := 107) D rfl rfl rfl fun D =>
    j_pf (pc := 109) (a := 377) D rfl rfl rfl (s0_377 H) rfl rfl (gy (by decide)) (gy rfl) fun h1 eh1 S D =>
    have T := fj_hs_ok H.1 S
    have H := shp_st H T
    j_aldn (pc := 112) D rfl rfl rfl fun D =>
    j_c0 (pc := 113) (v := (1, 0)) D rfl rfl (by decide +kernel) fun D =>
    j_pf (pc := 114) (a := 377) D rfl rfl rfl (s0_377 H) rfl rfl (gy (by decide)) (gy rfl) fun h2 eh2 S D =>
    have T := fj_hs_ok H.1 S
    have H := shp_st H T
    j_aldn (pc := 117) D rfl rfl rfl fun D =>
    j_gs (pc := 118) D rfl fun D =>
    j_pf (pc := 121) (a := 377) D rfl rfl rfl (s0_377 H) rfl rfl (gy (by decide)) (gy rfl) fun h3 eh3 S D =>
    have T := fj_hs_ok H.1 S
    have H := shp_st H T
    j_ildn (pc := 124) D rfl rfl rfl fun D =>
    j_ic (pc := 125) D rfl fun D =>
    j_ine (pc := 126) D rfl (fun q D =>
      j_lld (pc := 129) D rfl rfl rfl fun D =>
      j_ldc2 (pc := 131) D rfl fun D =>
      j_is (pc := 134) (m := 194) (a := [(1, x4), (1, 100)]) (rest := []) D rfl rfl rfl rfl (fun v5 h4 e1 D =>
        have T := fj_run_ok _ _ _ _ _ _ H.1 e1
        have H := shp_st H T
        j_lst (pc := 137) (L' := [(6, (1, v5)), (0, (4, 377)), (1, (0, x1)), (4, (1, x4))]) D rfl nl_192 rfl rfl fun D =>
        j_aldn (pc := 139) D rfl rfl rfl fun D =>
        j_gs (pc := 140) D rfl fun D =>
        j_pf (pc := 143) (a := 377) D rfl rfl rfl (s0_377 H) rfl rfl (gy (by decide)) (gy rfl) fun h7 eh7 S D =>
        have T := fj_hs_ok H.1 S
        have H := shp_st H T
        j_aldn (pc := 146) D rfl rfl rfl fun D =>
        have D : fk_D 192 [(147, none, .lload 4, 2, 0, 0, 0), (149, none, .lload 6, 2, 0, 0, 0), (151, none, .ldiv, 1, 0, 0, 0), (152, none, .putfield 402, 3, 168, 115, 11), (155, none, .aload_n 0, 1, 0, 0, 0), (156, none, .ldc2_w 175, 3, 1, 100, 0), (159, none, .lload 6, 2, 0, 0, 0), (161, none, .ldiv, 1, 0, 0, 0), (162, none, .putfield 405, 3, 169, 115, 11), (165, none, .goto 58, 3, 223, 0, 0)] := fq_of2 cd_192 ow_192 cl_192 rfl (pc := 147) (by decide +kernel)
        j_lld (pc := 147) D rfl rfl rfl fun D =>
        j_lld (pc := 149) D rfl rfl rfl fun D =>
        j_ldiv (pc := 151) D rfl fun q D =>
        j_pf (pc := 152) (a := 377) D rfl rfl rfl (s0_377 H) rfl rfl (gy (by decide)) (gy rfl) fun h8 eh8 S D =>
        have T := fj_hs_ok H.1 S
        have H := shp_st H T
        j_aldn (pc := 155) D rfl rfl rfl fun D =>
        j_ldc2 (pc := 156) D rfl fun D =>
        j_lld (pc := 159) D rfl rfl rfl fun D =>
        j_ldiv (pc := 161) D rfl fun q D =>
        j_pf (pc := 162) (a := 377) D rfl rfl rfl (s0_377 H) rfl rfl (gy (by decide)) (gy rfl) fun h9 eh9 S D =>
        have T := fj_hs_ok H.1 S
        have H := shp_st H T
        j_goto (pc := 165) D rfl <|
        have D : fk_D 192 [(223, none, .return_, 1, 0, 0, 0)] := fq_of2 cd_192 ow_192 cl_192 rfl (pc := 223) (by decide +kernel)
        j_vret D rt_192) (fun q6 h4 e1 =>
        j_tx (hx_192 _))) (fun q =>
      have D : fk_D 192 [(168, none, .iload_n 1, 1, 0, 0, 0), (169, none, .ifCond .eq 54, 3, 223, 0, 0), (172, none, .aload_n 0, 1, 0, 0, 0), (173, none, .getstatic 423, 3, 4, 7, 0), (176, none, .putfield 414, 3, 167, 115, 12), (179, none, .aload_n 0, 1, 0, 0, 0), (180, none, .iload_n 1, 1, 0, 0, 0), (181, none, .iconst 2, 1, 0, 2, 0), (182, none, .if_icmp .ne 7, 3, 189, 0, 0), (185, none, .lconst 0, 1, 0, 0, 0), (186, none, .goto 19, 3, 205, 0, 0)] := fq_of2 cd_192 ow_192 cl_192 rfl (pc := 168) (by decide +kernel)
      j_ildn (pc := 168) D rfl rfl rfl fun D =>
      j_ifeq (pc := 169) D rfl (fun q =>
        have D : fk_D 192 [(223, none, .return_, 1, 0, 0, 0)] := fq_of2 cd_192 ow_192 cl_192 rfl (pc := 223) (by decide +kernel)
        j_vret D rt_192) (fun q D =>
        j_aldn (pc := 172) D rfl rfl rfl fun D =>
        j_gs (pc := 173) D rfl fun D =>
        j_pf (pc := 176) (a := 377) D rfl rfl rfl (s0_377 H) rfl rfl (gy (by decide)) (gy rfl) fun h10 eh10 S D =>
        have T := fj_hs_ok H.1 S
        have H := shp_st H T
        j_aldn (pc := 179) D rfl rfl rfl fun D =>
        j_ildn (pc := 180) D rfl rfl rfl fun D =>
        j_ic (pc := 181) D rfl fun D =>
        j_ine (pc := 182) D rfl (fun q D =>
          j_c0 (pc := 185) (v := (1, 0)) D rfl rfl (by decide +kernel) fun D =>
          j_goto (pc := 186) D rfl <|
          fk_jump cut_192_205 rfl rfl) (fun q =>
          have D : fk_D 192 [(189, none, .iload_n 1, 1, 0, 0, 0), (190, none, .iconst 4, 1, 0, 4, 0), (191, none, .if_icmp .ne 12, 3, 203, 0, 0), (194, none, .ldc2_w 426, 3, 1, 12, 0), (197, none, .lload 4, 2, 0, 0, 0), (199, none, .lmul, 1, 0, 0, 0), (200, none, .goto 5, 3, 205, 0, 0)] := fq_of2 cd_192 ow_192 cl_192 rfl (pc := 189) (by decide +kernel)
          j_ildn (pc := 189) D rfl rfl rfl fun D =>
          j_ic (pc := 190) D rfl fun D =>
          j_ine (pc := 191) D rfl (fun q D =>
            j_ldc2 (pc := 194) D rfl fun D =>
            j_lld (pc := 197) D rfl rfl rfl fun D =>
            j_lmul (pc := 199) D rfl fun D =>
            j_goto (pc := 200) D rfl <|
            fk_jump cut_192_205 rfl rfl) (fun q =>
            have D : fk_D 192 [(203, none, .lload 4, 2, 0, 0, 0)] := fq_of2 cd_192 ow_192 cl_192 rfl (pc := 203) (by decide +kernel)
            j_lld (pc := 203) D rfl rfl rfl fun D =>
            fk_jump cut_192_205 rfl rfl))))
theorem e_192_205 (d : Nat) (x1 x4 s0 s1 : Int) {h : fi_H} (H : Shp h) : c_192_205 d x1 x4 s0 s1 h =
  if h 0 s0.toNat 0 = 115 then
  if 302 < s0 then
  lt_ (fi_upd h 168 s0.toNat 0 s1) fun h1 =>
  if x1 = 2 then
    c_192_220 d 377 x4 h1
  else
    c_192_220 d 377 0 h1
  else none
  else none := by
  unfold c_192_205
  exact
    have D : fk_D 192 [(205, some [0, 1, 4], .putfield 402, 3, 168, (-115), 11), (208, none, .aload_n 0, 1, 0, 0, 0), (209, none, .iload_n 1, 1, 0, 0, 0), (210, none, .iconst 2, 1, 0, 2, 0), (211, none, .if_icmp .ne 8, 3, 219, 0, 0), (214, none, .lload 4, 2, 0, 0, 0), (216, none, .goto 4, 3, 220, 0, 0)] := fq_of2 cd_192 ow_192 cl_192 rfl (pc := 205) (by decide +kernel)
    j_pfo (pc := 205) D rfl rfl rfl rfl rfl gn gn (gy rfl) fun h1 eh1 S kc2 D =>
    have T := fj_hs_ok H.1 S
    have H := shp_st H T
    j_aldn (pc := 208) D rfl rfl rfl fun D =>
    j_ildn (pc := 209) D rfl rfl rfl fun D =>
    j_ic (pc := 210) D rfl fun D =>
    j_ine (pc := 211) D rfl (fun q D =>
      j_lld (pc := 214) D rfl rfl rfl fun D =>
      j_goto (pc := 216) D rfl <|
      fk_jump cut_192_220 rfl rfl) (fun q =>
      have D : fk_D 192 [(219, none, .lconst 0, 1, 0, 0, 0)] := fq_of2 cd_192 ow_192 cl_192 rfl (pc := 219) (by decide +kernel)
      j_c0 (pc := 219) (v := (1, 0)) D rfl rfl (by decide +kernel) fun D =>
      fk_jump cut_192_220 rfl rfl)
theorem e_192_220 (d : Nat) (s0 s1 : Int) {h : fi_H} (H : Shp h) : c_192_220 d s0 s1 h =
  if h 0 s0.toNat 0 = 115 then
  if 302 < s0 then
  lt_ (fi_upd h 169 s0.toNat 0 s1) fun h1 =>
  some (.inl none, h1)
  else none
  else none := by
  unfold c_192_220
  exact
    have D : fk_D 192 [(220, some [], .putfield 405, 3, 169, (-115), 11), (223, none, .return_, 1, 0, 0, 0)] := fq_of2 cd_192 ow_192 cl_192 rfl (pc := 220) (by decide +kernel)
    j_pfo (pc := 220) D rfl rfl rfl rfl rfl gn gn (gy rfl) fun h1 eh1 S kc2 D =>
    have T := fj_hs_ok H.1 S
    have H := shp_st H T
    j_vret D rt_192
theorem m_192 (d : Nat) {h : fi_H} (H : Shp h) : fj_run (d + 1) 192 h [(4, 377)] =
  if h 158 377 0 = 1200 then
    ca_ (fj_run d 164 h [(4, 377), (0, 4)]) 4
      (fun v2 h1 =>
      if v2 ≠ 0 then
      tx_ v2.toNat h1
      else none)
      (fun q3 h1 => tx_ q3 h1)
  else
    ca_ (fj_run d 193 h [(4, 377)]) 0
      (fun v5 h4 =>
      if v5 = 1 then
        c_192_68 d v5 10000 h4
      else
        if v5 = 2 then
          c_192_68 d v5 65535 h4
        else
          if v5 = 3 then
            c_192_68 d v5 2400 h4
          else
            if v5 = 4 then
              c_192_68 d v5 200 h4
            else
              c_192_68 d v5 999999999 h4)
      (fun q6 h4 => tx_ q6 h4) := by
  rw [fj_run_eq d (by decide) h [(4, 377)] (Nat.le_of_ble_eq_true (by rw [nl_192]; rfl))]
  show gG (fj_run d) 192 0 [(0, (4, 377))] [] h = _
  exact
    have D : fk_D 192 [(0, none, .aload_n 0, 1, 0, 0, 0), (1, none, .getfield 104, 3, 158, 115, 10), (4, none, .sipush 1200, 3, 0, 1200, 0), (7, none, .if_icmp .ne 9, 3, 16, 0, 0), (10, none, .aload_n 0, 1, 0, 0, 0), (11, none, .iconst 4, 1, 0, 4, 0), (12, none, .invokevirtual 190, 3, 1, 258, 5), (15, none, .athrow, 1, 0, 0, 0)] := fq_of2 cd_192 ow_192 cl_192 rfl (pc := 0) (by decide +kernel)
    j_aldn (pc := 0) D rfl rfl rfl fun D =>
    j_gf (pc := 1) (a := 377) D rfl rfl (by decide) rfl (s0_377 H) rfl fun D =>
    j_sp (pc := 4) D rfl fun D =>
    j_ine (pc := 7) D rfl (fun q D =>
      j_aldn (pc := 10) D rfl rfl rfl fun D =>
      j_ic (pc := 11) D rfl fun D =>
      j_iv (pc := 12) (m := 164) (dd := 258) (a := [(0, 4)]) (rest := []) D rfl rfl rfl rfl rfl (by decide) (s0_377 H) (by decide +kernel) (fun v2 h1 e1 D =>
        have T := fj_run_ok _ _ _ _ _ _ H.1 e1
        have H := shp_st H T
        j_at (pc := 15) D gn <|
        j_tx (hx_192 _)) (fun q3 h1 e1 =>
        j_tx (hx_192 _))) (fun q =>
      have D : fk_D 192 [(16, none, .aload_n 0, 1, 0, 0, 0), (17, none, .invokevirtual 389, 3, 0, 268, 1), (20, none, .istore_n 1, 1, 0, 0, 0), (21, none, .iload_n 1, 1, 0, 0, 0), (22, none, .iconst 1, 1, 0, 1, 0), (23, none, .if_icmp .ne 9, 3, 32, 0, 0), (26, none, .ldc2_w 392, 3, 1, 10000, 0), (29, none, .goto 39, 3, 68, 0, 0)] := fq_of2 cd_192 ow_192 cl_192 rfl (pc := 16) (by decide +kernel)
      j_aldn (pc := 16) D rfl rfl rfl fun D =>
      j_iv (pc := 17) (m := 193) (dd := 268) (a := []) (rest := []) D rfl rfl rfl rfl rfl (by decide) (s0_377 H) (by decide +kernel) (fun v5 h4 e1 D =>
        have T := fj_run_ok _ _ _ _ _ _ H.1 e1
        have H := shp_st H T
        j_istn (pc := 20) (L' := [(1, (0, v5)), (0, (4, 377))]) D rfl nl_192 rfl rfl fun D =>
        j_ildn (pc := 21) D rfl rfl rfl fun D =>
        j_ic (pc := 22) D rfl fun D =>
        j_ine (pc := 23) D rfl (fun q D =>
          j_ldc2 (pc := 26) D rfl fun D =>
          j_goto (pc := 29) D rfl <|
          fk_jump cut_192_68 rfl rfl) (fun q =>
          have D : fk_D 192 [(32, none, .iload_n 1, 1, 0, 0, 0), (33, none, .iconst 2, 1, 0, 2, 0), (34, none, .if_icmp .ne 9, 3, 43, 0, 0), (37, none, .ldc2_w 394, 3, 1, 65535, 0), (40, none, .goto 28, 3, 68, 0, 0)] := fq_of2 cd_192 ow_192 cl_192 rfl (pc := 32) (by decide +kernel)
          j_ildn (pc := 32) D rfl rfl rfl fun D =>
          j_ic (pc := 33) D rfl fun D =>
          j_ine (pc := 34) D rfl (fun q D =>
            j_ldc2 (pc := 37) D rfl fun D =>
            j_goto (pc := 40) D rfl <|
            fk_jump cut_192_68 rfl rfl) (fun q =>
            have D : fk_D 192 [(43, none, .iload_n 1, 1, 0, 0, 0), (44, none, .iconst 3, 1, 0, 3, 0), (45, none, .if_icmp .ne 9, 3, 54, 0, 0), (48, none, .ldc2_w 396, 3, 1, 2400, 0), (51, none, .goto 17, 3, 68, 0, 0)] := fq_of2 cd_192 ow_192 cl_192 rfl (pc := 43) (by decide +kernel)
            j_ildn (pc := 43) D rfl rfl rfl fun D =>
            j_ic (pc := 44) D rfl fun D =>
            j_ine (pc := 45) D rfl (fun q D =>
              j_ldc2 (pc := 48) D rfl fun D =>
              j_goto (pc := 51) D rfl <|
              fk_jump cut_192_68 rfl rfl) (fun q =>
              have D : fk_D 192 [(54, none, .iload_n 1, 1, 0, 0, 0), (55, none, .iconst 4, 1, 0, 4, 0), (56, none, .if_icmp .ne 9, 3, 65, 0, 0), (59, none, .ldc2_w 398, 3, 1, 200, 0), (62, none, .goto 6, 3, 68, 0, 0)] := fq_of2 cd_192 ow_192 cl_192 rfl (pc := 54) (by decide +kernel)
              j_ildn (pc := 54) D rfl rfl rfl fun D =>
              j_ic (pc := 55) D rfl fun D =>
              j_ine (pc := 56) D rfl (fun q D =>
                j_ldc2 (pc := 59) D rfl fun D =>
                j_goto (pc := 62) D rfl <|
                fk_jump cut_192_68 rfl rfl) (fun q =>
                have D : fk_D 192 [(65, none, .ldc2_w 400, 3, 1, 999999999, 0)] := fq_of2 cd_192 ow_192 cl_192 rfl (pc := 65) (by decide +kernel)
                j_ldc2 (pc := 65) D rfl fun D =>
                fk_jump cut_192_68 rfl rfl))))) (fun q6 h4 e1 =>
        j_tx (hx_192 _)))
/-! 193 StatuteHouse$Reader.unit()I -/
theorem cd_193 : fi_code 193 = prog_53_method_28_code := rfl
theorem hx_193 : ∀ pc, fi_hat 193 pc = none := fun pc => by unfold fi_hat; rw [show fi_hh 193 = [] from rfl]; rfl
theorem rt_193 : fi_ret 193 = some .int := rfl
theorem nl_193 : fi_nl 193 = 1 := rfl
theorem ow_193 : fi_ow 193 = 15 := rfl
theorem cl_193 : fj_cutT.getD 193 [] = [(34, [0])] := rfl
theorem cut_193_34 : fj_cut 193 34 = some [0] := by decide +kernel
noncomputable def c_193_34 (d : Nat) (h : fi_H) : fk_R := gG (fj_run d) 193 34 [(0, (4, 377))] [] h
theorem e_193_34 (d : Nat) {h : fi_H} (H : Shp h) : c_193_34 d h =
  ca_ (fj_run d 163 h [(4, 377), (0, wI ((h 158 377 0) + 1)), (4, 207)]) 0
    (fun v2 h1 =>
    if v2 = 0 then
      ca_ (fj_run d 163 h1 [(4, 377), (0, wI ((h1 158 377 0) + 1)), (4, 209)]) 0
        (fun v5 h4 =>
        if v5 = 0 then
          ca_ (fj_run d 163 h4 [(4, 377), (0, wI ((h4 158 377 0) + 1)), (4, 211)]) 0
            (fun v8 h7 =>
            if v8 = 0 then
              some (.inl (some (0, 0)), h7)
            else
              some (.inl (some (0, 4)), h7))
            (fun q9 h7 => tx_ q9 h7)
        else
          some (.inl (some (0, 3)), h4))
        (fun q6 h4 => tx_ q6 h4)
    else
      some (.inl (some (0, 2)), h1))
    (fun q3 h1 => tx_ q3 h1) := by
  unfold c_193_34
  exact
    have D : fk_D 193 [(34, some [0], .aload_n 0, 1, 0, 0, 0), (35, none, .aload_n 0, 1, 0, 0, 0), (36, none, .getfield 104, 3, 158, 115, 10), (39, none, .iconst 1, 1, 0, 1, 0), (40, none, .iadd, 1, 0, 0, 0), (41, none, .ldc_w 280, 3, 4, 207, 0), (44, none, .invokevirtual 198, 3, 2, 259, 1), (47, none, .ifCond .eq 7, 3, 54, 0, 0), (50, none, .iconst 2, 1, 0, 2, 0), (51, none, .goto 44, 3, 95, 0, 0)] := fq_of2 cd_193 ow_193 cl_193 rfl (pc := 34) (by decide +kernel)
    j_aldn (pc := 34) D rfl rfl rfl fun D =>
    j_aldn (pc := 35) D rfl rfl rfl fun D =>
    j_gf (pc := 36) (a := 377) D rfl rfl (by decide) rfl (s0_377 H) rfl fun D =>
    j_ic (pc := 39) D rfl fun D =>
    j_iadd (pc := 40) D rfl fun D =>
    j_ldcw (pc := 41) D rfl fun D =>
    j_iv (pc := 44) (m := 163) (dd := 259) (a := [(0, wI ((h 158 377 0) + 1)), (4, 207)]) (rest := []) D rfl rfl rfl rfl rfl (by decide) (s0_377 H) (by decide +kernel) (fun v2 h1 e1 D =>
      have T := fj_run_ok _ _ _ _ _ _ H.1 e1
      have H := shp_st H T
      j_ifeq (pc := 47) D rfl (fun q =>
        have D : fk_D 193 [(54, none, .aload_n 0, 1, 0, 0, 0), (55, none, .aload_n 0, 1, 0, 0, 0), (56, none, .getfield 104, 3, 158, 115, 10), (59, none, .iconst 1, 1, 0, 1, 0), (60, none, .iadd, 1, 0, 0, 0), (61, none, .ldc_w 282, 3, 4, 209, 0), (64, none, .invokevirtual 198, 3, 2, 259, 1), (67, none, .ifCond .eq 7, 3, 74, 0, 0), (70, none, .iconst 3, 1, 0, 3, 0), (71, none, .goto 24, 3, 95, 0, 0)] := fq_of2 cd_193 ow_193 cl_193 rfl (pc := 54) (by decide +kernel)
        j_aldn (pc := 54) D rfl rfl rfl fun D =>
        j_aldn (pc := 55) D rfl rfl rfl fun D =>
        j_gf (pc := 56) (a := 377) D rfl rfl (by decide) rfl (s0_377 H) rfl fun D =>
        j_ic (pc := 59) D rfl fun D =>
        j_iadd (pc := 60) D rfl fun D =>
        j_ldcw (pc := 61) D rfl fun D =>
        j_iv (pc := 64) (m := 163) (dd := 259) (a := [(0, wI ((h1 158 377 0) + 1)), (4, 209)]) (rest := []) D rfl rfl rfl rfl rfl (by decide) (s0_377 H) (by decide +kernel) (fun v5 h4 e1 D =>
          have T := fj_run_ok _ _ _ _ _ _ H.1 e1
          have H := shp_st H T
          j_ifeq (pc := 67) D rfl (fun q =>
            have D : fk_D 193 [(74, none, .aload_n 0, 1, 0, 0, 0), (75, none, .aload_n 0, 1, 0, 0, 0), (76, none, .getfield 104, 3, 158, 115, 10), (79, none, .iconst 1, 1, 0, 1, 0), (80, none, .iadd, 1, 0, 0, 0), (81, none, .ldc_w 284, 3, 4, 211, 0), (84, none, .invokevirtual 198, 3, 2, 259, 1), (87, none, .ifCond .eq 7, 3, 94, 0, 0), (90, none, .iconst 4, 1, 0, 4, 0), (91, none, .goto 4, 3, 95, 0, 0)] := fq_of2 cd_193 ow_193 cl_193 rfl (pc := 74) (by decide +kernel)
            j_aldn (pc := 74) D rfl rfl rfl fun D =>
            j_aldn (pc := 75) D rfl rfl rfl fun D =>
            j_gf (pc := 76) (a := 377) D rfl rfl (by decide) rfl (s0_377 H) rfl fun D =>
            j_ic (pc := 79) D rfl fun D =>
            j_iadd (pc := 80) D rfl fun D =>
            j_ldcw (pc := 81) D rfl fun D =>
            j_iv (pc := 84) (m := 163) (dd := 259) (a := [(0, wI ((h4 158 377 0) + 1)), (4, 211)]) (rest := []) D rfl rfl rfl rfl rfl (by decide) (s0_377 H) (by decide +kernel) (fun v8 h7 e1 D =>
              have T := fj_run_ok _ _ _ _ _ _ H.1 e1
              have H := shp_st H T
              j_ifeq (pc := 87) D rfl (fun q =>
                have D : fk_D 193 [(94, none, .iconst 0, 1, 0, 0, 0), (95, none, .ireturn, 1, 0, 0, 0)] := fq_of2 cd_193 ow_193 cl_193 rfl (pc := 94) (by decide +kernel)
                j_ic (pc := 94) D rfl fun D =>
                j_iret D rt_193) (fun q D =>
                j_ic (pc := 90) D rfl fun D =>
                j_goto (pc := 91) D rfl <|
                have D : fk_D 193 [(95, none, .ireturn, 1, 0, 0, 0)] := fq_of2 cd_193 ow_193 cl_193 rfl (pc := 95) (by decide +kernel)
                j_iret D rt_193)) (fun q9 h7 e1 =>
              j_tx (hx_193 _))) (fun q D =>
            j_ic (pc := 70) D rfl fun D =>
            j_goto (pc := 71) D rfl <|
            have D : fk_D 193 [(95, none, .ireturn, 1, 0, 0, 0)] := fq_of2 cd_193 ow_193 cl_193 rfl (pc := 95) (by decide +kernel)
            j_iret D rt_193)) (fun q6 h4 e1 =>
          j_tx (hx_193 _))) (fun q D =>
        j_ic (pc := 50) D rfl fun D =>
        j_goto (pc := 51) D rfl <|
        have D : fk_D 193 [(95, none, .ireturn, 1, 0, 0, 0)] := fq_of2 cd_193 ow_193 cl_193 rfl (pc := 95) (by decide +kernel)
        j_iret D rt_193)) (fun q3 h1 e1 =>
      j_tx (hx_193 _))
theorem m_193 (d : Nat) {h : fi_H} (H : Shp h) : fj_run (d + 1) 193 h [(4, 377)] =
  if 0 ≤ wI ((h 158 377 0) + 1) ∧ wI ((h 158 377 0) + 1) < 1202 then
  if h 8 378 (wI ((h 158 377 0) + 1)).toNat = 6 then
    if h 5 382 (wI ((h 158 377 0) + 1)).toNat = 37 then
      some (.inl (some (0, 1)), h)
    else
      c_193_34 d h
  else
    c_193_34 d h
  else none := by
  rw [fj_run_eq d (by decide) h [(4, 377)] (Nat.le_of_ble_eq_true (by rw [nl_193]; rfl))]
  show gG (fj_run d) 193 0 [(0, (4, 377))] [] h = _
  exact
    have D : fk_D 193 [(0, none, .aload_n 0, 1, 0, 0, 0), (1, none, .getfield 15, 3, 149, 115, 12), (4, none, .aload_n 0, 1, 0, 0, 0), (5, none, .getfield 104, 3, 158, 115, 10), (8, none, .iconst 1, 1, 0, 1, 0), (9, none, .iadd, 1, 0, 0, 0), (10, none, .baload, 1, 0, 0, 0), (11, none, .bipush 6, 2, 0, 6, 0), (13, none, .if_icmp .ne 21, 3, 34, 0, 0), (16, none, .aload_n 0, 1, 0, 0, 0), (17, none, .getfield 31, 3, 153, 115, 12), (20, none, .aload_n 0, 1, 0, 0, 0), (21, none, .getfield 104, 3, 158, 115, 10), (24, none, .iconst 1, 1, 0, 1, 0), (25, none, .iadd, 1, 0, 0, 0), (26, none, .caload, 1, 0, 0, 0), (27, none, .bipush 37, 2, 0, 37, 0), (29, none, .if_icmp .ne 5, 3, 34, 0, 0), (32, none, .iconst 1, 1, 0, 1, 0), (33, none, .ireturn, 1, 0, 0, 0)] := fq_of2 cd_193 ow_193 cl_193 rfl (pc := 0) (by decide +kernel)
    j_aldn (pc := 0) D rfl rfl rfl fun D =>
    j_gfc (pc := 1) (a := 377) D rfl rfl (by decide) rfl (s0_377 H) rfl (sf_149_377 H) fun D =>
    j_aldn (pc := 4) D rfl rfl rfl fun D =>
    j_gf (pc := 5) (a := 377) D rfl rfl (by decide) rfl (s0_377 H) rfl fun D =>
    j_ic (pc := 8) D rfl fun D =>
    j_iadd (pc := 9) D rfl fun D =>
    j_al (pc := 10) (a := 378) (e := 8) D rfl rfl rfl (by decide) (s0_378 H) (s1_378 H) ⟨rfl, rfl, rfl⟩ rfl gn fun qb1 D =>
    j_bp (pc := 11) D rfl fun D =>
    j_ine (pc := 13) D rfl (fun q D =>
      j_aldn (pc := 16) D rfl rfl rfl fun D =>
      j_gfc (pc := 17) (a := 377) D rfl rfl (by decide) rfl (s0_377 H) rfl (sf_153_377 H) fun D =>
      j_aldn (pc := 20) D rfl rfl rfl fun D =>
      j_gf (pc := 21) (a := 377) D rfl rfl (by decide) rfl (s0_377 H) rfl fun D =>
      j_ic (pc := 24) D rfl fun D =>
      j_iadd (pc := 25) D rfl fun D =>
      j_al (pc := 26) (a := 382) (e := 5) D rfl rfl rfl (by decide) (s0_382 H) (s1_382 H) ⟨rfl, rfl, rfl⟩ rfl (gy qb1) fun q D =>
      j_bp (pc := 27) D rfl fun D =>
      j_ine (pc := 29) D rfl (fun q D =>
        j_ic (pc := 32) D rfl fun D =>
        j_iret D rt_193) (fun q =>
        fk_jump cut_193_34 rfl rfl)) (fun q =>
      fk_jump cut_193_34 rfl rfl)
/-! 194 StatuteHouse.common(JJ)J -/
theorem cd_194 : fi_code 194 = prog_1_method_6_code := rfl
theorem hx_194 : ∀ pc, fi_hat 194 pc = none := fun pc => by unfold fi_hat; rw [show fi_hh 194 = [] from rfl]; rfl
theorem rt_194 : fi_ret 194 = some .long := rfl
theorem nl_194 : fi_nl 194 = 10 := rfl
theorem ow_194 : fi_ow 194 = 0 := rfl
theorem cl_194 : fj_cutT.getD 194 [] = [(6, [4, 6])] := rfl
theorem cut_194_6 : fj_cut 194 6 = some [4, 6] := by decide +kernel
noncomputable def c_194_6 (d : Nat) (x4 x6 : Int) (h : fi_H) : fk_R := gG (fj_run d) 194 6 [(4, (1, x4)), (6, (1, x6))] [] h
theorem e_194_6 (d : Nat) (x4 x6 : Int) {h : fi_H} (H : Shp h) : c_194_6 d x4 x6 h =
  if lc_ x6 0 = 0 then
    some (.inl (some (1, x4)), h)
  else
    if x6 = 0 then none else
    c_194_6 d x6 (lr_ x4 x6) h := by
  unfold c_194_6
  exact
    have D : fk_D 194 [(6, some [4, 6], .lload 6, 2, 0, 0, 0), (8, none, .lconst 0, 1, 0, 0, 0), (9, none, .lcmp, 1, 0, 0, 0), (10, none, .ifCond .eq 21, 3, 31, 0, 0), (13, none, .lload 4, 2, 0, 0, 0), (15, none, .lload 6, 2, 0, 0, 0), (17, none, .lrem, 1, 0, 0, 0), (18, none, .lstore 8, 2, 0, 0, 0), (20, none, .lload 6, 2, 0, 0, 0), (22, none, .lstore 4, 2, 0, 0, 0), (24, none, .lload 8, 2, 0, 0, 0), (26, none, .lstore 6, 2, 0, 0, 0), (28, none, .goto (-22), 3, 6, 0, 0)] := fq_of2 cd_194 ow_194 cl_194 rfl (pc := 6) (by decide +kernel)
    j_lld (pc := 6) D rfl rfl rfl fun D =>
    j_c0 (pc := 8) (v := (1, 0)) D rfl rfl (by decide +kernel) fun D =>
    j_lcmp (pc := 9) D rfl fun D =>
    j_ifeq (pc := 10) D rfl (fun q =>
      have D : fk_D 194 [(31, none, .lload 4, 2, 0, 0, 0), (33, none, .lreturn, 1, 0, 0, 0)] := fq_of2 cd_194 ow_194 cl_194 rfl (pc := 31) (by decide +kernel)
      j_lld (pc := 31) D rfl rfl rfl fun D =>
      j_lret D rt_194) (fun q D =>
      j_lld (pc := 13) D rfl rfl rfl fun D =>
      j_lld (pc := 15) D rfl rfl rfl fun D =>
      j_lrem (pc := 17) D rfl fun q D =>
      j_lst (pc := 18) (L' := [(8, (1, lr_ x4 x6)), (4, (1, x4)), (6, (1, x6))]) D rfl nl_194 rfl rfl fun D =>
      j_lld (pc := 20) D rfl rfl rfl fun D =>
      j_lst (pc := 22) (L' := [(4, (1, x6)), (8, (1, lr_ x4 x6)), (6, (1, x6))]) D rfl nl_194 rfl rfl fun D =>
      j_lld (pc := 24) D rfl rfl rfl fun D =>
      j_lst (pc := 26) (L' := [(6, (1, lr_ x4 x6)), (4, (1, x6)), (8, (1, lr_ x4 x6))]) D rfl nl_194 rfl rfl fun D =>
      j_goto (pc := 28) D rfl <|
      fk_jump cut_194_6 rfl rfl)
theorem m_194 (d : Nat) (x0 x2 : Int) {h : fi_H} (H : Shp h) : fj_run (d + 1) 194 h [(1, x0), (1, x2)] =
  c_194_6 d x0 x2 h := by
  rw [fj_run_eq d (by decide) h [(1, x0), (1, x2)] (Nat.le_of_ble_eq_true (by rw [nl_194]; rfl))]
  show gG (fj_run d) 194 0 [(0, (1, x0)), (2, (1, x2))] [] h = _
  exact
    have D : fk_D 194 [(0, none, .lload_n 0, 1, 0, 0, 0), (1, none, .lstore 4, 2, 0, 0, 0), (3, none, .lload_n 2, 1, 0, 0, 0), (4, none, .lstore 6, 2, 0, 0, 0)] := fq_of2 cd_194 ow_194 cl_194 rfl (pc := 0) (by decide +kernel)
    j_lldn (pc := 0) D rfl rfl rfl fun D =>
    j_lst (pc := 1) (L' := [(4, (1, x0)), (0, (1, x0)), (2, (1, x2))]) D rfl nl_194 rfl rfl fun D =>
    j_lldn (pc := 3) D rfl rfl rfl fun D =>
    j_lst (pc := 4) (L' := [(6, (1, x2)), (4, (1, x0)), (0, (1, x0)), (2, (1, x2))]) D rfl nl_194 rfl rfl fun D =>
    fk_jump cut_194_6 rfl rfl
/-! 195 StatuteHouse$Reader.date()I -/
theorem cd_195 : fi_code 195 = prog_53_method_27_code := rfl
theorem hx_195 : ∀ pc, fi_hat 195 pc = none := fun pc => by unfold fi_hat; rw [show fi_hh 195 = [] from rfl]; rfl
theorem rt_195 : fi_ret 195 = some .int := rfl
theorem nl_195 : fi_nl 195 = 2 := rfl
theorem ow_195 : fi_ow 195 = 15 := rfl
theorem cl_195 : fj_cutT.getD 195 [] = [] := rfl
theorem m_195 (d : Nat) {h : fi_H} (H : Shp h) : fj_run (d + 1) 195 h [(4, 377)] =
  if 0 ≤ h 158 377 0 ∧ h 158 377 0 < 1202 then
  if h 8 378 (h 158 377 0).toNat = 5 then
    if h 10 380 (h 158 377 0).toNat = (-1) then
      ca_ (fj_run d 164 h [(4, 377), (0, 3)]) 4
        (fun v3 h2 =>
        if v3 ≠ 0 then
        tx_ v3.toNat h2
        else none)
        (fun q4 h2 => tx_ q4 h2)
    else
      cv_ (fj_run d 166 h [(4, 377)])
        (fun h5 =>
        some (.inl (some (0, h 10 380 (h 158 377 0).toNat)), h5))
        (fun q7 h5 => tx_ q7 h5)
  else
    ca_ (fj_run d 164 h [(4, 377), (0, 1)]) 4
      (fun v9 h8 =>
      if v9 ≠ 0 then
      tx_ v9.toNat h8
      else none)
      (fun q10 h8 => tx_ q10 h8)
  else none := by
  rw [fj_run_eq d (by decide) h [(4, 377)] (Nat.le_of_ble_eq_true (by rw [nl_195]; rfl))]
  show gG (fj_run d) 195 0 [(0, (4, 377))] [] h = _
  exact
    have D : fk_D 195 [(0, none, .aload_n 0, 1, 0, 0, 0), (1, none, .getfield 15, 3, 149, 115, 12), (4, none, .aload_n 0, 1, 0, 0, 0), (5, none, .getfield 104, 3, 158, 115, 10), (8, none, .baload, 1, 0, 0, 0), (9, none, .iconst 5, 1, 0, 5, 0), (10, none, .if_icmp .eq 9, 3, 19, 0, 0), (13, none, .aload_n 0, 1, 0, 0, 0), (14, none, .iconst 1, 1, 0, 1, 0), (15, none, .invokevirtual 190, 3, 1, 258, 5), (18, none, .athrow, 1, 0, 0, 0)] := fq_of2 cd_195 ow_195 cl_195 rfl (pc := 0) (by decide +kernel)
    j_aldn (pc := 0) D rfl rfl rfl fun D =>
    j_gfc (pc := 1) (a := 377) D rfl rfl (by decide) rfl (s0_377 H) rfl (sf_149_377 H) fun D =>
    j_aldn (pc := 4) D rfl rfl rfl fun D =>
    j_gf (pc := 5) (a := 377) D rfl rfl (by decide) rfl (s0_377 H) rfl fun D =>
    j_al (pc := 8) (a := 378) (e := 8) D rfl rfl rfl (by decide) (s0_378 H) (s1_378 H) ⟨rfl, rfl, rfl⟩ rfl gn fun qb1 D =>
    j_ic (pc := 9) D rfl fun D =>
    j_ieq (pc := 10) D rfl (fun q =>
      have D : fk_D 195 [(19, none, .aload_n 0, 1, 0, 0, 0), (20, none, .getfield 23, 3, 151, 115, 12), (23, none, .aload_n 0, 1, 0, 0, 0), (24, none, .getfield 104, 3, 158, 115, 10), (27, none, .iaload, 1, 0, 0, 0), (28, none, .istore_n 1, 1, 0, 0, 0), (29, none, .iload_n 1, 1, 0, 0, 0), (30, none, .iconst (-1), 1, 0, (-1), 0), (31, none, .if_icmp .ne 9, 3, 40, 0, 0), (34, none, .aload_n 0, 1, 0, 0, 0), (35, none, .iconst 3, 1, 0, 3, 0), (36, none, .invokevirtual 190, 3, 1, 258, 5), (39, none, .athrow, 1, 0, 0, 0)] := fq_of2 cd_195 ow_195 cl_195 rfl (pc := 19) (by decide +kernel)
      j_aldn (pc := 19) D rfl rfl rfl fun D =>
      j_gfc (pc := 20) (a := 377) D rfl rfl (by decide) rfl (s0_377 H) rfl (sf_151_377 H) fun D =>
      j_aldn (pc := 23) D rfl rfl rfl fun D =>
      j_gf (pc := 24) (a := 377) D rfl rfl (by decide) rfl (s0_377 H) rfl fun D =>
      j_al (pc := 27) (a := 380) (e := 10) D rfl rfl rfl (by decide) (s0_380 H) (s1_380 H) ⟨rfl, rfl, rfl⟩ rfl (gy qb1) fun q D =>
      j_istn (pc := 28) (L' := [(1, (0, h 10 380 (h 158 377 0).toNat)), (0, (4, 377))]) D rfl nl_195 rfl rfl fun D =>
      j_ildn (pc := 29) D rfl rfl rfl fun D =>
      j_ic (pc := 30) D rfl fun D =>
      j_ine (pc := 31) D rfl (fun q D =>
        j_aldn (pc := 34) D rfl rfl rfl fun D =>
        j_ic (pc := 35) D rfl fun D =>
        j_iv (pc := 36) (m := 164) (dd := 258) (a := [(0, 3)]) (rest := []) D rfl rfl rfl rfl rfl (by decide) (s0_377 H) (by decide +kernel) (fun v3 h2 e1 D =>
          have T := fj_run_ok _ _ _ _ _ _ H.1 e1
          have H := shp_st H T
          j_at (pc := 39) D gn <|
          j_tx (hx_195 _)) (fun q4 h2 e1 =>
          j_tx (hx_195 _))) (fun q =>
        have D : fk_D 195 [(40, none, .aload_n 0, 1, 0, 0, 0), (41, none, .invokevirtual 206, 3, 0, 261, 0), (44, none, .iload_n 1, 1, 0, 0, 0), (45, none, .ireturn, 1, 0, 0, 0)] := fq_of2 cd_195 ow_195 cl_195 rfl (pc := 40) (by decide +kernel)
        j_aldn (pc := 40) D rfl rfl rfl fun D =>
        j_ivv (pc := 41) (m := 166) (dd := 261) (a := []) (rest := []) D rfl rfl rfl rfl rfl (by decide) (s0_377 H) (by decide +kernel) (fun h5 e1 D =>
          have T := fj_run_ok _ _ _ _ _ _ H.1 e1
          have H := shp_st H T
          j_ildn (pc := 44) D rfl rfl rfl fun D =>
          j_iret D rt_195) (fun q7 h5 e1 =>
          j_tx (hx_195 _)))) (fun q D =>
      j_aldn (pc := 13) D rfl rfl rfl fun D =>
      j_ic (pc := 14) D rfl fun D =>
      j_iv (pc := 15) (m := 164) (dd := 258) (a := [(0, 1)]) (rest := []) D rfl rfl rfl rfl rfl (by decide) (s0_377 H) (by decide +kernel) (fun v9 h8 e1 D =>
        have T := fj_run_ok _ _ _ _ _ _ H.1 e1
        have H := shp_st H T
        j_at (pc := 18) D gn <|
        j_tx (hx_195 _)) (fun q10 h8 e1 =>
        j_tx (hx_195 _)))
/-! 196 StatuteHouse.noted(II)V -/
theorem cd_196 : fi_code 196 = prog_1_method_41_code := rfl
theorem hx_196 : ∀ pc, fi_hat 196 pc = none := fun pc => by unfold fi_hat; rw [show fi_hh 196 = [] from rfl]; rfl
theorem rt_196 : fi_ret 196 = none := rfl
theorem nl_196 : fi_nl 196 = 3 := rfl
theorem ow_196 : fi_ow 196 = 0 := rfl
theorem cl_196 : fj_cutT.getD 196 [] = [] := rfl
theorem m_196 (d : Nat) (x1 x2 : Int) {h : fi_H} (H : Shp h) : fj_run (d + 1) 196 h [(4, 303), (0, x1), (0, x2)] =
  lt_ (fi_upd h 267 303 0 x1) fun h1 =>
  lt_ (fi_upd h1 268 303 0 x2) fun h2 =>
  some (.inl none, h2) := by
  rw [fj_run_eq d (by decide) h [(4, 303), (0, x1), (0, x2)] (Nat.le_of_ble_eq_true (by rw [nl_196]; rfl))]
  show gG (fj_run d) 196 0 [(0, (4, 303)), (1, (0, x1)), (2, (0, x2))] [] h = _
  exact
    have D : fk_D 196 [(0, none, .aload_n 0, 1, 0, 0, 0), (1, none, .iload_n 1, 1, 0, 0, 0), (2, none, .putfield 451, 3, 267, 100, 10), (5, none, .aload_n 0, 1, 0, 0, 0), (6, none, .iload_n 2, 1, 0, 0, 0), (7, none, .putfield 454, 3, 268, 100, 10), (10, none, .return_, 1, 0, 0, 0)] := fq_of2 cd_196 ow_196 cl_196 rfl (pc := 0) (by decide +kernel)
    j_aldn (pc := 0) D rfl rfl rfl fun D =>
    j_ildn (pc := 1) D rfl rfl rfl fun D =>
    j_pf (pc := 2) (a := 303) D rfl rfl rfl (s0_303 H) rfl rfl (gy (by decide)) (gy rfl) fun h1 eh1 S D =>
    have T := fj_hs_ok H.1 S
    have H := shp_st H T
    j_aldn (pc := 5) D rfl rfl rfl fun D =>
    j_ildn (pc := 6) D rfl rfl rfl fun D =>
    j_pf (pc := 7) (a := 303) D rfl rfl rfl (s0_303 H) rfl rfl (gy (by decide)) (gy rfl) fun h2 eh2 S D =>
    have T := fj_hs_ok H.1 S
    have H := shp_st H T
    j_vret D rt_196
/-! 197 StatuteHouse.holidays()I -/
theorem cd_197 : fi_code 197 = prog_1_method_60_code := rfl
theorem rt_197 : fi_ret 197 = some .int := rfl
theorem nl_197 : fi_nl 197 = 3 := rfl
theorem ow_197 : fi_ow 197 = 0 := rfl
theorem cl_197 : fj_cutT.getD 197 [] = [(18, [0])] := rfl
theorem cut_197_18 : fj_cut 197 18 = some [0] := by decide +kernel
noncomputable def c_197_18 (d : Nat) (s0 : Int) (h : fi_H) : fk_R := gG (fj_run d) 197 18 [(0, (4, 303))] [(4, s0)] h
theorem e_197_18 (d : Nat) (s0 : Int) {h : fi_H} (H : Shp h) : c_197_18 d s0 h =
  if h 0 s0.toNat 0 = 128 then
  cv_ (fj_run d 196 h [(4, 303), (0, h 107 s0.toNat 0), (0, h 108 s0.toNat 0)])
    (fun h2 =>
    some (.inl (some (0, (-1))), h2))
    (fun q4 h2 => tx_ q4 h2)
  else none := by
  unfold c_197_18
  exact
    have D : fk_D 197 [(18, some [0], .astore_n 2, 1, 0, 0, 0), (19, none, .aload_n 0, 1, 0, 0, 0), (20, none, .aload_n 2, 1, 0, 0, 0), (21, none, .getfield 7, 3, 107, (-128), 10), (24, none, .aload_n 2, 1, 0, 0, 0), (25, none, .getfield 13, 3, 108, 128, 10), (28, none, .invokevirtual 793, 3, 2, 161, 0), (31, none, .iconst (-1), 1, 0, (-1), 0), (32, none, .ireturn, 1, 0, 0, 0)] := fq_of2 cd_197 ow_197 cl_197 rfl (pc := 18) (by decide +kernel)
    j_astn (pc := 18) (L' := [(2, (4, s0)), (0, (4, 303))]) D rfl nl_197 rfl rfl fun D =>
    j_aldn (pc := 19) D rfl rfl rfl fun D =>
    j_aldn (pc := 20) D rfl rfl rfl fun D =>
    j_gfo (pc := 21) H.2.1 D rfl rfl rfl rfl fun kc1 D =>
    j_aldn (pc := 24) D rfl rfl rfl fun D =>
    j_gf (pc := 25) (a := s0.toNat) D rfl rfl (nz_cls H.2.1 kc1 (by decide)) rfl kc1 rfl fun D =>
    j_ivv (pc := 28) (m := 196) (dd := 161) (a := [(0, h 107 s0.toNat 0), (0, h 108 s0.toNat 0)]) (rest := []) D rfl rfl rfl rfl rfl (by decide) (s0_303 H) (by decide +kernel) (fun h2 e1 D =>
      have T := fj_run_ok _ _ _ _ _ _ H.1 e1
      have kc1 := cls_st H.1 T.2 kc1 (by decide)
      have H := shp_st H T
      j_ic (pc := 31) D rfl fun D =>
      j_iret D rt_197) (fun q4 h2 e1 =>
      j_tx (by decide +kernel))
theorem m_197 (d : Nat) {h : fi_H} (H : Shp h) : fj_run (d + 1) 197 h [(4, 303)] =
  cv_ (fj_run d 111 h [(4, 377)])
    (fun h1 =>
    ca_ (fj_run d 198 h1 [(4, 377)]) 0
      (fun v5 h4 =>
      cv_ (fj_run d 196 h4 [(4, 303), (0, 0), (0, (-1))])
        (fun h7 =>
        lt_ (fi_upd h7 210 303 0 (h7 211 303 0)) fun h10 =>
        lt_ (fi_upd h10 211 303 0 (h7 210 303 0)) fun h11 =>
        lt_ (fi_upd h11 212 303 0 v5) fun h12 =>
        some (.inl (some (0, v5)), h12))
        (fun q9 h7 => tx_ q9 h7))
      (fun q6 h4 => tc_ 128 q6 h4 (c_197_18 d (q6 : Int) h4)))
    (fun q3 h1 => tx_ q3 h1) := by
  rw [fj_run_eq d (by decide) h [(4, 303)] (Nat.le_of_ble_eq_true (by rw [nl_197]; rfl))]
  show gG (fj_run d) 197 0 [(0, (4, 303))] [] h = _
  exact
    have D : fk_D 197 [(0, none, .aload_n 0, 1, 0, 0, 0), (1, none, .getfield 680, 3, 269, 100, 12), (4, none, .invokevirtual 790, 3, 0, 159, 0), (7, none, .aload_n 0, 1, 0, 0, 0), (8, none, .getfield 680, 3, 269, 100, 12), (11, none, .invokevirtual 799, 3, 0, 162, 1), (14, none, .istore_n 1, 1, 0, 0, 0), (15, none, .goto 18, 3, 33, 0, 0)] := fq_of2 cd_197 ow_197 cl_197 rfl (pc := 0) (by decide +kernel)
    j_aldn (pc := 0) D rfl rfl rfl fun D =>
    j_gfc (pc := 1) (a := 303) D rfl rfl (by decide) rfl (s0_303 H) rfl (sf_269_303 H) fun D =>
    j_ivv (pc := 4) (m := 111) (dd := 159) (a := []) (rest := []) D rfl rfl rfl rfl rfl (by decide) (s0_377 H) (by decide +kernel) (fun h1 e1 D =>
      have T := fj_run_ok _ _ _ _ _ _ H.1 e1
      have H := shp_st H T
      j_aldn (pc := 7) D rfl rfl rfl fun D =>
      j_gfc (pc := 8) (a := 303) D rfl rfl (by decide) rfl (s0_303 H) rfl (sf_269_303 H) fun D =>
      j_iv (pc := 11) (m := 198) (dd := 162) (a := []) (rest := []) D rfl rfl rfl rfl rfl (by decide) (s0_377 H) (by decide +kernel) (fun v5 h4 e1 D =>
        have T := fj_run_ok _ _ _ _ _ _ H.1 e1
        have H := shp_st H T
        j_istn (pc := 14) (L' := [(1, (0, v5)), (0, (4, 303))]) D rfl nl_197 rfl rfl fun D =>
        j_goto (pc := 15) D rfl <|
        have D : fk_D 197 [(33, none, .aload_n 0, 1, 0, 0, 0), (34, none, .iconst 0, 1, 0, 0, 0), (35, none, .iconst (-1), 1, 0, (-1), 0), (36, none, .invokevirtual 793, 3, 2, 161, 0), (39, none, .aload_n 0, 1, 0, 0, 0), (40, none, .getfield 29, 3, 210, 100, 12), (43, none, .astore_n 2, 1, 0, 0, 0), (44, none, .aload_n 0, 1, 0, 0, 0), (45, none, .aload_n 0, 1, 0, 0, 0), (46, none, .getfield 644, 3, 211, 100, 12), (49, none, .putfield 29, 3, 210, 100, 12), (52, none, .aload_n 0, 1, 0, 0, 0), (53, none, .aload_n 2, 1, 0, 0, 0), (54, none, .putfield 644, 3, 211, 100, 12), (57, none, .aload_n 0, 1, 0, 0, 0), (58, none, .iload_n 1, 1, 0, 0, 0), (59, none, .putfield 26, 3, 212, 100, 10), (62, none, .iload_n 1, 1, 0, 0, 0), (63, none, .ireturn, 1, 0, 0, 0)] := fq_of2 cd_197 ow_197 cl_197 rfl (pc := 33) (by decide +kernel)
        j_aldn (pc := 33) D rfl rfl rfl fun D =>
        j_ic (pc := 34) D rfl fun D =>
        j_ic (pc := 35) D rfl fun D =>
        j_ivv (pc := 36) (m := 196) (dd := 161) (a := [(0, 0), (0, (-1))]) (rest := []) D rfl rfl rfl rfl rfl (by decide) (s0_303 H) (by decide +kernel) (fun h7 e1 D =>
          have T := fj_run_ok _ _ _ _ _ _ H.1 e1
          have H := shp_st H T
          j_aldn (pc := 39) D rfl rfl rfl fun D =>
          j_gf (pc := 40) (a := 303) D rfl rfl (by decide) rfl (s0_303 H) rfl fun D =>
          j_astn (pc := 43) (L' := [(2, (4, h7 210 303 0)), (1, (0, v5)), (0, (4, 303))]) D rfl nl_197 rfl rfl fun D =>
          j_aldn (pc := 44) D rfl rfl rfl fun D =>
          j_aldn (pc := 45) D rfl rfl rfl fun D =>
          j_gf (pc := 46) (a := 303) D rfl rfl (by decide) rfl (s0_303 H) rfl fun D =>
          j_pf (pc := 49) (a := 303) D rfl rfl rfl (s0_303 H) rfl rfl (gy (by decide)) (gy rfl) fun h10 eh10 S D =>
          have T := fj_hs_ok H.1 S
          have H := shp_st H T
          j_aldn (pc := 52) D rfl rfl rfl fun D =>
          j_aldn (pc := 53) D rfl rfl rfl fun D =>
          j_pf (pc := 54) (a := 303) D rfl rfl rfl (s0_303 H) rfl rfl (gy (by decide)) (gy rfl) fun h11 eh11 S D =>
          have T := fj_hs_ok H.1 S
          have H := shp_st H T
          j_aldn (pc := 57) D rfl rfl rfl fun D =>
          j_ildn (pc := 58) D rfl rfl rfl fun D =>
          j_pf (pc := 59) (a := 303) D rfl rfl rfl (s0_303 H) rfl rfl (gy (by decide)) (gy rfl) fun h12 eh12 S D =>
          have T := fj_hs_ok H.1 S
          have H := shp_st H T
          j_ildn (pc := 62) D rfl rfl rfl fun D =>
          j_iret D rt_197) (fun q9 h7 e1 =>
          j_tx (by decide +kernel))) (fun q6 h4 e1 =>
        j_tc_ (n := 128) (fk_at (cu := none) (by decide +kernel) rfl) (s := 7) (e := 15) (hp := 18) (ct := 8) (by decide +kernel) rfl (by decide +kernel) <|
        fk_jump cut_197_18 rfl rfl)) (fun q3 h1 e1 =>
      j_tx (by decide +kernel))
/-! 198 StatuteHouse$Reader.holidays()I -/
theorem cd_198 : fi_code 198 = prog_53_method_42_code := rfl
theorem hx_198 : ∀ pc, fi_hat 198 pc = none := fun pc => by unfold fi_hat; rw [show fi_hh 198 = [] from rfl]; rfl
theorem rt_198 : fi_ret 198 = some .int := rfl
theorem nl_198 : fi_nl 198 = 3 := rfl
theorem ow_198 : fi_ow 198 = 15 := rfl
theorem cl_198 : fj_cutT.getD 198 [] = [(2, [0, 1]), (32, [0, 1]), (70, [0, 1, 2]), (100, [0, 1, 2]), (151, [0, 1])] := rfl
theorem cut_198_2 : fj_cut 198 2 = some [0, 1] := by decide +kernel
noncomputable def c_198_2 (d : Nat) (x1 : Int) (h : fi_H) : fk_R := gG (fj_run d) 198 2 [(0, (4, 377)), (1, (0, x1))] [] h
theorem cut_198_32 : fj_cut 198 32 = some [0, 1] := by decide +kernel
noncomputable def c_198_32 (d : Nat) (x1 s0 : Int) (h : fi_H) : fk_R := gG (fj_run d) 198 32 [(0, (4, 377)), (1, (0, x1))] [(0, s0)] h
theorem cut_198_70 : fj_cut 198 70 = some [0, 1, 2] := by decide +kernel
noncomputable def c_198_70 (d : Nat) (x1 x2 : Int) (h : fi_H) : fk_R := gG (fj_run d) 198 70 [(0, (4, 377)), (1, (0, x1)), (2, (0, x2))] [] h
theorem cut_198_100 : fj_cut 198 100 = some [0, 1, 2] := by decide +kernel
noncomputable def c_198_100 (d : Nat) (x1 x2 : Int) (h : fi_H) : fk_R := gG (fj_run d) 198 100 [(0, (4, 377)), (1, (0, x1)), (2, (0, x2))] [] h
theorem cut_198_151 : fj_cut 198 151 = some [0, 1] := by decide +kernel
noncomputable def c_198_151 (d : Nat) (x1 s0 s1 s2 : Int) (h : fi_H) : fk_R := gG (fj_run d) 198 151 [(0, (4, 377)), (1, (0, x1))] [(4, s2), (0, s1), (4, s0)] h
theorem e_198_2 (d : Nat) (x1 : Int) {h : fi_H} (H : Shp h) : c_198_2 d x1 h =
  if 0 ≤ h 158 377 0 ∧ h 158 377 0 < 1202 then
  if h 8 378 (h 158 377 0).toNat = 0 then
    some (.inl (some (0, x1)), h)
  else
    if h 8 378 (h 158 377 0).toNat = 3 then
      c_198_32 d x1 1 h
    else
      c_198_32 d x1 0 h
  else none := by
  unfold c_198_2
  exact
    have D : fk_D 198 [(2, some [0, 1], .aload_n 0, 1, 0, 0, 0), (3, none, .getfield 15, 3, 149, 115, 12), (6, none, .aload_n 0, 1, 0, 0, 0), (7, none, .getfield 104, 3, 158, 115, 10), (10, none, .baload, 1, 0, 0, 0), (11, none, .ifCond .eq 153, 3, 164, 0, 0), (14, none, .aload_n 0, 1, 0, 0, 0), (15, none, .getfield 15, 3, 149, 115, 12), (18, none, .aload_n 0, 1, 0, 0, 0), (19, none, .getfield 104, 3, 158, 115, 10), (22, none, .baload, 1, 0, 0, 0), (23, none, .iconst 3, 1, 0, 3, 0), (24, none, .if_icmp .ne 7, 3, 31, 0, 0), (27, none, .iconst 1, 1, 0, 1, 0), (28, none, .goto 4, 3, 32, 0, 0)] := fq_of2 cd_198 ow_198 cl_198 rfl (pc := 2) (by decide +kernel)
    j_aldn (pc := 2) D rfl rfl rfl fun D =>
    j_gfc (pc := 3) (a := 377) D rfl rfl (by decide) rfl (s0_377 H) rfl (sf_149_377 H) fun D =>
    j_aldn (pc := 6) D rfl rfl rfl fun D =>
    j_gf (pc := 7) (a := 377) D rfl rfl (by decide) rfl (s0_377 H) rfl fun D =>
    j_al (pc := 10) (a := 378) (e := 8) D rfl rfl rfl (by decide) (s0_378 H) (s1_378 H) ⟨rfl, rfl, rfl⟩ rfl gn fun qb1 D =>
    j_ifeq (pc := 11) D rfl (fun q =>
      have D : fk_D 198 [(164, none, .iload_n 1, 1, 0, 0, 0), (165, none, .ireturn, 1, 0, 0, 0)] := fq_of2 cd_198 ow_198 cl_198 rfl (pc := 164) (by decide +kernel)
      j_ildn (pc := 164) D rfl rfl rfl fun D =>
      j_iret D rt_198) (fun q D =>
      j_aldn (pc := 14) D rfl rfl rfl fun D =>
      j_gfc (pc := 15) (a := 377) D rfl rfl (by decide) rfl (s0_377 H) rfl (sf_149_377 H) fun D =>
      j_aldn (pc := 18) D rfl rfl rfl fun D =>
      j_gf (pc := 19) (a := 377) D rfl rfl (by decide) rfl (s0_377 H) rfl fun D =>
      j_al (pc := 22) (a := 378) (e := 8) D rfl rfl rfl (by decide) (s0_378 H) (s1_378 H) ⟨rfl, rfl, rfl⟩ rfl (gy qb1) fun q D =>
      j_ic (pc := 23) D rfl fun D =>
      j_ine (pc := 24) D rfl (fun q D =>
        j_ic (pc := 27) D rfl fun D =>
        j_goto (pc := 28) D rfl <|
        fk_jump cut_198_32 rfl rfl) (fun q =>
        have D : fk_D 198 [(31, none, .iconst 0, 1, 0, 0, 0)] := fq_of2 cd_198 ow_198 cl_198 rfl (pc := 31) (by decide +kernel)
        j_ic (pc := 31) D rfl fun D =>
        fk_jump cut_198_32 rfl rfl))
theorem e_198_32 (d : Nat) (x1 s0 : Int) {h : fi_H} (H : Shp h) : c_198_32 d x1 s0 h =
  if s0 = 0 then
    ca_ (fj_run d 162 h [(4, 377), (4, 177)]) 0
      (fun v2 h1 =>
      if v2 = 0 then
        ca_ (fj_run d 162 h1 [(4, 377), (4, 101)]) 0
          (fun v5 h4 =>
          if v5 = 0 then
            ca_ (fj_run d 162 h4 [(4, 377), (4, 103)]) 0
              (fun v8 h7 =>
              if v8 = 0 then
                ca_ (fj_run d 164 h7 [(4, 377), (0, 1)]) 4
                  (fun v11 h10 =>
                  if v11 ≠ 0 then
                  tx_ v11.toNat h10
                  else none)
                  (fun q12 h10 => tx_ q12 h10)
              else
                c_198_70 d x1 s0 h7)
              (fun q9 h7 => tx_ q9 h7)
          else
            c_198_70 d x1 s0 h4)
          (fun q6 h4 => tx_ q6 h4)
      else
        c_198_70 d x1 s0 h1)
      (fun q3 h1 => tx_ q3 h1)
  else
    c_198_70 d x1 s0 h := by
  unfold c_198_32
  exact
    have D : fk_D 198 [(32, some [0, 1], .istore_n 2, 1, 0, 0, 0), (33, none, .iload_n 2, 1, 0, 0, 0), (34, none, .ifCond .ne 36, 3, 70, 0, 0), (37, none, .aload_n 0, 1, 0, 0, 0), (38, none, .ldc 228, 2, 4, 177, 0), (40, none, .invokevirtual 209, 3, 1, 262, 1), (43, none, .ifCond .ne 27, 3, 70, 0, 0), (46, none, .aload_n 0, 1, 0, 0, 0), (47, none, .ldc 230, 2, 4, 101, 0), (49, none, .invokevirtual 209, 3, 1, 262, 1), (52, none, .ifCond .ne 18, 3, 70, 0, 0), (55, none, .aload_n 0, 1, 0, 0, 0), (56, none, .ldc 232, 2, 4, 103, 0), (58, none, .invokevirtual 209, 3, 1, 262, 1), (61, none, .ifCond .ne 9, 3, 70, 0, 0), (64, none, .aload_n 0, 1, 0, 0, 0), (65, none, .iconst 1, 1, 0, 1, 0), (66, none, .invokevirtual 190, 3, 1, 258, 5), (69, none, .athrow, 1, 0, 0, 0)] := fq_of2 cd_198 ow_198 cl_198 rfl (pc := 32) (by decide +kernel)
    j_istn (pc := 32) (L' := [(2, (0, s0)), (0, (4, 377)), (1, (0, x1))]) D rfl nl_198 rfl rfl fun D =>
    j_ildn (pc := 33) D rfl rfl rfl fun D =>
    j_ifne (pc := 34) D rfl (fun q D =>
      j_aldn (pc := 37) D rfl rfl rfl fun D =>
      j_ldc (pc := 38) D rfl fun D =>
      j_iv (pc := 40) (m := 162) (dd := 262) (a := [(4, 177)]) (rest := []) D rfl rfl rfl rfl rfl (by decide) (s0_377 H) (by decide +kernel) (fun v2 h1 e1 D =>
        have T := fj_run_ok _ _ _ _ _ _ H.1 e1
        have H := shp_st H T
        j_ifne (pc := 43) D rfl (fun q D =>
          j_aldn (pc := 46) D rfl rfl rfl fun D =>
          j_ldc (pc := 47) D rfl fun D =>
          j_iv (pc := 49) (m := 162) (dd := 262) (a := [(4, 101)]) (rest := []) D rfl rfl rfl rfl rfl (by decide) (s0_377 H) (by decide +kernel) (fun v5 h4 e1 D =>
            have T := fj_run_ok _ _ _ _ _ _ H.1 e1
            have H := shp_st H T
            j_ifne (pc := 52) D rfl (fun q D =>
              j_aldn (pc := 55) D rfl rfl rfl fun D =>
              j_ldc (pc := 56) D rfl fun D =>
              j_iv (pc := 58) (m := 162) (dd := 262) (a := [(4, 103)]) (rest := []) D rfl rfl rfl rfl rfl (by decide) (s0_377 H) (by decide +kernel) (fun v8 h7 e1 D =>
                have T := fj_run_ok _ _ _ _ _ _ H.1 e1
                have H := shp_st H T
                j_ifne (pc := 61) D rfl (fun q D =>
                  j_aldn (pc := 64) D rfl rfl rfl fun D =>
                  j_ic (pc := 65) D rfl fun D =>
                  j_iv (pc := 66) (m := 164) (dd := 258) (a := [(0, 1)]) (rest := []) D rfl rfl rfl rfl rfl (by decide) (s0_377 H) (by decide +kernel) (fun v11 h10 e1 D =>
                    have T := fj_run_ok _ _ _ _ _ _ H.1 e1
                    have H := shp_st H T
                    j_at (pc := 69) D gn <|
                    j_tx (hx_198 _)) (fun q12 h10 e1 =>
                    j_tx (hx_198 _))) (fun q =>
                  fk_jump cut_198_70 rfl rfl)) (fun q9 h7 e1 =>
                j_tx (hx_198 _))) (fun q =>
              fk_jump cut_198_70 rfl rfl)) (fun q6 h4 e1 =>
            j_tx (hx_198 _))) (fun q =>
          fk_jump cut_198_70 rfl rfl)) (fun q3 h1 e1 =>
        j_tx (hx_198 _))) (fun q =>
      fk_jump cut_198_70 rfl rfl)
theorem e_198_70 (d : Nat) (x1 x2 : Int) {h : fi_H} (H : Shp h) : c_198_70 d x1 x2 h =
  if x2 = 0 then
    c_198_100 d x1 x2 h
  else
    if 0 ≤ h 158 377 0 ∧ h 158 377 0 < 1202 then
    ca_ (fj_run d 3 h [(1, wI (h 10 380 (h 158 377 0).toNat)), (1, 1), (1, 31)]) 0
      (fun v3 h2 =>
      if v3 = 0 then
        ca_ (fj_run d 164 h2 [(4, 377), (0, 3)]) 4
          (fun v6 h5 =>
          if v6 ≠ 0 then
          tx_ v6.toNat h5
          else none)
          (fun q7 h5 => tx_ q7 h5)
      else
        c_198_100 d x1 x2 h2)
      (fun q4 h2 => tx_ q4 h2)
    else none := by
  unfold c_198_70
  exact
    have D : fk_D 198 [(70, some [0, 1, 2], .iload_n 2, 1, 0, 0, 0), (71, none, .ifCond .eq 29, 3, 100, 0, 0), (74, none, .aload_n 0, 1, 0, 0, 0), (75, none, .getfield 23, 3, 151, 115, 12), (78, none, .aload_n 0, 1, 0, 0, 0), (79, none, .getfield 104, 3, 158, 115, 10), (82, none, .iaload, 1, 0, 0, 0), (83, none, .i2l, 1, 0, 0, 0), (84, none, .lconst 1, 1, 0, 0, 0), (85, none, .ldc2_w 547, 3, 1, 31, 0), (88, none, .invokestatic 385, 3, 3, 3, 1), (91, none, .ifCond .ne 9, 3, 100, 0, 0), (94, none, .aload_n 0, 1, 0, 0, 0), (95, none, .iconst 3, 1, 0, 3, 0), (96, none, .invokevirtual 190, 3, 1, 258, 5), (99, none, .athrow, 1, 0, 0, 0)] := fq_of2 cd_198 ow_198 cl_198 rfl (pc := 70) (by decide +kernel)
    j_ildn (pc := 70) D rfl rfl rfl fun D =>
    j_ifeq (pc := 71) D rfl (fun q =>
      fk_jump cut_198_100 rfl rfl) (fun q D =>
      j_aldn (pc := 74) D rfl rfl rfl fun D =>
      j_gfc (pc := 75) (a := 377) D rfl rfl (by decide) rfl (s0_377 H) rfl (sf_151_377 H) fun D =>
      j_aldn (pc := 78) D rfl rfl rfl fun D =>
      j_gf (pc := 79) (a := 377) D rfl rfl (by decide) rfl (s0_377 H) rfl fun D =>
      j_al (pc := 82) (a := 380) (e := 10) D rfl rfl rfl (by decide) (s0_380 H) (s1_380 H) ⟨rfl, rfl, rfl⟩ rfl gn fun qb1 D =>
      j_i2l (pc := 83) D rfl fun D =>
      j_c0 (pc := 84) (v := (1, 1)) D rfl rfl (by decide +kernel) fun D =>
      j_ldc2 (pc := 85) D rfl fun D =>
      j_is (pc := 88) (m := 3) (a := [(1, wI (h 10 380 (h 158 377 0).toNat)), (1, 1), (1, 31)]) (rest := []) D rfl rfl rfl rfl (fun v3 h2 e1 D =>
        have T := fj_run_ok _ _ _ _ _ _ H.1 e1
        have H := shp_st H T
        j_ifne (pc := 91) D rfl (fun q D =>
          j_aldn (pc := 94) D rfl rfl rfl fun D =>
          j_ic (pc := 95) D rfl fun D =>
          j_iv (pc := 96) (m := 164) (dd := 258) (a := [(0, 3)]) (rest := []) D rfl rfl rfl rfl rfl (by decide) (s0_377 H) (by decide +kernel) (fun v6 h5 e1 D =>
            have T := fj_run_ok _ _ _ _ _ _ H.1 e1
            have H := shp_st H T
            j_at (pc := 99) D gn <|
            j_tx (hx_198 _)) (fun q7 h5 e1 =>
            j_tx (hx_198 _))) (fun q =>
          fk_jump cut_198_100 rfl rfl)) (fun q4 h2 e1 =>
        j_tx (hx_198 _)))
theorem e_198_100 (d : Nat) (x1 x2 : Int) {h : fi_H} (H : Shp h) : c_198_100 d x1 x2 h =
  if x1 = 20 then
    ca_ (fj_run d 164 h [(4, 377), (0, 4)]) 4
      (fun v2 h1 =>
      if v2 ≠ 0 then
      tx_ v2.toNat h1
      else none)
      (fun q3 h1 => tx_ q3 h1)
  else
    if x2 = 0 then
      ca_ (fj_run d 162 h [(4, 377), (4, 177)]) 0
        (fun v5 h4 =>
        if v5 = 0 then
          ca_ (fj_run d 203 h4 [(4, 377)]) 4
            (fun v8 h7 =>
            c_198_151 d x1 (h 211 303 0) x1 v8 h7)
            (fun q9 h7 => tx_ q9 h7)
        else
          ca_ (fj_run d 201 h4 [(4, 377)]) 4
            (fun v11 h10 =>
            c_198_151 d x1 (h 211 303 0) x1 v11 h10)
            (fun q12 h10 => tx_ q12 h10))
        (fun q6 h4 => tx_ q6 h4)
    else
      ca_ (fj_run d 199 h [(4, 377)]) 4
        (fun v14 h13 =>
        c_198_151 d x1 (h 211 303 0) x1 v14 h13)
        (fun q15 h13 => tx_ q15 h13) := by
  unfold c_198_100
  exact
    have D : fk_D 198 [(100, some [0, 1, 2], .iload_n 1, 1, 0, 0, 0), (101, none, .bipush 20, 2, 0, 20, 0), (103, none, .if_icmp .ne 9, 3, 112, 0, 0), (106, none, .aload_n 0, 1, 0, 0, 0), (107, none, .iconst 4, 1, 0, 4, 0), (108, none, .invokevirtual 190, 3, 1, 258, 5), (111, none, .athrow, 1, 0, 0, 0)] := fq_of2 cd_198 ow_198 cl_198 rfl (pc := 100) (by decide +kernel)
    j_ildn (pc := 100) D rfl rfl rfl fun D =>
    j_bp (pc := 101) D rfl fun D =>
    j_ine (pc := 103) D rfl (fun q D =>
      j_aldn (pc := 106) D rfl rfl rfl fun D =>
      j_ic (pc := 107) D rfl fun D =>
      j_iv (pc := 108) (m := 164) (dd := 258) (a := [(0, 4)]) (rest := []) D rfl rfl rfl rfl rfl (by decide) (s0_377 H) (by decide +kernel) (fun v2 h1 e1 D =>
        have T := fj_run_ok _ _ _ _ _ _ H.1 e1
        have H := shp_st H T
        j_at (pc := 111) D gn <|
        j_tx (hx_198 _)) (fun q3 h1 e1 =>
        j_tx (hx_198 _))) (fun q =>
      have D : fk_D 198 [(112, none, .aload_n 0, 1, 0, 0, 0), (113, none, .getfield 3, 3, 182, 115, 12), (116, none, .getfield 549, 3, 211, 100, 12), (119, none, .iload_n 1, 1, 0, 0, 0), (120, none, .iload_n 2, 1, 0, 0, 0), (121, none, .ifCond .eq 10, 3, 131, 0, 0), (124, none, .aload_n 0, 1, 0, 0, 0), (125, none, .invokevirtual 552, 3, 0, 283, 5), (128, none, .goto 23, 3, 151, 0, 0)] := fq_of2 cd_198 ow_198 cl_198 rfl (pc := 112) (by decide +kernel)
      j_aldn (pc := 112) D rfl rfl rfl fun D =>
      j_gfc (pc := 113) (a := 377) D rfl rfl (by decide) rfl (s0_377 H) rfl (sf_182_377 H) fun D =>
      j_gf (pc := 116) (a := 303) D rfl rfl (by decide) rfl (s0_303 H) rfl fun D =>
      j_ildn (pc := 119) D rfl rfl rfl fun D =>
      j_ildn (pc := 120) D rfl rfl rfl fun D =>
      j_ifeq (pc := 121) D rfl (fun q =>
        have D : fk_D 198 [(131, none, .aload_n 0, 1, 0, 0, 0), (132, none, .ldc 228, 2, 4, 177, 0), (134, none, .invokevirtual 209, 3, 1, 262, 1), (137, none, .ifCond .eq 10, 3, 147, 0, 0), (140, none, .aload_n 0, 1, 0, 0, 0), (141, none, .invokevirtual 556, 3, 0, 284, 5), (144, none, .goto 7, 3, 151, 0, 0)] := fq_of2 cd_198 ow_198 cl_198 rfl (pc := 131) (by decide +kernel)
        j_aldn (pc := 131) D rfl rfl rfl fun D =>
        j_ldc (pc := 132) D rfl fun D =>
        j_iv (pc := 134) (m := 162) (dd := 262) (a := [(4, 177)]) (rest := [(0, x1), (4, h 211 303 0)]) D rfl rfl rfl rfl rfl (by decide) (s0_377 H) (by decide +kernel) (fun v5 h4 e1 D =>
          have T := fj_run_ok _ _ _ _ _ _ H.1 e1
          have H := shp_st H T
          j_ifeq (pc := 137) D rfl (fun q =>
            have D : fk_D 198 [(147, none, .aload_n 0, 1, 0, 0, 0), (148, none, .invokevirtual 559, 3, 0, 285, 5)] := fq_of2 cd_198 ow_198 cl_198 rfl (pc := 147) (by decide +kernel)
            j_aldn (pc := 147) D rfl rfl rfl fun D =>
            j_iv (pc := 148) (m := 203) (dd := 285) (a := []) (rest := [(0, x1), (4, h 211 303 0)]) D rfl rfl rfl rfl rfl (by decide) (s0_377 H) (by decide +kernel) (fun v8 h7 e1 D =>
              have T := fj_run_ok _ _ _ _ _ _ H.1 e1
              have H := shp_st H T
              fk_jump cut_198_151 rfl rfl) (fun q9 h7 e1 =>
              j_tx (hx_198 _))) (fun q D =>
            j_aldn (pc := 140) D rfl rfl rfl fun D =>
            j_iv (pc := 141) (m := 201) (dd := 284) (a := []) (rest := [(0, x1), (4, h 211 303 0)]) D rfl rfl rfl rfl rfl (by decide) (s0_377 H) (by decide +kernel) (fun v11 h10 e1 D =>
              have T := fj_run_ok _ _ _ _ _ _ H.1 e1
              have H := shp_st H T
              j_goto (pc := 144) D rfl <|
              fk_jump cut_198_151 rfl rfl) (fun q12 h10 e1 =>
              j_tx (hx_198 _)))) (fun q6 h4 e1 =>
          j_tx (hx_198 _))) (fun q D =>
        j_aldn (pc := 124) D rfl rfl rfl fun D =>
        j_iv (pc := 125) (m := 199) (dd := 283) (a := []) (rest := [(0, x1), (4, h 211 303 0)]) D rfl rfl rfl rfl rfl (by decide) (s0_377 H) (by decide +kernel) (fun v14 h13 e1 D =>
          have T := fj_run_ok _ _ _ _ _ _ H.1 e1
          have H := shp_st H T
          j_goto (pc := 128) D rfl <|
          fk_jump cut_198_151 rfl rfl) (fun q15 h13 e1 =>
          j_tx (hx_198 _))))
theorem e_198_151 (d : Nat) (x1 s0 s1 s2 : Int) {h : fi_H} (H : Shp h) : c_198_151 d x1 s0 s1 s2 h =
  if 302 < s0 ∧ (20 ≤ h 0 s0.toNat 0 ∧ h 0 s0.toNat 0 < 30) then
  if 0 ≤ s1 ∧ s1 < h 1 s0.toNat 0 then
  if h 0 s0.toNat 0 ≠ 28 ∧ (s2 = 0 ∨ (fi_sup (h 0 s2.toNat 0)).contains (fi_comp (h 0 s0.toNat 0)) = true) then
  lt_ (fi_upd h 12 s0.toNat s1.toNat s2) fun h1 =>
  cv_ (fj_run d 182 h1 [(4, 377), (0, 59)])
    (fun h2 =>
    c_198_2 d (wI (x1 + 1)) h2)
    (fun q4 h2 => tx_ q4 h2)
  else none
  else none
  else none := by
  unfold c_198_151
  exact
    have D : fk_D 198 [(151, some [0, 1], .aastore, 1, 0, 0, 0), (152, none, .iinc 1 1, 3, 0, 1, 0), (155, none, .aload_n 0, 1, 0, 0, 0), (156, none, .bipush 59, 2, 0, 59, 0), (158, none, .invokevirtual 216, 3, 1, 264, 0), (161, none, .goto (-159), 3, 2, 0, 0)] := fq_of2 cd_198 ow_198 cl_198 rfl (pc := 151) (by decide +kernel)
    j_asur (pc := 151) D rfl rfl gn gn gn fun h1 eh1 S q q2 D =>
    have T := fj_hs_ok H.1 S
    have H := shp_st H T
    j_inc (pc := 152) (L' := [(1, (0, wI (x1 + 1))), (0, (4, 377))]) D rfl rfl rfl (by decide +kernel) rfl fun D =>
    j_aldn (pc := 155) D rfl rfl rfl fun D =>
    j_bp (pc := 156) D rfl fun D =>
    j_ivv (pc := 158) (m := 182) (dd := 264) (a := [(0, 59)]) (rest := []) D rfl rfl rfl rfl rfl (by decide) (s0_377 H) (by decide +kernel) (fun h2 e1 D =>
      have T := fj_run_ok _ _ _ _ _ _ H.1 e1
      have H := shp_st H T
      j_goto (pc := 161) D rfl <|
      fk_jump cut_198_2 rfl rfl) (fun q4 h2 e1 =>
      j_tx (hx_198 _))
theorem m_198 (d : Nat) {h : fi_H} (H : Shp h) : fj_run (d + 1) 198 h [(4, 377)] =
  c_198_2 d 0 h := by
  rw [fj_run_eq d (by decide) h [(4, 377)] (Nat.le_of_ble_eq_true (by rw [nl_198]; rfl))]
  show gG (fj_run d) 198 0 [(0, (4, 377))] [] h = _
  exact
    have D : fk_D 198 [(0, none, .iconst 0, 1, 0, 0, 0), (1, none, .istore_n 1, 1, 0, 0, 0)] := fq_of2 cd_198 ow_198 cl_198 rfl (pc := 0) (by decide +kernel)
    j_ic (pc := 0) D rfl fun D =>
    j_istn (pc := 1) (L' := [(1, (0, 0)), (0, (4, 377))]) D rfl nl_198 rfl rfl fun D =>
    fk_jump cut_198_2 rfl rfl
/-! 199 StatuteHouse$Reader.fixed()LStatuteHouse$Holiday; -/
theorem cd_199 : fi_code 199 = prog_53_method_43_code := rfl
theorem hx_199 : ∀ pc, fi_hat 199 pc = none := fun pc => by unfold fi_hat; rw [show fi_hh 199 = [] from rfl]; rfl
theorem rt_199 : fj_ft (fi_ret 199) = 5 := rfl
theorem nl_199 : fi_nl 199 = 2 := rfl
theorem ow_199 : fi_ow 199 = 15 := rfl
theorem cl_199 : fj_cutT.getD 199 [] = [(66, [0, 1])] := rfl
theorem cut_199_66 : fj_cut 199 66 = some [0, 1] := by decide +kernel
noncomputable def c_199_66 (d : Nat) (x1 : Int) (h : fi_H) : fk_R := gG (fj_run d) 199 66 [(0, (4, 377)), (1, (0, x1))] [] h
theorem e_199_66 (d : Nat) (x1 : Int) {h : fi_H} (H : Shp h) : c_199_66 d x1 h =
  nw_ h 108 2 0 fun r1 h2 =>
  ca_ (fj_run d 188 h2 [(4, 377), (0, 1), (0, 12)]) 0
    (fun v4 h3 =>
    cv_ (fj_run d 200 h3 [(4, r1), (0, x1), (0, v4)])
      (fun h6 =>
      some (.inl (some (4, r1)), h6))
      (fun q8 h6 => tx_ q8 h6))
    (fun q5 h3 => tx_ q5 h3) := by
  unfold c_199_66
  exact
    have D : fk_D 199 [(66, some [0, 1], .new 565, 3, 108, 2, 0), (69, none, .dup, 1, 0, 0, 0), (70, none, .iload_n 1, 1, 0, 0, 0), (71, none, .aload_n 0, 1, 0, 0, 0), (72, none, .iconst 1, 1, 0, 1, 0), (73, none, .bipush 12, 2, 0, 12, 0), (75, none, .invokevirtual 508, 3, 2, 277, 1), (78, none, .invokespecial 567, 3, 2, 200, 0), (81, none, .areturn, 1, 0, 0, 0)] := fq_of2 cd_199 ow_199 cl_199 rfl (pc := 66) (by decide +kernel)
    j_new (pc := 66) D rfl fun r1 h2 er eh2 S D =>
    have gt_r1 := nw_gt H.1 er
    have kc_r1 := nw_cls H.1 er eh2
    have T := fj_hs_ok H.1 S
    have H := shp_st H T
    j_sh (pc := 69) D rfl rfl rfl fun D =>
    j_ildn (pc := 70) D rfl rfl rfl fun D =>
    j_aldn (pc := 71) D rfl rfl rfl fun D =>
    j_ic (pc := 72) D rfl fun D =>
    j_bp (pc := 73) D rfl fun D =>
    j_iv (pc := 75) (m := 188) (dd := 277) (a := [(0, 1), (0, 12)]) (rest := [(0, x1), (4, r1), (4, r1)]) D rfl rfl rfl rfl rfl (by decide) (s0_377 H) (by decide +kernel) (fun v4 h3 e1 D =>
      have T := fj_run_ok _ _ _ _ _ _ H.1 e1
      have kc_r1 := cls_st H.1 T.2 kc_r1 (by decide)
      have H := shp_st H T
      j_spv (pc := 78) (m := 200) (a := [(0, x1), (0, v4)]) (rest := [(4, r1)]) D rfl rfl rfl rfl (by rw [show h3 0 r1.toNat 0 = 108 from kc_r1]; decide) (gt_nz gt_r1) (fun h6 e1 D =>
        have T := fj_run_ok _ _ _ _ _ _ H.1 e1
        have kc_r1 := cls_st H.1 T.2 kc_r1 (by decide)
        have H := shp_st H T
        j_aret D rt_199) (fun q8 h6 e1 =>
        j_tx (hx_199 _))) (fun q5 h3 e1 =>
      j_tx (hx_199 _))
theorem m_199 (d : Nat) {h : fi_H} (H : Shp h) : fj_run (d + 1) 199 h [(4, 377)] =
  ca_ (fj_run d 188 h [(4, 377), (0, 1), (0, 31)]) 0
    (fun v2 h1 =>
    if 0 ≤ h1 158 377 0 ∧ h1 158 377 0 < 1202 then
    if h1 8 378 (h1 158 377 0).toNat = 3 then
      ca_ (fj_run d 3 h1 [(1, wI (h1 10 380 (h1 158 377 0).toNat)), (1, 1), (1, 12)]) 0
        (fun v6 h5 =>
        if v6 = 0 then
          c_199_66 d v2 h5
        else
          if 0 ≤ h5 158 377 0 ∧ h5 158 377 0 < 1202 then
          ca_ (fj_run d 157 h5 [(0, 2000), (0, h5 10 380 (h5 158 377 0).toNat)]) 0
            (fun v10 h9 =>
            if v10 < v2 then
              ca_ (fj_run d 164 h9 [(4, 377), (0, 3)]) 4
                (fun v13 h12 =>
                if v13 ≠ 0 then
                tx_ v13.toNat h12
                else none)
                (fun q14 h12 => tx_ q14 h12)
            else
              c_199_66 d v2 h9)
            (fun q11 h9 => tx_ q11 h9)
          else none)
        (fun q7 h5 => tx_ q7 h5)
    else
      c_199_66 d v2 h1
    else none)
    (fun q3 h1 => tx_ q3 h1) := by
  rw [fj_run_eq d (by decide) h [(4, 377)] (Nat.le_of_ble_eq_true (by rw [nl_199]; rfl))]
  show gG (fj_run d) 199 0 [(0, (4, 377))] [] h = _
  exact
    have D : fk_D 199 [(0, none, .aload_n 0, 1, 0, 0, 0), (1, none, .iconst 1, 1, 0, 1, 0), (2, none, .bipush 31, 2, 0, 31, 0), (4, none, .invokevirtual 508, 3, 2, 277, 1), (7, none, .istore_n 1, 1, 0, 0, 0), (8, none, .aload_n 0, 1, 0, 0, 0), (9, none, .getfield 15, 3, 149, 115, 12), (12, none, .aload_n 0, 1, 0, 0, 0), (13, none, .getfield 104, 3, 158, 115, 10), (16, none, .baload, 1, 0, 0, 0), (17, none, .iconst 3, 1, 0, 3, 0), (18, none, .if_icmp .ne 48, 3, 66, 0, 0), (21, none, .aload_n 0, 1, 0, 0, 0), (22, none, .getfield 23, 3, 151, 115, 12), (25, none, .aload_n 0, 1, 0, 0, 0), (26, none, .getfield 104, 3, 158, 115, 10), (29, none, .iaload, 1, 0, 0, 0), (30, none, .i2l, 1, 0, 0, 0), (31, none, .lconst 1, 1, 0, 0, 0), (32, none, .ldc2_w 426, 3, 1, 12, 0)] := fq_of2 cd_199 ow_199 cl_199 rfl (pc := 0) (by decide +kernel)
    j_aldn (pc := 0) D rfl rfl rfl fun D =>
    j_ic (pc := 1) D rfl fun D =>
    j_bp (pc := 2) D rfl fun D =>
    j_iv (pc := 4) (m := 188) (dd := 277) (a := [(0, 1), (0, 31)]) (rest := []) D rfl rfl rfl rfl rfl (by decide) (s0_377 H) (by decide +kernel) (fun v2 h1 e1 D =>
      have T := fj_run_ok _ _ _ _ _ _ H.1 e1
      have H := shp_st H T
      j_istn (pc := 7) (L' := [(1, (0, v2)), (0, (4, 377))]) D rfl nl_199 rfl rfl fun D =>
      j_aldn (pc := 8) D rfl rfl rfl fun D =>
      j_gfc (pc := 9) (a := 377) D rfl rfl (by decide) rfl (s0_377 H) rfl (sf_149_377 H) fun D =>
      j_aldn (pc := 12) D rfl rfl rfl fun D =>
      j_gf (pc := 13) (a := 377) D rfl rfl (by decide) rfl (s0_377 H) rfl fun D =>
      j_al (pc := 16) (a := 378) (e := 8) D rfl rfl rfl (by decide) (s0_378 H) (s1_378 H) ⟨rfl, rfl, rfl⟩ rfl gn fun qb4 D =>
      j_ic (pc := 17) D rfl fun D =>
      j_ine (pc := 18) D rfl (fun q D =>
        j_aldn (pc := 21) D rfl rfl rfl fun D =>
        j_gfc (pc := 22) (a := 377) D rfl rfl (by decide) rfl (s0_377 H) rfl (sf_151_377 H) fun D =>
        j_aldn (pc := 25) D rfl rfl rfl fun D =>
        j_gf (pc := 26) (a := 377) D rfl rfl (by decide) rfl (s0_377 H) rfl fun D =>
        j_al (pc := 29) (a := 380) (e := 10) D rfl rfl rfl (by decide) (s0_380 H) (s1_380 H) ⟨rfl, rfl, rfl⟩ rfl (gy qb4) fun q D =>
        j_i2l (pc := 30) D rfl fun D =>
        j_c0 (pc := 31) (v := (1, 1)) D rfl rfl (by decide +kernel) fun D =>
        j_ldc2 (pc := 32) D rfl fun D =>
        have D : fk_D 199 [(35, none, .invokestatic 385, 3, 3, 3, 1), (38, none, .ifCond .eq 28, 3, 66, 0, 0), (41, none, .iload_n 1, 1, 0, 0, 0), (42, none, .sipush 2000, 3, 0, 2000, 0), (45, none, .aload_n 0, 1, 0, 0, 0), (46, none, .getfield 23, 3, 151, 115, 12), (49, none, .aload_n 0, 1, 0, 0, 0), (50, none, .getfield 104, 3, 158, 115, 10), (53, none, .iaload, 1, 0, 0, 0), (54, none, .invokestatic 562, 3, 2, 157, 1), (57, none, .if_icmp .le 9, 3, 66, 0, 0), (60, none, .aload_n 0, 1, 0, 0, 0), (61, none, .iconst 3, 1, 0, 3, 0), (62, none, .invokevirtual 190, 3, 1, 258, 5), (65, none, .athrow, 1, 0, 0, 0)] := fq_of2 cd_199 ow_199 cl_199 rfl (pc := 35) (by decide +kernel)
        j_is (pc := 35) (m := 3) (a := [(1, wI (h1 10 380 (h1 158 377 0).toNat)), (1, 1), (1, 12)]) (rest := []) D rfl rfl rfl rfl (fun v6 h5 e1 D =>
          have T := fj_run_ok _ _ _ _ _ _ H.1 e1
          have H := shp_st H T
          j_ifeq (pc := 38) D rfl (fun q =>
            fk_jump cut_199_66 rfl rfl) (fun q D =>
            j_ildn (pc := 41) D rfl rfl rfl fun D =>
            j_sp (pc := 42) D rfl fun D =>
            j_aldn (pc := 45) D rfl rfl rfl fun D =>
            j_gfc (pc := 46) (a := 377) D rfl rfl (by decide) rfl (s0_377 H) rfl (sf_151_377 H) fun D =>
            j_aldn (pc := 49) D rfl rfl rfl fun D =>
            j_gf (pc := 50) (a := 377) D rfl rfl (by decide) rfl (s0_377 H) rfl fun D =>
            j_al (pc := 53) (a := 380) (e := 10) D rfl rfl rfl (by decide) (s0_380 H) (s1_380 H) ⟨rfl, rfl, rfl⟩ rfl gn fun qb8 D =>
            j_is (pc := 54) (m := 157) (a := [(0, 2000), (0, h5 10 380 (h5 158 377 0).toNat)]) (rest := [(0, v2)]) D rfl rfl rfl rfl (fun v10 h9 e1 D =>
              have T := fj_run_ok _ _ _ _ _ _ H.1 e1
              have H := shp_st H T
              j_ile (pc := 57) D rfl (fun q D =>
                j_aldn (pc := 60) D rfl rfl rfl fun D =>
                j_ic (pc := 61) D rfl fun D =>
                j_iv (pc := 62) (m := 164) (dd := 258) (a := [(0, 3)]) (rest := []) D rfl rfl rfl rfl rfl (by decide) (s0_377 H) (by decide +kernel) (fun v13 h12 e1 D =>
                  have T := fj_run_ok _ _ _ _ _ _ H.1 e1
                  have H := shp_st H T
                  j_at (pc := 65) D gn <|
                  j_tx (hx_199 _)) (fun q14 h12 e1 =>
                  j_tx (hx_199 _))) (fun q =>
                fk_jump cut_199_66 rfl rfl)) (fun q11 h9 e1 =>
              j_tx (hx_199 _)))) (fun q7 h5 e1 =>
          j_tx (hx_199 _))) (fun q =>
        fk_jump cut_199_66 rfl rfl)) (fun q3 h1 e1 =>
      j_tx (hx_199 _))
/-! 200 StatuteHouse$FixedDay.<init>(II)V -/
theorem cd_200 : fi_code 200 = prog_10_method_1_code := rfl
theorem hx_200 : ∀ pc, fi_hat 200 pc = none := fun pc => by unfold fi_hat; rw [show fi_hh 200 = [] from rfl]; rfl
theorem rt_200 : fi_ret 200 = none := rfl
theorem nl_200 : fi_nl 200 = 3 := rfl
theorem ow_200 : fi_ow 200 = 8 := rfl
theorem cl_200 : fj_cutT.getD 200 [] = [] := rfl
theorem m_200 (d : Nat) (x0 x1 x2 : Int) {h : fi_H} (H : Shp h) (hk : h 0 x0.toNat 0 = 108) : fj_run (d + 1) 200 h [(4, x0), (0, x1), (0, x2)] =
  cv_ (fj_run d 1009 h [(4, x0)])
    (fun h1 =>
    if 302 < x0 then
    if h1 331 x0.toNat 0 = 0 then
    lt_ (fi_upd h1 331 x0.toNat 0 x1) fun h4 =>
    if 302 < x0 then
    if h4 332 x0.toNat 0 = 0 then
    lt_ (fi_upd h4 332 x0.toNat 0 x2) fun h5 =>
    some (.inl none, h5)
    else none
    else none
    else none
    else none)
    (fun q3 h1 => tx_ q3 h1) := by
  rw [fj_run_eq d (by decide) h [(4, x0), (0, x1), (0, x2)] (Nat.le_of_ble_eq_true (by rw [nl_200]; rfl))]
  show gG (fj_run d) 200 0 [(0, (4, x0)), (1, (0, x1)), (2, (0, x2))] [] h = _
  exact
    have D : fk_D 200 [(0, none, .aload_n 0, 1, 0, 0, 0), (1, none, .invokespecial 1, 3, 0, 1009, 0), (4, none, .aload_n 0, 1, 0, 0, 0), (5, none, .iload_n 1, 1, 0, 0, 0), (6, none, .putfield 7, 3, 331, 108, 110), (9, none, .aload_n 0, 1, 0, 0, 0), (10, none, .iload_n 2, 1, 0, 0, 0), (11, none, .putfield 13, 3, 332, 108, 110), (14, none, .return_, 1, 0, 0, 0)] := fq_of2 cd_200 ow_200 cl_200 rfl (pc := 0) (by decide +kernel)
    j_aldn (pc := 0) D rfl rfl rfl fun D =>
    j_spv (pc := 1) (m := 1009) (a := []) (rest := []) D rfl rfl rfl rfl (by rw [show h 0 x0.toNat 0 = 108 from hk]; decide) (nz_cls H.2.1 hk (by decide)) (fun h1 e1 D =>
      have T := fj_run_ok _ _ _ _ _ _ H.1 e1
      have hk := cls_st H.1 T.2 hk (by decide)
      have H := shp_st H T
      j_aldn (pc := 4) D rfl rfl rfl fun D =>
      j_ildn (pc := 5) D rfl rfl rfl fun D =>
      j_pfF (pc := 6) (a := x0.toNat) (ty := 10) D rfl rfl rfl hk ⟨rfl, rfl⟩ rfl gn (gy rfl) gn fun h4 eh4 S D =>
      have T := fj_hs_ok H.1 S
      have hk := cls_st H.1 T.2 hk (by decide)
      have H := shp_st H T
      j_aldn (pc := 9) D rfl rfl rfl fun D =>
      j_ildn (pc := 10) D rfl rfl rfl fun D =>
      j_pfF (pc := 11) (a := x0.toNat) (ty := 10) D rfl rfl rfl hk ⟨rfl, rfl⟩ rfl gn (gy rfl) gn fun h5 eh5 S D =>
      have T := fj_hs_ok H.1 S
      have hk := cls_st H.1 T.2 hk (by decide)
      have H := shp_st H T
      j_vret D rt_200) (fun q3 h1 e1 =>
      j_tx (hx_200 _))
/-! 201 StatuteHouse$Reader.byEaster()LStatuteHouse$Holiday; -/
theorem cd_201 : fi_code 201 = prog_53_method_44_code := rfl
theorem hx_201 : ∀ pc, fi_hat 201 pc = none := fun pc => by unfold fi_hat; rw [show fi_hh 201 = [] from rfl]; rfl
theorem rt_201 : fj_ft (fi_ret 201) = 5 := rfl
theorem nl_201 : fi_nl 201 = 3 := rfl
theorem ow_201 : fi_ow 201 = 15 := rfl
theorem cl_201 : fj_cutT.getD 201 [] = [(33, [0, 1]), (59, [])] := rfl
theorem cut_201_33 : fj_cut 201 33 = some [0, 1] := by decide +kernel
noncomputable def c_201_33 (d : Nat) (x1 : Int) (h : fi_H) : fk_R := gG (fj_run d) 201 33 [(0, (4, 377)), (1, (0, x1))] [] h
theorem cut_201_59 : fj_cut 201 59 = some [] := by decide +kernel
noncomputable def c_201_59 (d : Nat) (s0 s1 s2 : Int) (h : fi_H) : fk_R := gG (fj_run d) 201 59 [] [(0, s2), (4, s1), (4, s0)] h
theorem e_201_33 (d : Nat) (x1 : Int) {h : fi_H} (H : Shp h) : c_201_33 d x1 h =
  cv_ (fj_run d 166 h [(4, 377)])
    (fun h1 =>
    ca_ (fj_run d 188 h1 [(4, 377), (0, 0), (0, 100)]) 0
      (fun v5 h4 =>
      nw_ h4 105 1 0 fun r7 h8 =>
      if x1 = 0 then
        c_201_59 d r7 r7 v5 h8
      else
        c_201_59 d r7 r7 (wI (-v5)) h8)
      (fun q6 h4 => tx_ q6 h4))
    (fun q3 h1 => tx_ q3 h1) := by
  unfold c_201_33
  exact
    have D : fk_D 201 [(33, some [0, 1], .aload_n 0, 1, 0, 0, 0), (34, none, .invokevirtual 206, 3, 0, 261, 0), (37, none, .aload_n 0, 1, 0, 0, 0), (38, none, .iconst 0, 1, 0, 0, 0), (39, none, .bipush 100, 2, 0, 100, 0), (41, none, .invokevirtual 508, 3, 2, 277, 1), (44, none, .istore_n 2, 1, 0, 0, 0), (45, none, .new 570, 3, 105, 1, 0), (48, none, .dup, 1, 0, 0, 0), (49, none, .iload_n 1, 1, 0, 0, 0), (50, none, .ifCond .eq 8, 3, 58, 0, 0), (53, none, .iload_n 2, 1, 0, 0, 0), (54, none, .ineg, 1, 0, 0, 0), (55, none, .goto 4, 3, 59, 0, 0)] := fq_of2 cd_201 ow_201 cl_201 rfl (pc := 33) (by decide +kernel)
    j_aldn (pc := 33) D rfl rfl rfl fun D =>
    j_ivv (pc := 34) (m := 166) (dd := 261) (a := []) (rest := []) D rfl rfl rfl rfl rfl (by decide) (s0_377 H) (by decide +kernel) (fun h1 e1 D =>
      have T := fj_run_ok _ _ _ _ _ _ H.1 e1
      have H := shp_st H T
      j_aldn (pc := 37) D rfl rfl rfl fun D =>
      j_ic (pc := 38) D rfl fun D =>
      j_bp (pc := 39) D rfl fun D =>
      j_iv (pc := 41) (m := 188) (dd := 277) (a := [(0, 0), (0, 100)]) (rest := []) D rfl rfl rfl rfl rfl (by decide) (s0_377 H) (by decide +kernel) (fun v5 h4 e1 D =>
        have T := fj_run_ok _ _ _ _ _ _ H.1 e1
        have H := shp_st H T
        j_istn (pc := 44) (L' := [(2, (0, v5)), (0, (4, 377)), (1, (0, x1))]) D rfl nl_201 rfl rfl fun D =>
        j_new (pc := 45) D rfl fun r7 h8 er eh8 S D =>
        have gt_r7 := nw_gt H.1 er
        have kc_r7 := nw_cls H.1 er eh8
        have T := fj_hs_ok H.1 S
        have H := shp_st H T
        j_sh (pc := 48) D rfl rfl rfl fun D =>
        j_ildn (pc := 49) D rfl rfl rfl fun D =>
        j_ifeq (pc := 50) D rfl (fun q =>
          have D : fk_D 201 [(58, none, .iload_n 2, 1, 0, 0, 0)] := fq_of2 cd_201 ow_201 cl_201 rfl (pc := 58) (by decide +kernel)
          j_ildn (pc := 58) D rfl rfl rfl fun D =>
          fk_jump cut_201_59 rfl rfl) (fun q D =>
          j_ildn (pc := 53) D rfl rfl rfl fun D =>
          j_ineg (pc := 54) D rfl fun D =>
          j_goto (pc := 55) D rfl <|
          fk_jump cut_201_59 rfl rfl)) (fun q6 h4 e1 =>
        j_tx (hx_201 _))) (fun q3 h1 e1 =>
      j_tx (hx_201 _))
theorem e_201_59 (d : Nat) (s0 s1 s2 : Int) {h : fi_H} (H : Shp h) : c_201_59 d s0 s1 s2 h =
  if 100 ≤ h 0 s1.toNat 0 ∧ h 0 s1.toNat 0 < 134 then
  cv_ (fj_run d 202 h [(4, s1), (0, s2)])
    (fun h1 =>
    some (.inl (some (4, s0)), h1))
    (fun q3 h1 => tx_ q3 h1)
  else none := by
  unfold c_201_59
  exact
    have D : fk_D 201 [(59, some [], .invokespecial 572, 3, 1, 202, 0), (62, none, .areturn, 1, 0, 0, 0)] := fq_of2 cd_201 ow_201 cl_201 rfl (pc := 59) (by decide +kernel)
    j_spuv (pc := 59) (m := 202) (a := [(0, s2)]) (rest := [(4, s0)]) H.2.1 D rfl rfl rfl rfl (fun h1 e1 D =>
      have T := fj_run_ok _ _ _ _ _ _ H.1 e1
      have H := shp_st H T
      j_aret D rt_201) (fun q3 h1 e1 =>
      j_tx (hx_201 _))
theorem m_201 (d : Nat) {h : fi_H} (H : Shp h) : fj_run (d + 1) 201 h [(4, 377)] =
  cv_ (fj_run d 166 h [(4, 377)])
    (fun h1 =>
    ca_ (fj_run d 162 h1 [(4, 377), (4, 175)]) 0
      (fun v5 h4 =>
      if v5 = 0 then
        ca_ (fj_run d 162 h4 [(4, 377), (4, 173)]) 0
          (fun v8 h7 =>
          if v8 = 0 then
            nw_ h7 105 1 0 fun r10 h11 =>
            cv_ (fj_run d 202 h11 [(4, r10), (0, 0)])
              (fun h12 =>
              some (.inl (some (4, r10)), h12))
              (fun q14 h12 => tx_ q14 h12)
          else
            c_201_33 d v5 h7)
          (fun q9 h7 => tx_ q9 h7)
      else
        c_201_33 d v5 h4)
      (fun q6 h4 => tx_ q6 h4))
    (fun q3 h1 => tx_ q3 h1) := by
  rw [fj_run_eq d (by decide) h [(4, 377)] (Nat.le_of_ble_eq_true (by rw [nl_201]; rfl))]
  show gG (fj_run d) 201 0 [(0, (4, 377))] [] h = _
  exact
    have D : fk_D 201 [(0, none, .aload_n 0, 1, 0, 0, 0), (1, none, .invokevirtual 206, 3, 0, 261, 0), (4, none, .aload_n 0, 1, 0, 0, 0), (5, none, .ldc 226, 2, 4, 175, 0), (7, none, .invokevirtual 209, 3, 1, 262, 1), (10, none, .istore_n 1, 1, 0, 0, 0), (11, none, .iload_n 1, 1, 0, 0, 0), (12, none, .ifCond .ne 21, 3, 33, 0, 0), (15, none, .aload_n 0, 1, 0, 0, 0), (16, none, .ldc 224, 2, 4, 173, 0), (18, none, .invokevirtual 209, 3, 1, 262, 1), (21, none, .ifCond .ne 12, 3, 33, 0, 0), (24, none, .new 570, 3, 105, 1, 0), (27, none, .dup, 1, 0, 0, 0), (28, none, .iconst 0, 1, 0, 0, 0), (29, none, .invokespecial 572, 3, 1, 202, 0), (32, none, .areturn, 1, 0, 0, 0)] := fq_of2 cd_201 ow_201 cl_201 rfl (pc := 0) (by decide +kernel)
    j_aldn (pc := 0) D rfl rfl rfl fun D =>
    j_ivv (pc := 1) (m := 166) (dd := 261) (a := []) (rest := []) D rfl rfl rfl rfl rfl (by decide) (s0_377 H) (by decide +kernel) (fun h1 e1 D =>
      have T := fj_run_ok _ _ _ _ _ _ H.1 e1
      have H := shp_st H T
      j_aldn (pc := 4) D rfl rfl rfl fun D =>
      j_ldc (pc := 5) D rfl fun D =>
      j_iv (pc := 7) (m := 162) (dd := 262) (a := [(4, 175)]) (rest := []) D rfl rfl rfl rfl rfl (by decide) (s0_377 H) (by decide +kernel) (fun v5 h4 e1 D =>
        have T := fj_run_ok _ _ _ _ _ _ H.1 e1
        have H := shp_st H T
        j_istn (pc := 10) (L' := [(1, (0, v5)), (0, (4, 377))]) D rfl nl_201 rfl rfl fun D =>
        j_ildn (pc := 11) D rfl rfl rfl fun D =>
        j_ifne (pc := 12) D rfl (fun q D =>
          j_aldn (pc := 15) D rfl rfl rfl fun D =>
          j_ldc (pc := 16) D rfl fun D =>
          j_iv (pc := 18) (m := 162) (dd := 262) (a := [(4, 173)]) (rest := []) D rfl rfl rfl rfl rfl (by decide) (s0_377 H) (by decide +kernel) (fun v8 h7 e1 D =>
            have T := fj_run_ok _ _ _ _ _ _ H.1 e1
            have H := shp_st H T
            j_ifne (pc := 21) D rfl (fun q D =>
              j_new (pc := 24) D rfl fun r10 h11 er eh11 S D =>
              have gt_r10 := nw_gt H.1 er
              have kc_r10 := nw_cls H.1 er eh11
              have T := fj_hs_ok H.1 S
              have H := shp_st H T
              j_sh (pc := 27) D rfl rfl rfl fun D =>
              j_ic (pc := 28) D rfl fun D =>
              j_spv (pc := 29) (m := 202) (a := [(0, 0)]) (rest := [(4, r10)]) D rfl rfl rfl rfl (by rw [show h11 0 r10.toNat 0 = 105 from kc_r10]; decide) (gt_nz gt_r10) (fun h12 e1 D =>
                have T := fj_run_ok _ _ _ _ _ _ H.1 e1
                have kc_r10 := cls_st H.1 T.2 kc_r10 (by decide)
                have H := shp_st H T
                j_aret D rt_201) (fun q14 h12 e1 =>
                j_tx (hx_201 _))) (fun q =>
              fk_jump cut_201_33 rfl rfl)) (fun q9 h7 e1 =>
            j_tx (hx_201 _))) (fun q =>
          fk_jump cut_201_33 rfl rfl)) (fun q6 h4 e1 =>
        j_tx (hx_201 _))) (fun q3 h1 e1 =>
      j_tx (hx_201 _))
