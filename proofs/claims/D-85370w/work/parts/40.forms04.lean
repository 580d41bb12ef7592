/-! forms of methods 137..167, printed by gen/forms.py -/
set_option maxRecDepth 100000
/-! 137 jdk/internal/util/Preconditions.checkFromIndexSize(IIILjava/util/function/BiFunction;)I -/
theorem cd_137 : fi_code 137 = prog_104_method_13_code := rfl
theorem hx_137 : ∀ pc, fi_hat 137 pc = none := fun pc => by unfold fi_hat; rw [show fi_hh 137 = [] from rfl]; rfl
theorem rt_137 : fi_ret 137 = some .int := rfl
theorem nl_137 : fi_nl 137 = 4 := rfl
theorem ow_137 : fi_ow 137 = 84 := rfl
theorem cl_137 : fj_cutT.getD 137 [] = [] := rfl
theorem m_137 (d : Nat) (x0 x1 x2 x3 : Int) {h : fi_H} (H : Shp h) : fj_run (d + 1) 137 h [(0, x0), (0, x1), (0, x2), (4, x3)] =
  if io_ (io_ x2 x0) x1 < 0 then
    none
  else
    if wI (x2 - x0) < x1 then
      none
    else
      some (.inl (some (0, x0)), h) := by
  rw [fj_run_eq d (by decide) h [(0, x0), (0, x1), (0, x2), (4, x3)] (Nat.le_of_ble_eq_true (by rw [nl_137]; rfl))]
  show gG (fj_run d) 137 0 [(0, (0, x0)), (1, (0, x1)), (2, (0, x2)), (3, (4, x3))] [] h = _
  exact
    have D : fk_D 137 [(0, none, .iload_n 2, 1, 0, 0, 0), (1, none, .iload_n 0, 1, 0, 0, 0), (2, none, .ior, 1, 0, 0, 0), (3, none, .iload_n 1, 1, 0, 0, 0), (4, none, .ior, 1, 0, 0, 0), (5, none, .ifCond .lt 10, 3, 15, 0, 0), (8, none, .iload_n 1, 1, 0, 0, 0), (9, none, .iload_n 2, 1, 0, 0, 0), (10, none, .iload_n 0, 1, 0, 0, 0), (11, none, .isub, 1, 0, 0, 0), (12, none, .if_icmp .le 11, 3, 23, 0, 0), (15, none, .aload_n 3, 1, 0, 0, 0), (16, none, .iload_n 0, 1, 0, 0, 0), (17, none, .iload_n 1, 1, 0, 0, 0), (18, none, .iload_n 2, 1, 0, 0, 0)] := fq_of2 cd_137 ow_137 cl_137 rfl (pc := 0) (by decide +kernel)
    j_ildn (pc := 0) D rfl rfl rfl fun D =>
    j_ildn (pc := 1) D rfl rfl rfl fun D =>
    j_ior (pc := 2) D rfl fun D =>
    j_ildn (pc := 3) D rfl rfl rfl fun D =>
    j_ior (pc := 4) D rfl fun D =>
    j_iflt (pc := 5) D rfl (fun q =>
      have D : fk_D 137 [(15, none, .aload_n 3, 1, 0, 0, 0), (16, none, .iload_n 0, 1, 0, 0, 0), (17, none, .iload_n 1, 1, 0, 0, 0), (18, none, .iload_n 2, 1, 0, 0, 0)] := fq_of2 cd_137 ow_137 cl_137 rfl (pc := 15) (by decide +kernel)
      j_aldn (pc := 15) D rfl rfl rfl fun D =>
      j_ildn (pc := 16) D rfl rfl rfl fun D =>
      j_ildn (pc := 17) D rfl rfl rfl fun D =>
      j_ildn (pc := 18) D rfl rfl rfl fun D =>
      j_dead (ins := .invokestatic 103) (len := 3) (by decide +kernel : fk_dec prog_104_method_13_code 19 (.invokestatic 103) 3 = true) cd_137 rfl (fk_dS (by decide +kernel : fi_ms (fi_ow 137) 103 = none)) (fun _ => ⟨rfl, fun q => by cases q⟩)) (fun q D =>
      j_ildn (pc := 8) D rfl rfl rfl fun D =>
      j_ildn (pc := 9) D rfl rfl rfl fun D =>
      j_ildn (pc := 10) D rfl rfl rfl fun D =>
      j_isub (pc := 11) D rfl fun D =>
      j_ile (pc := 12) D rfl (fun q D =>
        j_aldn (pc := 15) D rfl rfl rfl fun D =>
        j_ildn (pc := 16) D rfl rfl rfl fun D =>
        j_ildn (pc := 17) D rfl rfl rfl fun D =>
        j_ildn (pc := 18) D rfl rfl rfl fun D =>
        j_dead (ins := .invokestatic 103) (len := 3) (by decide +kernel : fk_dec prog_104_method_13_code 19 (.invokestatic 103) 3 = true) cd_137 rfl (fk_dS (by decide +kernel : fi_ms (fi_ow 137) 103 = none)) (fun _ => ⟨rfl, fun q => by cases q⟩)) (fun q =>
        have D : fk_D 137 [(23, none, .iload_n 0, 1, 0, 0, 0), (24, none, .ireturn, 1, 0, 0, 0)] := fq_of2 cd_137 ow_137 cl_137 rfl (pc := 23) (by decide +kernel)
        j_ildn (pc := 23) D rfl rfl rfl fun D =>
        j_iret D rt_137))
/-! 138 java/lang/StringUTF16.putChar([BII)V -/
theorem cd_138 : fi_code 138 = prog_89_method_4_code := rfl
theorem hx_138 : ∀ pc, fi_hat 138 pc = none := fun pc => by unfold fi_hat; rw [show fi_hh 138 = [] from rfl]; rfl
theorem rt_138 : fi_ret 138 = none := rfl
theorem nl_138 : fi_nl 138 = 3 := rfl
theorem ow_138 : fi_ow 138 = 80 := rfl
theorem cl_138 : fj_cutT.getD 138 [] = [(28, [0, 1, 2])] := rfl
theorem cut_138_28 : fj_cut 138 28 = some [0, 1, 2] := by decide +kernel
noncomputable def c_138_28 (d : Nat) (x0 x1 x2 : Int) (h : fi_H) : fk_R := gG (fj_run d) 138 28 [(0, (4, x0)), (1, (0, x1)), (2, (0, x2))] [] h
theorem e_138_28 (d : Nat) (x0 x1 x2 : Int) {h : fi_H} (H : Shp h) : c_138_28 d x0 x1 x2 h =
  if 302 < x0 ∧ fi_et 1 (h 0 x0.toNat 0) ≠ 0 then
  if 0 ≤ sl_ x1 1 ∧ sl_ x1 1 < h 1 x0.toNat 0 then
  if fi_rg (fi_et 1 (h 0 x0.toNat 0)) (wB (sr_ x2 0)) = true then
  lt_ (fi_upd h (fi_et 1 (h 0 x0.toNat 0)) x0.toNat (sl_ x1 1).toNat (wB (sr_ x2 0))) fun h1 =>
  if 302 < x0 ∧ fi_et 1 (h1 0 x0.toNat 0) ≠ 0 then
  if 0 ≤ wI ((sl_ x1 1) + 1) ∧ wI ((sl_ x1 1) + 1) < h1 1 x0.toNat 0 then
  if fi_rg (fi_et 1 (h1 0 x0.toNat 0)) (wB (sr_ x2 8)) = true then
  lt_ (fi_upd h1 (fi_et 1 (h1 0 x0.toNat 0)) x0.toNat (wI ((sl_ x1 1) + 1)).toNat (wB (sr_ x2 8))) fun h2 =>
  some (.inl none, h2)
  else none
  else none
  else none
  else none
  else none
  else none := by
  unfold c_138_28
  exact
    have D : fk_D 138 [(28, some [0, 1, 2], .iload_n 1, 1, 0, 0, 0), (29, none, .iconst 1, 1, 0, 1, 0), (30, none, .ishl, 1, 0, 0, 0), (31, none, .istore_n 1, 1, 0, 0, 0), (32, none, .aload_n 0, 1, 0, 0, 0), (33, none, .iload_n 1, 1, 0, 0, 0), (34, none, .iinc 1 1, 3, 0, 1, 0), (37, none, .iload_n 2, 1, 0, 0, 0), (38, none, .getstatic 59, 3, 0, 0, 0), (41, none, .ishr, 1, 0, 0, 0), (42, none, .i2b, 1, 0, 0, 0), (43, none, .bastore, 1, 0, 0, 0), (44, none, .aload_n 0, 1, 0, 0, 0), (45, none, .iload_n 1, 1, 0, 0, 0), (46, none, .iload_n 2, 1, 0, 0, 0), (47, none, .getstatic 63, 3, 0, 8, 0), (50, none, .ishr, 1, 0, 0, 0), (51, none, .i2b, 1, 0, 0, 0), (52, none, .bastore, 1, 0, 0, 0), (53, none, .return_, 1, 0, 0, 0)] := fq_of2 cd_138 ow_138 cl_138 rfl (pc := 28) (by decide +kernel)
    j_ildn (pc := 28) D rfl rfl rfl fun D =>
    j_ic (pc := 29) D rfl fun D =>
    j_ishl (pc := 30) D rfl fun D =>
    j_istn (pc := 31) (L' := [(1, (0, sl_ x1 1)), (0, (4, x0)), (2, (0, x2))]) D rfl nl_138 rfl rfl fun D =>
    j_aldn (pc := 32) D rfl rfl rfl fun D =>
    j_ildn (pc := 33) D rfl rfl rfl fun D =>
    j_inc (pc := 34) (L' := [(1, (0, wI ((sl_ x1 1) + 1))), (0, (4, x0)), (2, (0, x2))]) D rfl rfl rfl (by decide +kernel) rfl fun D =>
    j_ildn (pc := 37) D rfl rfl rfl fun D =>
    j_gs (pc := 38) D rfl fun D =>
    j_ishr (pc := 41) D rfl fun D =>
    j_i2b (pc := 42) D rfl fun D =>
    j_asub (pc := 43) D rfl rfl gn gn gn fun h1 eh1 S q q2 D =>
    have T := fj_hs_ok H.1 S
    have H := shp_st H T
    j_aldn (pc := 44) D rfl rfl rfl fun D =>
    j_ildn (pc := 45) D rfl rfl rfl fun D =>
    j_ildn (pc := 46) D rfl rfl rfl fun D =>
    j_gs (pc := 47) D rfl fun D =>
    j_ishr (pc := 50) D rfl fun D =>
    j_i2b (pc := 51) D rfl fun D =>
    j_asub (pc := 52) D rfl rfl gn gn gn fun h2 eh2 S q q2 D =>
    have T := fj_hs_ok H.1 S
    have H := shp_st H T
    j_vret D rt_138
theorem m_138 (d : Nat) (x0 x1 x2 : Int) {h : fi_H} (H : Shp h) : fj_run (d + 1) 138 h [(4, x0), (0, x1), (0, x2)] =
  c_138_28 d x0 x1 x2 h := by
  rw [fj_run_eq d (by decide) h [(4, x0), (0, x1), (0, x2)] (Nat.le_of_ble_eq_true (by rw [nl_138]; rfl))]
  show gG (fj_run d) 138 0 [(0, (4, x0)), (1, (0, x1)), (2, (0, x2))] [] h = _
  exact
    have D : fk_D 138 [(0, none, .getstatic 44, 3, 0, 1, 0), (3, none, .ifCond .ne 25, 3, 28, 0, 0)] := fq_of2 cd_138 ow_138 cl_138 rfl (pc := 0) (by decide +kernel)
    j_gs (pc := 0) D rfl fun D =>
    j_known (pc := 3) D rfl rfl (pc' := 28) (st' := []) (by rfl) <|
    fk_jump cut_138_28 rfl rfl
/-! 139 java/lang/StringUTF16.putCharSB([BII)V -/
theorem cd_139 : fi_code 139 = prog_89_method_71_code := rfl
theorem hx_139 : ∀ pc, fi_hat 139 pc = none := fun pc => by unfold fi_hat; rw [show fi_hh 139 = [] from rfl]; rfl
theorem rt_139 : fi_ret 139 = none := rfl
theorem nl_139 : fi_nl 139 = 3 := rfl
theorem ow_139 : fi_ow 139 = 80 := rfl
theorem cl_139 : fj_cutT.getD 139 [] = [] := rfl
theorem m_139 (d : Nat) (x0 x1 x2 : Int) {h : fi_H} (H : Shp h) : fj_run (d + 1) 139 h [(4, x0), (0, x1), (0, x2)] =
  cv_ (fj_run d 26 h [(0, x1), (4, x0)])
    (fun h1 =>
    cv_ (fj_run d 138 h1 [(4, x0), (0, x1), (0, x2)])
      (fun h4 =>
      some (.inl none, h4))
      (fun q6 h4 => tx_ q6 h4))
    (fun q3 h1 => tx_ q3 h1) := by
  rw [fj_run_eq d (by decide) h [(4, x0), (0, x1), (0, x2)] (Nat.le_of_ble_eq_true (by rw [nl_139]; rfl))]
  show gG (fj_run d) 139 0 [(0, (4, x0)), (1, (0, x1)), (2, (0, x2))] [] h = _
  exact
    have D : fk_D 139 [(0, none, .iload_n 1, 1, 0, 0, 0), (1, none, .aload_n 0, 1, 0, 0, 0), (2, none, .invokestatic 67, 3, 2, 26, 0), (5, none, .aload_n 0, 1, 0, 0, 0), (6, none, .iload_n 1, 1, 0, 0, 0), (7, none, .iload_n 2, 1, 0, 0, 0), (8, none, .invokestatic 111, 3, 3, 138, 0), (11, none, .return_, 1, 0, 0, 0)] := fq_of2 cd_139 ow_139 cl_139 rfl (pc := 0) (by decide +kernel)
    j_ildn (pc := 0) D rfl rfl rfl fun D =>
    j_aldn (pc := 1) D rfl rfl rfl fun D =>
    j_isv (pc := 2) (m := 26) (a := [(0, x1), (4, x0)]) (rest := []) D rfl rfl rfl rfl (fun h1 e1 D =>
      have T := fj_run_ok _ _ _ _ _ _ H.1 e1
      have H := shp_st H T
      j_aldn (pc := 5) D rfl rfl rfl fun D =>
      j_ildn (pc := 6) D rfl rfl rfl fun D =>
      j_ildn (pc := 7) D rfl rfl rfl fun D =>
      j_isv (pc := 8) (m := 138) (a := [(4, x0), (0, x1), (0, x2)]) (rest := []) D rfl rfl rfl rfl (fun h4 e1 D =>
        have T := fj_run_ok _ _ _ _ _ _ H.1 e1
        have H := shp_st H T
        j_vret D rt_139) (fun q6 h4 e1 =>
        j_tx (hx_139 _))) (fun q3 h1 e1 =>
      j_tx (hx_139 _))
/-! 140 java/lang/StringBuilder.toString()Ljava/lang/String; -/
theorem cd_140 : fi_code 140 = prog_87_method_42_code := rfl
theorem hx_140 : ∀ pc, fi_hat 140 pc = none := fun pc => by unfold fi_hat; rw [show fi_hh 140 = [] from rfl]; rfl
theorem rt_140 : fj_ft (fi_ret 140) = 5 := rfl
theorem nl_140 : fi_nl 140 = 1 := rfl
theorem ow_140 : fi_ow 140 = 32 := rfl
theorem cl_140 : fj_cutT.getD 140 [] = [] := rfl
theorem m_140 (d : Nat) (x0 : Int) {h : fi_H} (H : Shp h) (hk : h 0 x0.toNat 0 = 132) : fj_run (d + 1) 140 h [(4, x0)] =
  nw_ h 131 4 0 fun r1 h2 =>
  cv_ (fj_run d 141 h2 [(4, r1), (4, x0)])
    (fun h3 =>
    some (.inl (some (4, r1)), h3))
    (fun q5 h3 => tx_ q5 h3) := by
  rw [fj_run_eq d (by decide) h [(4, x0)] (Nat.le_of_ble_eq_true (by rw [nl_140]; rfl))]
  show gG (fj_run d) 140 0 [(0, (4, x0))] [] h = _
  exact
    have D : fk_D 140 [(0, none, .new 18, 3, 131, 4, 0), (3, none, .dup, 1, 0, 0, 0), (4, none, .aload_n 0, 1, 0, 0, 0), (5, none, .invokespecial 137, 3, 1, 141, 0), (8, none, .areturn, 1, 0, 0, 0)] := fq_of2 cd_140 ow_140 cl_140 rfl (pc := 0) (by decide +kernel)
    j_new (pc := 0) D rfl fun r1 h2 er eh2 S D =>
    have gt_r1 := nw_gt H.1 er
    have kc_r1 := nw_cls H.1 er eh2
    have T := fj_hs_ok H.1 S
    have hk := cls_st H.1 T.2 hk (by decide)
    have H := shp_st H T
    j_sh (pc := 3) D rfl rfl rfl fun D =>
    j_aldn (pc := 4) D rfl rfl rfl fun D =>
    j_spv (pc := 5) (m := 141) (a := [(4, x0)]) (rest := [(4, r1)]) D rfl rfl rfl rfl (by rw [show h2 0 r1.toNat 0 = 131 from kc_r1]; decide) (gt_nz gt_r1) (fun h3 e1 D =>
      have T := fj_run_ok _ _ _ _ _ _ H.1 e1
      have hk := cls_st H.1 T.2 hk (by decide)
      have kc_r1 := cls_st H.1 T.2 kc_r1 (by decide)
      have H := shp_st H T
      j_aret D rt_140) (fun q5 h3 e1 =>
      j_tx (hx_140 _))
/-! 141 java/lang/String.<init>(Ljava/lang/StringBuilder;)V -/
theorem cd_141 : fi_code 141 = prog_86_method_53_code := rfl
theorem hx_141 : ∀ pc, fi_hat 141 pc = none := fun pc => by unfold fi_hat; rw [show fi_hh 141 = [] from rfl]; rfl
theorem rt_141 : fi_ret 141 = none := rfl
theorem nl_141 : fi_nl 141 = 2 := rfl
theorem ow_141 : fi_ow 141 = 31 := rfl
theorem cl_141 : fj_cutT.getD 141 [] = [] := rfl
theorem m_141 (d : Nat) (x0 x1 : Int) {h : fi_H} (H : Shp h) (hk : h 0 x0.toNat 0 = 131) : fj_run (d + 1) 141 h [(4, x0), (4, x1)] =
  cv_ (fj_run d 142 h [(4, x0), (4, x1), (4, 0)])
    (fun h1 =>
    some (.inl none, h1))
    (fun q3 h1 => tx_ q3 h1) := by
  rw [fj_run_eq d (by decide) h [(4, x0), (4, x1)] (Nat.le_of_ble_eq_true (by rw [nl_141]; rfl))]
  show gG (fj_run d) 141 0 [(0, (4, x0)), (1, (4, x1))] [] h = _
  exact
    have D : fk_D 141 [(0, none, .aload_n 0, 1, 0, 0, 0), (1, none, .aload_n 1, 1, 0, 0, 0), (2, none, .aconst_null, 1, 0, 0, 0), (3, none, .invokespecial 489, 3, 2, 142, 0), (6, none, .return_, 1, 0, 0, 0)] := fq_of2 cd_141 ow_141 cl_141 rfl (pc := 0) (by decide +kernel)
    j_aldn (pc := 0) D rfl rfl rfl fun D =>
    j_aldn (pc := 1) D rfl rfl rfl fun D =>
    j_c0 (pc := 2) (v := (4, 0)) D rfl rfl (by decide +kernel) fun D =>
    j_spv (pc := 3) (m := 142) (a := [(4, x1), (4, 0)]) (rest := []) D rfl rfl rfl rfl (by rw [show h 0 x0.toNat 0 = 131 from hk]; decide) (nz_cls H.2.1 hk (by decide)) (fun h1 e1 D =>
      have T := fj_run_ok _ _ _ _ _ _ H.1 e1
      have hk := cls_st H.1 T.2 hk (by decide)
      have H := shp_st H T
      j_vret D rt_141) (fun q3 h1 e1 =>
      j_tx (hx_141 _))
/-! 142 java/lang/String.<init>(Ljava/lang/AbstractStringBuilder;Ljava/lang/Void;)V -/
theorem cd_142 : fi_code 142 = prog_86_method_150_code := rfl
theorem hx_142 : ∀ pc, fi_hat 142 pc = none := fun pc => by unfold fi_hat; rw [show fi_hh 142 = [] from rfl]; rfl
theorem rt_142 : fi_ret 142 = none := rfl
theorem nl_142 : fi_nl 142 = 5 := rfl
theorem ow_142 : fi_ow 142 = 31 := rfl
theorem cl_142 : fj_cutT.getD 142 [] = [(79, [0, 3, 4])] := rfl
theorem cut_142_79 : fj_cut 142 79 = some [0, 3, 4] := by decide +kernel
noncomputable def c_142_79 (d : Nat) (x0 x3 x4 : Int) (h : fi_H) : fk_R := gG (fj_run d) 142 79 [(0, (4, x0)), (3, (4, x3)), (4, (0, x4))] [] h
theorem e_142_79 (d : Nat) (x0 x3 x4 : Int) {h : fi_H} (H : Shp h) (hk : h 0 x0.toNat 0 = 131) : c_142_79 d x0 x3 x4 h =
  if 302 < x0 then
  if h 318 x0.toNat 0 = 0 then
  lt_ (fi_upd h 318 x0.toNat 0 1) fun h1 =>
  ca_ (fj_run d 146 h1 [(4, x3), (0, 0), (0, sl_ x4 1)]) 4
    (fun v3 h2 =>
    if 302 < x0 then
    if h2 317 x0.toNat 0 = 0 then
    lt_ (fi_upd h2 317 x0.toNat 0 v3) fun h5 =>
    some (.inl none, h5)
    else none
    else none)
    (fun q4 h2 => tx_ q4 h2)
  else none
  else none := by
  unfold c_142_79
  exact
    have D : fk_D 142 [(79, some [0, 3, 4], .aload_n 0, 1, 0, 0, 0), (80, none, .iconst 1, 1, 0, 1, 0), (81, none, .putfield 15, 3, 318, 131, 108), (84, none, .aload_n 0, 1, 0, 0, 0), (85, none, .aload_n 3, 1, 0, 0, 0), (86, none, .iconst 0, 1, 0, 0, 0), (87, none, .iload 4, 2, 0, 0, 0), (89, none, .iconst 1, 1, 0, 1, 0), (90, none, .ishl, 1, 0, 0, 0), (91, none, .invokestatic 54, 3, 3, 146, 5), (94, none, .putfield 9, 3, 317, 131, 112), (97, none, .return_, 1, 0, 0, 0)] := fq_of2 cd_142 ow_142 cl_142 rfl (pc := 79) (by decide +kernel)
    j_aldn (pc := 79) D rfl rfl rfl fun D =>
    j_ic (pc := 80) D rfl fun D =>
    j_pfF (pc := 81) (a := x0.toNat) (ty := 8) D rfl rfl rfl hk ⟨rfl, rfl⟩ rfl gn (gy (by decide)) gn fun h1 eh1 S D =>
    have T := fj_hs_ok H.1 S
    have hk := cls_st H.1 T.2 hk (by decide)
    have H := shp_st H T
    j_aldn (pc := 84) D rfl rfl rfl fun D =>
    j_aldn (pc := 85) D rfl rfl rfl fun D =>
    j_ic (pc := 86) D rfl fun D =>
    j_ild (pc := 87) D rfl rfl rfl fun D =>
    j_ic (pc := 89) D rfl fun D =>
    j_ishl (pc := 90) D rfl fun D =>
    j_is (pc := 91) (m := 146) (a := [(4, x3), (0, 0), (0, sl_ x4 1)]) (rest := [(4, x0)]) D rfl rfl rfl rfl (fun v3 h2 e1 D =>
      have T := fj_run_ok _ _ _ _ _ _ H.1 e1
      have hk := cls_st H.1 T.2 hk (by decide)
      have H := shp_st H T
      j_pfF (pc := 94) (a := x0.toNat) (ty := 12) D rfl rfl rfl hk ⟨rfl, rfl⟩ rfl gn (gy rfl) gn fun h5 eh5 S D =>
      have T := fj_hs_ok H.1 S
      have hk := cls_st H.1 T.2 hk (by decide)
      have H := shp_st H T
      j_vret D rt_142) (fun q4 h2 e1 =>
      j_tx (hx_142 _))
theorem m_142 (d : Nat) (x0 x1 x2 : Int) {h : fi_H} (H : Shp h) (hk : h 0 x0.toNat 0 = 131) : fj_run (d + 1) 142 h [(4, x0), (4, x1), (4, x2)] =
  cv_ (fj_run d 1009 h [(4, x0)])
    (fun h1 =>
    dv_ (fi_vt 208 (h1 0 x1.toNat 0)) fun m7 => ca_ (fj_run d m7 h1 [(4, x1)]) 4
      (fun v5 h4 =>
      dv_ (fi_vt 207 (h4 0 x1.toNat 0)) fun m11 => ca_ (fj_run d m11 h4 [(4, x1)]) 0
        (fun v9 h8 =>
        dv_ (fi_vt 209 (h8 0 x1.toNat 0)) fun m15 => ca_ (fj_run d m15 h8 [(4, x1)]) 0
          (fun v13 h12 =>
          if v13 = 0 then
            if h12 0 x1.toNat 0 = 132 then
            if h12 147 x1.toNat 0 = 0 then
              c_142_79 d x0 v5 v9 h12
            else
              ca_ (fj_run d 149 h12 [(4, v5), (0, 0), (0, v9)]) 4
                (fun v18 h17 =>
                if 302 < x0 then
                if h17 317 x0.toNat 0 = 0 then
                lt_ (fi_upd h17 317 x0.toNat 0 v18) fun h20 =>
                ca_ (fj_run d 151 h20 [(4, h20 317 x0.toNat 0), (0, v9)]) 0
                  (fun v22 h21 =>
                  if 302 < x0 then
                  if fi_rg 8 v22 = true then
                  if h21 318 x0.toNat 0 = 0 then
                  lt_ (fi_upd h21 318 x0.toNat 0 v22) fun h24 =>
                  some (.inl none, h24)
                  else none
                  else none
                  else none)
                  (fun q23 h21 => tx_ q23 h21)
                else none
                else none)
                (fun q19 h17 => tx_ q19 h17)
            else none
          else
            if 302 < x0 then
            if h12 318 x0.toNat 0 = 0 then
            lt_ (fi_upd h12 318 x0.toNat 0 0) fun h25 =>
            ca_ (fj_run d 146 h25 [(4, v5), (0, 0), (0, v9)]) 4
              (fun v27 h26 =>
              if 302 < x0 then
              if h26 317 x0.toNat 0 = 0 then
              lt_ (fi_upd h26 317 x0.toNat 0 v27) fun h29 =>
              some (.inl none, h29)
              else none
              else none)
              (fun q28 h26 => tx_ q28 h26)
            else none
            else none)
          (fun q14 h12 => tx_ q14 h12))
        (fun q10 h8 => tx_ q10 h8))
      (fun q6 h4 => tx_ q6 h4))
    (fun q3 h1 => tx_ q3 h1) := by
  rw [fj_run_eq d (by decide) h [(4, x0), (4, x1), (4, x2)] (Nat.le_of_ble_eq_true (by rw [nl_142]; rfl))]
  show gG (fj_run d) 142 0 [(0, (4, x0)), (1, (4, x1)), (2, (4, x2))] [] h = _
  exact
    have D : fk_D 142 [(0, none, .aload_n 0, 1, 0, 0, 0), (1, none, .invokespecial 1, 3, 0, 1009, 0), (4, none, .aload_n 1, 1, 0, 0, 0), (5, none, .invokevirtual 552, 3, 0, 208, 5), (8, none, .astore_n 3, 1, 0, 0, 0), (9, none, .aload_n 1, 1, 0, 0, 0), (10, none, .invokevirtual 549, 3, 0, 207, 1), (13, none, .istore 4, 2, 0, 0, 0), (15, none, .aload_n 1, 1, 0, 0, 0), (16, none, .invokevirtual 1047, 3, 0, 209, 1), (19, none, .ifCond .eq 22, 3, 41, 0, 0), (22, none, .aload_n 0, 1, 0, 0, 0), (23, none, .iconst 0, 1, 0, 0, 0), (24, none, .putfield 15, 3, 318, 131, 108), (27, none, .aload_n 0, 1, 0, 0, 0), (28, none, .aload_n 3, 1, 0, 0, 0), (29, none, .iconst 0, 1, 0, 0, 0), (30, none, .iload 4, 2, 0, 0, 0), (32, none, .invokestatic 54, 3, 3, 146, 5), (35, none, .putfield 9, 3, 317, 131, 112)] := fq_of2 cd_142 ow_142 cl_142 rfl (pc := 0) (by decide +kernel)
    j_aldn (pc := 0) D rfl rfl rfl fun D =>
    j_spv (pc := 1) (m := 1009) (a := []) (rest := []) D rfl rfl rfl rfl (by rw [show h 0 x0.toNat 0 = 131 from hk]; decide) (nz_cls H.2.1 hk (by decide)) (fun h1 e1 D =>
      have T := fj_run_ok _ _ _ _ _ _ H.1 e1
      have hk := cls_st H.1 T.2 hk (by decide)
      have H := shp_st H T
      j_aldn (pc := 4) D rfl rfl rfl fun D =>
      j_ivu (pc := 5) (dd := 208) (a := []) (rest := []) H.2.1 D rfl rfl rfl rfl rfl (fun m7 v5 h4 e1 D =>
        have T := fj_run_ok _ _ _ _ _ _ H.1 e1
        have hk := cls_st H.1 T.2 hk (by decide)
        have H := shp_st H T
        j_astn (pc := 8) (L' := [(3, (4, v5)), (0, (4, x0)), (1, (4, x1)), (2, (4, x2))]) D rfl nl_142 rfl rfl fun D =>
        j_aldn (pc := 9) D rfl rfl rfl fun D =>
        j_ivu (pc := 10) (dd := 207) (a := []) (rest := []) H.2.1 D rfl rfl rfl rfl rfl (fun m11 v9 h8 e1 D =>
          have T := fj_run_ok _ _ _ _ _ _ H.1 e1
          have hk := cls_st H.1 T.2 hk (by decide)
          have H := shp_st H T
          j_ist (pc := 13) (L' := [(4, (0, v9)), (3, (4, v5)), (0, (4, x0)), (1, (4, x1)), (2, (4, x2))]) D rfl nl_142 rfl rfl fun D =>
          j_aldn (pc := 15) D rfl rfl rfl fun D =>
          j_ivu (pc := 16) (dd := 209) (a := []) (rest := []) H.2.1 D rfl rfl rfl rfl rfl (fun m15 v13 h12 e1 D =>
            have T := fj_run_ok _ _ _ _ _ _ H.1 e1
            have hk := cls_st H.1 T.2 hk (by decide)
            have H := shp_st H T
            j_ifeq (pc := 19) D rfl (fun q =>
              have D : fk_D 142 [(41, none, .getstatic 38, 3, 0, 1, 0), (44, none, .ifCond .eq 35, 3, 79, 0, 0)] := fq_of2 cd_142 ow_142 cl_142 rfl (pc := 41) (by decide +kernel)
              j_gs (pc := 41) D rfl fun D =>
              j_known (pc := 44) D rfl rfl (pc' := 47) (st' := []) (by rfl) <|
              have D : fk_D 142 [(47, none, .aload_n 1, 1, 0, 0, 0), (48, none, .getfield 1048, 3, 147, (-132), 4), (51, none, .ifCond .eq 28, 3, 79, 0, 0), (54, none, .aload_n 0, 1, 0, 0, 0), (55, none, .aload_n 3, 1, 0, 0, 0), (56, none, .iconst 0, 1, 0, 0, 0), (57, none, .iload 4, 2, 0, 0, 0), (59, none, .invokestatic 1051, 3, 3, 149, 5), (62, none, .putfield 9, 3, 317, 131, 112), (65, none, .aload_n 0, 1, 0, 0, 0), (66, none, .aload_n 0, 1, 0, 0, 0), (67, none, .getfield 9, 3, 317, 131, 12), (70, none, .iload 4, 2, 0, 0, 0), (72, none, .invokestatic 47, 3, 2, 151, 1), (75, none, .putfield 15, 3, 318, 131, 108), (78, none, .return_, 1, 0, 0, 0)] := fq_of2 cd_142 ow_142 cl_142 rfl (pc := 47) (by decide +kernel)
              j_aldn (pc := 47) D rfl rfl rfl fun D =>
              j_gfo (pc := 48) H.2.1 D rfl rfl rfl rfl fun kc16 D =>
              j_ifeq (pc := 51) D rfl (fun q =>
                fk_jump cut_142_79 rfl rfl) (fun q D =>
                j_aldn (pc := 54) D rfl rfl rfl fun D =>
                j_aldn (pc := 55) D rfl rfl rfl fun D =>
                j_ic (pc := 56) D rfl fun D =>
                j_ild (pc := 57) D rfl rfl rfl fun D =>
                j_is (pc := 59) (m := 149) (a := [(4, v5), (0, 0), (0, v9)]) (rest := [(4, x0)]) D rfl rfl rfl rfl (fun v18 h17 e1 D =>
                  have T := fj_run_ok _ _ _ _ _ _ H.1 e1
                  have hk := cls_st H.1 T.2 hk (by decide)
                  have kc16 := cls_st H.1 T.2 kc16 (by decide)
                  have H := shp_st H T
                  j_pfF (pc := 62) (a := x0.toNat) (ty := 12) D rfl rfl rfl hk ⟨rfl, rfl⟩ rfl gn (gy rfl) gn fun h20 eh20 S D =>
                  have T := fj_hs_ok H.1 S
                  have hk := cls_st H.1 T.2 hk (by decide)
                  have kc16 := cls_st H.1 T.2 kc16 (by decide)
                  have H := shp_st H T
                  j_aldn (pc := 65) D rfl rfl rfl fun D =>
                  j_aldn (pc := 66) D rfl rfl rfl fun D =>
                  j_gf (pc := 67) (a := x0.toNat) D rfl rfl (nz_cls H.2.1 hk (by decide)) rfl hk rfl fun D =>
                  j_ild (pc := 70) D rfl rfl rfl fun D =>
                  j_is (pc := 72) (m := 151) (a := [(4, h20 317 x0.toNat 0), (0, v9)]) (rest := [(4, x0)]) D rfl rfl rfl rfl (fun v22 h21 e1 D =>
                    have T := fj_run_ok _ _ _ _ _ _ H.1 e1
                    have hk := cls_st H.1 T.2 hk (by decide)
                    have kc16 := cls_st H.1 T.2 kc16 (by decide)
                    have H := shp_st H T
                    j_pfF (pc := 75) (a := x0.toNat) (ty := 8) D rfl rfl rfl hk ⟨rfl, rfl⟩ rfl gn gn gn fun h24 eh24 S D =>
                    have T := fj_hs_ok H.1 S
                    have hk := cls_st H.1 T.2 hk (by decide)
                    have kc16 := cls_st H.1 T.2 kc16 (by decide)
                    have H := shp_st H T
                    j_vret D rt_142) (fun q23 h21 e1 =>
                    j_tx (hx_142 _))) (fun q19 h17 e1 =>
                  j_tx (hx_142 _)))) (fun q D =>
              j_aldn (pc := 22) D rfl rfl rfl fun D =>
              j_ic (pc := 23) D rfl fun D =>
              j_pfF (pc := 24) (a := x0.toNat) (ty := 8) D rfl rfl rfl hk ⟨rfl, rfl⟩ rfl gn (gy (by decide)) gn fun h25 eh25 S D =>
              have T := fj_hs_ok H.1 S
              have hk := cls_st H.1 T.2 hk (by decide)
              have H := shp_st H T
              j_aldn (pc := 27) D rfl rfl rfl fun D =>
              j_aldn (pc := 28) D rfl rfl rfl fun D =>
              j_ic (pc := 29) D rfl fun D =>
              j_ild (pc := 30) D rfl rfl rfl fun D =>
              j_is (pc := 32) (m := 146) (a := [(4, v5), (0, 0), (0, v9)]) (rest := [(4, x0)]) D rfl rfl rfl rfl (fun v27 h26 e1 D =>
                have T := fj_run_ok _ _ _ _ _ _ H.1 e1
                have hk := cls_st H.1 T.2 hk (by decide)
                have H := shp_st H T
                j_pfF (pc := 35) (a := x0.toNat) (ty := 12) D rfl rfl rfl hk ⟨rfl, rfl⟩ rfl gn (gy rfl) gn fun h29 eh29 S D =>
                have T := fj_hs_ok H.1 S
                have hk := cls_st H.1 T.2 hk (by decide)
                have H := shp_st H T
                have D : fk_D 142 [(38, none, .goto 59, 3, 97, 0, 0)] := fq_of2 cd_142 ow_142 cl_142 rfl (pc := 38) (by decide +kernel)
                j_goto (pc := 38) D rfl <|
                have D : fk_D 142 [(97, none, .return_, 1, 0, 0, 0)] := fq_of2 cd_142 ow_142 cl_142 rfl (pc := 97) (by decide +kernel)
                j_vret D rt_142) (fun q28 h26 e1 =>
                j_tx (hx_142 _)))) (fun m15 q14 h12 e1 =>
            j_tx (hx_142 _))) (fun m11 q10 h8 e1 =>
          j_tx (hx_142 _))) (fun m7 q6 h4 e1 =>
        j_tx (hx_142 _))) (fun q3 h1 e1 =>
      j_tx (hx_142 _))
/-! 143 java/lang/AbstractStringBuilder.getValue()[B -/
theorem cd_143 : fi_code 143 = prog_72_method_64_code := rfl
theorem hx_143 : ∀ pc, fi_hat 143 pc = none := fun pc => by unfold fi_hat; rw [show fi_hh 143 = [] from rfl]; rfl
theorem rt_143 : fj_ft (fi_ret 143) = 5 := rfl
theorem nl_143 : fi_nl 143 = 1 := rfl
theorem ow_143 : fi_ow 143 = 68 := rfl
theorem cl_143 : fj_cutT.getD 143 [] = [] := rfl
theorem m_143 (d : Nat) (x0 : Int) {h : fi_H} {k0 : Int} (H : Shp h) (hk : h 0 x0.toNat 0 = k0) (hk0 : k0 ≠ 0) : fj_run (d + 1) 143 h [(4, x0)] =
  if h 0 x0.toNat 0 = 132 then
  some (.inl (some (4, h 145 x0.toNat 0)), h)
  else none := by
  rw [fj_run_eq d (by decide) h [(4, x0)] (Nat.le_of_ble_eq_true (by rw [nl_143]; rfl))]
  show gG (fj_run d) 143 0 [(0, (4, x0))] [] h = _
  exact
    have D : fk_D 143 [(0, none, .aload_n 0, 1, 0, 0, 0), (1, none, .getfield 15, 3, 145, (-132), 12), (4, none, .areturn, 1, 0, 0, 0)] := fq_of2 cd_143 ow_143 cl_143 rfl (pc := 0) (by decide +kernel)
    j_aldn (pc := 0) D rfl rfl rfl fun D =>
    j_gfo (pc := 1) H.2.1 D rfl rfl rfl rfl fun kc1 D =>
    j_aret D rt_143
/-! 144 java/lang/StringBuilder.length()I -/
theorem cd_144 : fi_code 144 = prog_87_method_93_code := rfl
theorem hx_144 : ∀ pc, fi_hat 144 pc = none := fun pc => by unfold fi_hat; rw [show fi_hh 144 = [] from rfl]; rfl
theorem rt_144 : fi_ret 144 = some .int := rfl
theorem nl_144 : fi_nl 144 = 1 := rfl
theorem ow_144 : fi_ow 144 = 32 := rfl
theorem cl_144 : fj_cutT.getD 144 [] = [] := rfl
theorem m_144 (d : Nat) (x0 : Int) {h : fi_H} (H : Shp h) (hk : h 0 x0.toNat 0 = 132) : fj_run (d + 1) 144 h [(4, x0)] =
  ca_ (fj_run d 145 h [(4, x0)]) 0
    (fun v2 h1 =>
    some (.inl (some (0, v2)), h1))
    (fun q3 h1 => tx_ q3 h1) := by
  rw [fj_run_eq d (by decide) h [(4, x0)] (Nat.le_of_ble_eq_true (by rw [nl_144]; rfl))]
  show gG (fj_run d) 144 0 [(0, (4, x0))] [] h = _
  exact
    have D : fk_D 144 [(0, none, .aload_n 0, 1, 0, 0, 0), (1, none, .invokespecial 343, 3, 0, 145, 1), (4, none, .ireturn, 1, 0, 0, 0)] := fq_of2 cd_144 ow_144 cl_144 rfl (pc := 0) (by decide +kernel)
    j_aldn (pc := 0) D rfl rfl rfl fun D =>
    j_sp_ (pc := 1) (m := 145) (a := []) (rest := []) D rfl rfl rfl rfl (by rw [show h 0 x0.toNat 0 = 132 from hk]; decide) (nz_cls H.2.1 hk (by decide)) (fun v2 h1 e1 D =>
      have T := fj_run_ok _ _ _ _ _ _ H.1 e1
      have hk := cls_st H.1 T.2 hk (by decide)
      have H := shp_st H T
      j_iret D rt_144) (fun q3 h1 e1 =>
      j_tx (hx_144 _))
/-! 145 java/lang/AbstractStringBuilder.length()I -/
theorem cd_145 : fi_code 145 = prog_72_method_6_code := rfl
theorem hx_145 : ∀ pc, fi_hat 145 pc = none := fun pc => by unfold fi_hat; rw [show fi_hh 145 = [] from rfl]; rfl
theorem rt_145 : fi_ret 145 = some .int := rfl
theorem nl_145 : fi_nl 145 = 1 := rfl
theorem ow_145 : fi_ow 145 = 68 := rfl
theorem cl_145 : fj_cutT.getD 145 [] = [] := rfl
theorem m_145 (d : Nat) (x0 : Int) {h : fi_H} {k0 : Int} (H : Shp h) (hk : h 0 x0.toNat 0 = k0) (hk0 : k0 ≠ 0) : fj_run (d + 1) 145 h [(4, x0)] =
  if h 0 x0.toNat 0 = 132 then
  some (.inl (some (0, h 148 x0.toNat 0)), h)
  else none := by
  rw [fj_run_eq d (by decide) h [(4, x0)] (Nat.le_of_ble_eq_true (by rw [nl_145]; rfl))]
  show gG (fj_run d) 145 0 [(0, (4, x0))] [] h = _
  exact
    have D : fk_D 145 [(0, none, .aload_n 0, 1, 0, 0, 0), (1, none, .getfield 79, 3, 148, (-132), 10), (4, none, .ireturn, 1, 0, 0, 0)] := fq_of2 cd_145 ow_145 cl_145 rfl (pc := 0) (by decide +kernel)
    j_aldn (pc := 0) D rfl rfl rfl fun D =>
    j_gfo (pc := 1) H.2.1 D rfl rfl rfl rfl fun kc1 D =>
    j_iret D rt_145
/-! 146 java/util/Arrays.copyOfRange([BII)[B -/
theorem cd_146 : fi_code 146 = prog_96_method_132_code := rfl
theorem hx_146 : ∀ pc, fi_hat 146 pc = none := fun pc => by unfold fi_hat; rw [show fi_hh 146 = [] from rfl]; rfl
theorem rt_146 : fj_ft (fi_ret 146) = 5 := rfl
theorem nl_146 : fi_nl 146 = 3 := rfl
theorem ow_146 : fi_ow 146 = 82 := rfl
theorem cl_146 : fj_cutT.getD 146 [] = [(10, [0, 1, 2])] := rfl
theorem cut_146_10 : fj_cut 146 10 = some [0, 1, 2] := by decide +kernel
noncomputable def c_146_10 (d : Nat) (x0 x1 x2 : Int) (h : fi_H) : fk_R := gG (fj_run d) 146 10 [(0, (4, x0)), (1, (0, x1)), (2, (0, x2))] [] h
theorem e_146_10 (d : Nat) (x0 x1 x2 : Int) {h : fi_H} (H : Shp h) : c_146_10 d x0 x1 x2 h =
  ca_ (fj_run d 147 h [(4, x0), (0, x1), (0, x2)]) 4
    (fun v2 h1 =>
    some (.inl (some (4, v2)), h1))
    (fun q3 h1 => tx_ q3 h1) := by
  unfold c_146_10
  exact
    have D : fk_D 146 [(10, some [0, 1, 2], .aload_n 0, 1, 0, 0, 0), (11, none, .iload_n 1, 1, 0, 0, 0), (12, none, .iload_n 2, 1, 0, 0, 0), (13, none, .invokestatic 339, 3, 3, 147, 5), (16, none, .areturn, 1, 0, 0, 0)] := fq_of2 cd_146 ow_146 cl_146 rfl (pc := 10) (by decide +kernel)
    j_aldn (pc := 10) D rfl rfl rfl fun D =>
    j_ildn (pc := 11) D rfl rfl rfl fun D =>
    j_ildn (pc := 12) D rfl rfl rfl fun D =>
    j_is (pc := 13) (m := 147) (a := [(4, x0), (0, x1), (0, x2)]) (rest := []) D rfl rfl rfl rfl (fun v2 h1 e1 D =>
      have T := fj_run_ok _ _ _ _ _ _ H.1 e1
      have H := shp_st H T
      j_aret D rt_146) (fun q3 h1 e1 =>
      j_tx (hx_146 _))
theorem m_146 (d : Nat) (x0 x1 x2 : Int) {h : fi_H} (H : Shp h) : fj_run (d + 1) 146 h [(4, x0), (0, x1), (0, x2)] =
  if x1 = 0 then
    if fk_isA (h 0 x0.toNat 0) = true then
    if x2 = h 1 x0.toNat 0 then
      dv_ (fi_vt 332 (h 0 x0.toNat 0)) fun m4 => ca_ (fj_run d m4 h [(4, x0)]) 4
        (fun v2 h1 =>
        if v2 = 0 ∨ (fi_sup (h1 0 v2.toNat 0)).contains 8 = true then
        some (.inl (some (4, v2)), h1)
        else none)
        (fun q3 h1 => tx_ q3 h1)
    else
      c_146_10 d x0 x1 x2 h
    else none
  else
    c_146_10 d x0 x1 x2 h := by
  rw [fj_run_eq d (by decide) h [(4, x0), (0, x1), (0, x2)] (Nat.le_of_ble_eq_true (by rw [nl_146]; rfl))]
  show gG (fj_run d) 146 0 [(0, (4, x0)), (1, (0, x1)), (2, (0, x2))] [] h = _
  exact
    have D : fk_D 146 [(0, none, .iload_n 1, 1, 0, 0, 0), (1, none, .ifCond .ne 9, 3, 10, 0, 0), (4, none, .iload_n 2, 1, 0, 0, 0), (5, none, .aload_n 0, 1, 0, 0, 0), (6, none, .arraylength, 1, 0, 0, 0), (7, none, .if_icmp .eq 10, 3, 17, 0, 0)] := fq_of2 cd_146 ow_146 cl_146 rfl (pc := 0) (by decide +kernel)
    j_ildn (pc := 0) D rfl rfl rfl fun D =>
    j_ifne (pc := 1) D rfl (fun q D =>
      j_ildn (pc := 4) D rfl rfl rfl fun D =>
      j_aldn (pc := 5) D rfl rfl rfl fun D =>
      j_lenu (pc := 6) H.2.1 D rfl fun q D =>
      j_ieq (pc := 7) D rfl (fun q =>
        have D : fk_D 146 [(17, none, .aload_n 0, 1, 0, 0, 0), (18, none, .invokevirtual 310, 3, 0, 332, 5), (21, none, .checkcast 311, 3, 8, 0, 0), (24, none, .areturn, 1, 0, 0, 0)] := fq_of2 cd_146 ow_146 cl_146 rfl (pc := 17) (by decide +kernel)
        j_aldn (pc := 17) D rfl rfl rfl fun D =>
        j_ivu (pc := 18) (dd := 332) (a := []) (rest := []) H.2.1 D rfl rfl rfl rfl rfl (fun m4 v2 h1 e1 D =>
          have T := fj_run_ok _ _ _ _ _ _ H.1 e1
          have H := shp_st H T
          j_cast (pc := 21) D rfl gn fun D =>
          j_aret D rt_146) (fun m4 q3 h1 e1 =>
          j_tx (hx_146 _))) (fun q D =>
        fk_jump cut_146_10 rfl rfl)) (fun q =>
      fk_jump cut_146_10 rfl rfl)
/-! 147 java/util/Arrays.copyOfRangeByte([BII)[B -/
theorem cd_147 : fi_code 147 = prog_96_method_133_code := rfl
theorem hx_147 : ∀ pc, fi_hat 147 pc = none := fun pc => by unfold fi_hat; rw [show fi_hh 147 = [] from rfl]; rfl
theorem rt_147 : fj_ft (fi_ret 147) = 5 := rfl
theorem nl_147 : fi_nl 147 = 5 := rfl
theorem ow_147 : fi_ow 147 = 82 := rfl
theorem cl_147 : fj_cutT.getD 147 [] = [] := rfl
theorem m_147 (d : Nat) (x0 x1 x2 : Int) {h : fi_H} (H : Shp h) : fj_run (d + 1) 147 h [(4, x0), (0, x1), (0, x2)] =
  cv_ (fj_run d 148 h [(0, x1), (0, x2)])
    (fun h1 =>
    if 0 ≤ wI (x2 - x1) ∧ wI (x2 - x1) < 64 then
    nw_ h1 8 (wI (x2 - x1)) (wI (x2 - x1)) fun r4 h5 =>
    if fk_isA (h5 0 x0.toNat 0) = true then
    ca_ (fj_run d 7 h5 [(0, wI ((h5 1 x0.toNat 0) - x1)), (0, wI (x2 - x1))]) 0
      (fun v7 h6 =>
      cv_ (fj_run d 1000 h6 [(4, x0), (0, x1), (4, r4), (0, 0), (0, v7)])
        (fun h9 =>
        some (.inl (some (4, r4)), h9))
        (fun q11 h9 => tx_ q11 h9))
      (fun q8 h6 => tx_ q8 h6)
    else none
    else none)
    (fun q3 h1 => tx_ q3 h1) := by
  rw [fj_run_eq d (by decide) h [(4, x0), (0, x1), (0, x2)] (Nat.le_of_ble_eq_true (by rw [nl_147]; rfl))]
  show gG (fj_run d) 147 0 [(0, (4, x0)), (1, (0, x1)), (2, (0, x2))] [] h = _
  exact
    have D : fk_D 147 [(0, none, .iload_n 1, 1, 0, 0, 0), (1, none, .iload_n 2, 1, 0, 0, 0), (2, none, .invokestatic 343, 3, 2, 148, 0), (5, none, .iload_n 2, 1, 0, 0, 0), (6, none, .iload_n 1, 1, 0, 0, 0), (7, none, .isub, 1, 0, 0, 0), (8, none, .istore_n 3, 1, 0, 0, 0), (9, none, .iload_n 3, 1, 0, 0, 0), (10, none, .newarray .byte, 2, 0, 0, 0), (12, none, .astore 4, 2, 0, 0, 0), (14, none, .aload_n 0, 1, 0, 0, 0), (15, none, .iload_n 1, 1, 0, 0, 0), (16, none, .aload 4, 2, 0, 0, 0), (18, none, .iconst 0, 1, 0, 0, 0), (19, none, .aload_n 0, 1, 0, 0, 0), (20, none, .arraylength, 1, 0, 0, 0), (21, none, .iload_n 1, 1, 0, 0, 0), (22, none, .isub, 1, 0, 0, 0), (23, none, .iload_n 3, 1, 0, 0, 0), (24, none, .invokestatic 304, 3, 2, 7, 1)] := fq_of2 cd_147 ow_147 cl_147 rfl (pc := 0) (by decide +kernel)
    j_ildn (pc := 0) D rfl rfl rfl fun D =>
    j_ildn (pc := 1) D rfl rfl rfl fun D =>
    j_isv (pc := 2) (m := 148) (a := [(0, x1), (0, x2)]) (rest := []) D rfl rfl rfl rfl (fun h1 e1 D =>
      have T := fj_run_ok _ _ _ _ _ _ H.1 e1
      have H := shp_st H T
      j_ildn (pc := 5) D rfl rfl rfl fun D =>
      j_ildn (pc := 6) D rfl rfl rfl fun D =>
      j_isub (pc := 7) D rfl fun D =>
      j_istn (pc := 8) (L' := [(3, (0, wI (x2 - x1))), (0, (4, x0)), (1, (0, x1)), (2, (0, x2))]) D rfl nl_147 rfl rfl fun D =>
      j_ildn (pc := 9) D rfl rfl rfl fun D =>
      j_na (pc := 10) (k := 8) (N := 64) D rfl rfl rfl gn fun r4 h5 er eh5 S q D =>
      have gt_r4 := nw_gt H.1 er
      have kc_r4 := nw_cls H.1 er eh5
      have kl_r4 := nw_len H.1 er eh5
      have T := fj_hs_ok H.1 S
      have H := shp_st H T
      j_ast (pc := 12) (L' := [(4, (4, r4)), (3, (0, wI (x2 - x1))), (0, (4, x0)), (1, (0, x1)), (2, (0, x2))]) D rfl nl_147 rfl rfl fun D =>
      j_aldn (pc := 14) D rfl rfl rfl fun D =>
      j_ildn (pc := 15) D rfl rfl rfl fun D =>
      j_ald (pc := 16) D rfl rfl rfl fun D =>
      j_ic (pc := 18) D rfl fun D =>
      j_aldn (pc := 19) D rfl rfl rfl fun D =>
      j_lenu (pc := 20) H.2.1 D rfl fun q D =>
      j_ildn (pc := 21) D rfl rfl rfl fun D =>
      j_isub (pc := 22) D rfl fun D =>
      j_ildn (pc := 23) D rfl rfl rfl fun D =>
      j_is (pc := 24) (m := 7) (a := [(0, wI ((h5 1 x0.toNat 0) - x1)), (0, wI (x2 - x1))]) (rest := [(0, 0), (4, r4), (0, x1), (4, x0)]) D rfl rfl rfl rfl (fun v7 h6 e1 D =>
        have T := fj_run_ok _ _ _ _ _ _ H.1 e1
        have kl_r4 := len_st H.1 T.2 kc_r4 (by decide) kl_r4
        have kc_r4 := cls_st H.1 T.2 kc_r4 (by decide)
        have H := shp_st H T
        have D : fk_D 147 [(27, none, .invokestatic 150, 3, 5, 1000, 0), (30, none, .aload 4, 2, 0, 0, 0), (32, none, .areturn, 1, 0, 0, 0)] := fq_of2 cd_147 ow_147 cl_147 rfl (pc := 27) (by decide +kernel)
        j_isv (pc := 27) (m := 1000) (a := [(4, x0), (0, x1), (4, r4), (0, 0), (0, v7)]) (rest := []) D rfl rfl rfl rfl (fun h9 e1 D =>
          have T := fj_run_ok _ _ _ _ _ _ H.1 e1
          have kl_r4 := len_st H.1 T.2 kc_r4 (by decide) kl_r4
          have kc_r4 := cls_st H.1 T.2 kc_r4 (by decide)
          have H := shp_st H T
          j_ald (pc := 30) D rfl rfl rfl fun D =>
          j_aret D rt_147) (fun q11 h9 e1 =>
          j_tx (hx_147 _))) (fun q8 h6 e1 =>
        j_tx (hx_147 _))) (fun q3 h1 e1 =>
      j_tx (hx_147 _))
/-! 148 java/util/Arrays.checkLength(II)V -/
theorem cd_148 : fi_code 148 = prog_96_method_131_code := rfl
theorem hx_148 : ∀ pc, fi_hat 148 pc = none := fun pc => by unfold fi_hat; rw [show fi_hh 148 = [] from rfl]; rfl
theorem rt_148 : fi_ret 148 = none := rfl
theorem nl_148 : fi_nl 148 = 2 := rfl
theorem ow_148 : fi_ow 148 = 82 := rfl
theorem cl_148 : fj_cutT.getD 148 [] = [] := rfl
theorem m_148 (d : Nat) (x0 x1 : Int) {h : fi_H} (H : Shp h) : fj_run (d + 1) 148 h [(0, x0), (0, x1)] =
  if x1 < x0 then
    none
  else
    some (.inl none, h) := by
  rw [fj_run_eq d (by decide) h [(0, x0), (0, x1)] (Nat.le_of_ble_eq_true (by rw [nl_148]; rfl))]
  show gG (fj_run d) 148 0 [(0, (0, x0)), (1, (0, x1))] [] h = _
  exact
    have D : fk_D 148 [(0, none, .iload_n 1, 1, 0, 0, 0), (1, none, .iload_n 0, 1, 0, 0, 0), (2, none, .if_icmp .ge 35, 3, 37, 0, 0)] := fq_of2 cd_148 ow_148 cl_148 rfl (pc := 0) (by decide +kernel)
    j_ildn (pc := 0) D rfl rfl rfl fun D =>
    j_ildn (pc := 1) D rfl rfl rfl fun D =>
    j_ige (pc := 2) D rfl (fun q D =>
      j_dead (ins := .new 43) (len := 3) (by decide +kernel : fk_dec prog_96_method_131_code 5 (.new 43) 3 = true) cd_148 rfl rfl (fun L => ⟨fk_dN (by decide +kernel) L, fun q => by cases q⟩)) (fun q =>
      have D : fk_D 148 [(37, none, .return_, 1, 0, 0, 0)] := fq_of2 cd_148 ow_148 cl_148 rfl (pc := 37) (by decide +kernel)
      j_vret D rt_148)
/-! 149 java/lang/StringUTF16.compress([BII)[B -/
theorem cd_149 : fi_code 149 = prog_89_method_17_code := rfl
theorem hx_149 : ∀ pc, fi_hat 149 pc = none := fun pc => by unfold fi_hat; rw [show fi_hh 149 = [] from rfl]; rfl
theorem rt_149 : fj_ft (fi_ret 149) = 5 := rfl
theorem nl_149 : fi_nl 149 = 6 := rfl
theorem ow_149 : fi_ow 149 = 80 := rfl
theorem cl_149 : fj_cutT.getD 149 [] = [] := rfl
theorem m_149 (d : Nat) (x0 x1 x2 : Int) {h : fi_H} (H : Shp h) : fj_run (d + 1) 149 h [(4, x0), (0, x1), (0, x2)] =
  if 0 ≤ x2 ∧ x2 < 65536 then
  nw_ h 8 x2 x2 fun r1 h2 =>
  ca_ (fj_run d 150 h2 [(4, x0), (0, x1), (4, r1), (0, 0), (0, x2)]) 0
    (fun v4 h3 =>
    if v4 = x2 then
      some (.inl (some (4, r1)), h3)
    else
      ca_ (fj_run d 103 h3 [(0, wI (x1 + x2))]) 0
        (fun v7 h6 =>
        ca_ (fj_run d 146 h6 [(4, x0), (0, sl_ x1 1), (0, v7)]) 4
          (fun v10 h9 =>
          ca_ (fj_run d 28 h9 [(4, v10), (0, v4)]) 0
            (fun v13 h12 =>
            if 255 < v13 then
              some (.inl (some (4, v10)), h12)
            else
              ca_ (fj_run d 150 h12 [(4, v10), (0, 0), (4, r1), (0, 0), (0, x2)]) 0
                (fun v16 h15 =>
                if v16 = x2 then
                  some (.inl (some (4, r1)), h15)
                else
                  some (.inl (some (4, v10)), h15))
                (fun q17 h15 => tx_ q17 h15))
            (fun q14 h12 => tx_ q14 h12))
          (fun q11 h9 => tx_ q11 h9))
        (fun q8 h6 => tx_ q8 h6))
    (fun q5 h3 => tx_ q5 h3)
  else none := by
  rw [fj_run_eq d (by decide) h [(4, x0), (0, x1), (0, x2)] (Nat.le_of_ble_eq_true (by rw [nl_149]; rfl))]
  show gG (fj_run d) 149 0 [(0, (4, x0)), (1, (0, x1)), (2, (0, x2))] [] h = _
  exact
    have D : fk_D 149 [(0, none, .iload_n 2, 1, 0, 0, 0), (1, none, .newarray .byte, 2, 0, 0, 0), (3, none, .astore_n 3, 1, 0, 0, 0), (4, none, .aload_n 0, 1, 0, 0, 0), (5, none, .iload_n 1, 1, 0, 0, 0), (6, none, .aload_n 3, 1, 0, 0, 0), (7, none, .iconst 0, 1, 0, 0, 0), (8, none, .iload_n 2, 1, 0, 0, 0), (9, none, .invokestatic 123, 3, 5, 150, 1), (12, none, .istore 4, 2, 0, 0, 0), (14, none, .iload 4, 2, 0, 0, 0), (16, none, .iload_n 2, 1, 0, 0, 0), (17, none, .if_icmp .eq 47, 3, 64, 0, 0), (20, none, .aload_n 0, 1, 0, 0, 0), (21, none, .iload_n 1, 1, 0, 0, 0), (22, none, .iconst 1, 1, 0, 1, 0), (23, none, .ishl, 1, 0, 0, 0), (24, none, .iload_n 1, 1, 0, 0, 0), (25, none, .iload_n 2, 1, 0, 0, 0), (26, none, .iadd, 1, 0, 0, 0)] := fq_of2 cd_149 ow_149 cl_149 rfl (pc := 0) (by decide +kernel)
    j_ildn (pc := 0) D rfl rfl rfl fun D =>
    j_na (pc := 1) (k := 8) (N := 65536) D rfl rfl rfl gn fun r1 h2 er eh2 S q D =>
    have gt_r1 := nw_gt H.1 er
    have kc_r1 := nw_cls H.1 er eh2
    have kl_r1 := nw_len H.1 er eh2
    have T := fj_hs_ok H.1 S
    have H := shp_st H T
    j_astn (pc := 3) (L' := [(3, (4, r1)), (0, (4, x0)), (1, (0, x1)), (2, (0, x2))]) D rfl nl_149 rfl rfl fun D =>
    j_aldn (pc := 4) D rfl rfl rfl fun D =>
    j_ildn (pc := 5) D rfl rfl rfl fun D =>
    j_aldn (pc := 6) D rfl rfl rfl fun D =>
    j_ic (pc := 7) D rfl fun D =>
    j_ildn (pc := 8) D rfl rfl rfl fun D =>
    j_is (pc := 9) (m := 150) (a := [(4, x0), (0, x1), (4, r1), (0, 0), (0, x2)]) (rest := []) D rfl rfl rfl rfl (fun v4 h3 e1 D =>
      have T := fj_run_ok _ _ _ _ _ _ H.1 e1
      have kl_r1 := len_st H.1 T.2 kc_r1 (by decide) kl_r1
      have kc_r1 := cls_st H.1 T.2 kc_r1 (by decide)
      have H := shp_st H T
      j_ist (pc := 12) (L' := [(4, (0, v4)), (3, (4, r1)), (0, (4, x0)), (1, (0, x1)), (2, (0, x2))]) D rfl nl_149 rfl rfl fun D =>
      j_ild (pc := 14) D rfl rfl rfl fun D =>
      j_ildn (pc := 16) D rfl rfl rfl fun D =>
      j_ieq (pc := 17) D rfl (fun q =>
        have D : fk_D 149 [(64, none, .aload_n 3, 1, 0, 0, 0), (65, none, .areturn, 1, 0, 0, 0)] := fq_of2 cd_149 ow_149 cl_149 rfl (pc := 64) (by decide +kernel)
        j_aldn (pc := 64) D rfl rfl rfl fun D =>
        j_aret D rt_149) (fun q D =>
        j_aldn (pc := 20) D rfl rfl rfl fun D =>
        j_ildn (pc := 21) D rfl rfl rfl fun D =>
        j_ic (pc := 22) D rfl fun D =>
        j_ishl (pc := 23) D rfl fun D =>
        j_ildn (pc := 24) D rfl rfl rfl fun D =>
        j_ildn (pc := 25) D rfl rfl rfl fun D =>
        j_iadd (pc := 26) D rfl fun D =>
        have D : fk_D 149 [(27, none, .invokestatic 11, 3, 1, 103, 1), (30, none, .invokestatic 126, 3, 3, 146, 5), (33, none, .astore 5, 2, 0, 0, 0), (35, none, .aload 5, 2, 0, 0, 0), (37, none, .iload 4, 2, 0, 0, 0), (39, none, .invokestatic 71, 3, 2, 28, 1), (42, none, .sipush 255, 3, 0, 255, 0), (45, none, .if_icmp .gt 16, 3, 61, 0, 0), (48, none, .aload 5, 2, 0, 0, 0), (50, none, .iconst 0, 1, 0, 0, 0), (51, none, .aload_n 3, 1, 0, 0, 0), (52, none, .iconst 0, 1, 0, 0, 0), (53, none, .iload_n 2, 1, 0, 0, 0), (54, none, .invokestatic 123, 3, 5, 150, 1), (57, none, .iload_n 2, 1, 0, 0, 0), (58, none, .if_icmp .eq 6, 3, 64, 0, 0), (61, none, .aload 5, 2, 0, 0, 0), (63, none, .areturn, 1, 0, 0, 0)] := fq_of2 cd_149 ow_149 cl_149 rfl (pc := 27) (by decide +kernel)
        j_is (pc := 27) (m := 103) (a := [(0, wI (x1 + x2))]) (rest := [(0, sl_ x1 1), (4, x0)]) D rfl rfl rfl rfl (fun v7 h6 e1 D =>
          have T := fj_run_ok _ _ _ _ _ _ H.1 e1
          have kl_r1 := len_st H.1 T.2 kc_r1 (by decide) kl_r1
          have kc_r1 := cls_st H.1 T.2 kc_r1 (by decide)
          have H := shp_st H T
          j_is (pc := 30) (m := 146) (a := [(4, x0), (0, sl_ x1 1), (0, v7)]) (rest := []) D rfl rfl rfl rfl (fun v10 h9 e1 D =>
            have T := fj_run_ok _ _ _ _ _ _ H.1 e1
            have kl_r1 := len_st H.1 T.2 kc_r1 (by decide) kl_r1
            have kc_r1 := cls_st H.1 T.2 kc_r1 (by decide)
            have H := shp_st H T
            j_ast (pc := 33) (L' := [(5, (4, v10)), (4, (0, v4)), (3, (4, r1)), (0, (4, x0)), (1, (0, x1)), (2, (0, x2))]) D rfl nl_149 rfl rfl fun D =>
            j_ald (pc := 35) D rfl rfl rfl fun D =>
            j_ild (pc := 37) D rfl rfl rfl fun D =>
            j_is (pc := 39) (m := 28) (a := [(4, v10), (0, v4)]) (rest := []) D rfl rfl rfl rfl (fun v13 h12 e1 D =>
              have T := fj_run_ok _ _ _ _ _ _ H.1 e1
              have kl_r1 := len_st H.1 T.2 kc_r1 (by decide) kl_r1
              have kc_r1 := cls_st H.1 T.2 kc_r1 (by decide)
              have H := shp_st H T
              j_sp (pc := 42) D rfl fun D =>
              j_igt (pc := 45) D rfl (fun q =>
                have D : fk_D 149 [(61, none, .aload 5, 2, 0, 0, 0), (63, none, .areturn, 1, 0, 0, 0)] := fq_of2 cd_149 ow_149 cl_149 rfl (pc := 61) (by decide +kernel)
                j_ald (pc := 61) D rfl rfl rfl fun D =>
                j_aret D rt_149) (fun q D =>
                j_ald (pc := 48) D rfl rfl rfl fun D =>
                j_ic (pc := 50) D rfl fun D =>
                j_aldn (pc := 51) D rfl rfl rfl fun D =>
                j_ic (pc := 52) D rfl fun D =>
                j_ildn (pc := 53) D rfl rfl rfl fun D =>
                j_is (pc := 54) (m := 150) (a := [(4, v10), (0, 0), (4, r1), (0, 0), (0, x2)]) (rest := []) D rfl rfl rfl rfl (fun v16 h15 e1 D =>
                  have T := fj_run_ok _ _ _ _ _ _ H.1 e1
                  have kl_r1 := len_st H.1 T.2 kc_r1 (by decide) kl_r1
                  have kc_r1 := cls_st H.1 T.2 kc_r1 (by decide)
                  have H := shp_st H T
                  j_ildn (pc := 57) D rfl rfl rfl fun D =>
                  j_ieq (pc := 58) D rfl (fun q =>
                    have D : fk_D 149 [(64, none, .aload_n 3, 1, 0, 0, 0), (65, none, .areturn, 1, 0, 0, 0)] := fq_of2 cd_149 ow_149 cl_149 rfl (pc := 64) (by decide +kernel)
                    j_aldn (pc := 64) D rfl rfl rfl fun D =>
                    j_aret D rt_149) (fun q D =>
                    j_ald (pc := 61) D rfl rfl rfl fun D =>
                    j_aret D rt_149)) (fun q17 h15 e1 =>
                  j_tx (hx_149 _)))) (fun q14 h12 e1 =>
              j_tx (hx_149 _))) (fun q11 h9 e1 =>
            j_tx (hx_149 _))) (fun q8 h6 e1 =>
          j_tx (hx_149 _)))) (fun q5 h3 e1 =>
      j_tx (hx_149 _))
/-! 150 java/lang/StringUTF16.compress([BI[BII)I -/
theorem cd_150 : fi_code 150 = prog_89_method_22_code := rfl
theorem hx_150 : ∀ pc, fi_hat 150 pc = none := fun pc => by unfold fi_hat; rw [show fi_hh 150 = [] from rfl]; rfl
theorem rt_150 : fi_ret 150 = some .int := rfl
theorem nl_150 : fi_nl 150 = 7 := rfl
theorem ow_150 : fi_ow 150 = 80 := rfl
theorem cl_150 : fj_cutT.getD 150 [] = [(10, [0, 1, 2, 3, 4, 5])] := rfl
theorem cut_150_10 : fj_cut 150 10 = some [0, 1, 2, 3, 4, 5] := by decide +kernel
noncomputable def c_150_10 (d : Nat) (x0 x1 x2 x3 x4 x5 : Int) (h : fi_H) : fk_R := gG (fj_run d) 150 10 [(0, (4, x0)), (1, (0, x1)), (2, (4, x2)), (3, (0, x3)), (4, (0, x4)), (5, (0, x5))] [] h
theorem e_150_10 (d : Nat) (x0 x1 x2 x3 x4 x5 : Int) {h : fi_H} (H : Shp h) : c_150_10 d x0 x1 x2 x3 x4 x5 h =
  if x5 < x4 then
    ca_ (fj_run d 28 h [(4, x0), (0, x1)]) 0
      (fun v2 h1 =>
      if 255 < v2 then
        some (.inl (some (0, x5)), h1)
      else
        if 302 < x2 ∧ fi_et 1 (h1 0 x2.toNat 0) ≠ 0 then
        if 0 ≤ x3 ∧ x3 < h1 1 x2.toNat 0 then
        if fi_rg (fi_et 1 (h1 0 x2.toNat 0)) (wB v2) = true then
        lt_ (fi_upd h1 (fi_et 1 (h1 0 x2.toNat 0)) x2.toNat x3.toNat (wB v2)) fun h4 =>
        c_150_10 d x0 (wI (x1 + 1)) x2 (wI (x3 + 1)) x4 (wI (x5 + 1)) h4
        else none
        else none
        else none)
      (fun q3 h1 => tx_ q3 h1)
  else
    some (.inl (some (0, x4)), h) := by
  unfold c_150_10
  exact
    have D : fk_D 150 [(10, some [0, 1, 2, 3, 4, 5], .iload 5, 2, 0, 0, 0), (12, none, .iload 4, 2, 0, 0, 0), (14, none, .if_icmp .ge 39, 3, 53, 0, 0), (17, none, .aload_n 0, 1, 0, 0, 0), (18, none, .iload_n 1, 1, 0, 0, 0), (19, none, .invokestatic 71, 3, 2, 28, 1), (22, none, .istore 6, 2, 0, 0, 0), (24, none, .iload 6, 2, 0, 0, 0), (26, none, .sipush 255, 3, 0, 255, 0), (29, none, .if_icmp .le 6, 3, 35, 0, 0), (32, none, .iload 5, 2, 0, 0, 0), (34, none, .ireturn, 1, 0, 0, 0)] := fq_of2 cd_150 ow_150 cl_150 rfl (pc := 10) (by decide +kernel)
    j_ild (pc := 10) D rfl rfl rfl fun D =>
    j_ild (pc := 12) D rfl rfl rfl fun D =>
    j_ige (pc := 14) D rfl (fun q D =>
      j_aldn (pc := 17) D rfl rfl rfl fun D =>
      j_ildn (pc := 18) D rfl rfl rfl fun D =>
      j_is (pc := 19) (m := 28) (a := [(4, x0), (0, x1)]) (rest := []) D rfl rfl rfl rfl (fun v2 h1 e1 D =>
        have T := fj_run_ok _ _ _ _ _ _ H.1 e1
        have H := shp_st H T
        j_ist (pc := 22) (L' := [(6, (0, v2)), (0, (4, x0)), (1, (0, x1)), (2, (4, x2)), (3, (0, x3)), (4, (0, x4)), (5, (0, x5))]) D rfl nl_150 rfl rfl fun D =>
        j_ild (pc := 24) D rfl rfl rfl fun D =>
        j_sp (pc := 26) D rfl fun D =>
        j_ile (pc := 29) D rfl (fun q D =>
          j_ild (pc := 32) D rfl rfl rfl fun D =>
          j_iret D rt_150) (fun q =>
          have D : fk_D 150 [(35, none, .aload_n 2, 1, 0, 0, 0), (36, none, .iload_n 3, 1, 0, 0, 0), (37, none, .iload 6, 2, 0, 0, 0), (39, none, .i2b, 1, 0, 0, 0), (40, none, .bastore, 1, 0, 0, 0), (41, none, .iinc 1 1, 3, 0, 1, 0), (44, none, .iinc 3 1, 3, 0, 1, 0), (47, none, .iinc 5 1, 3, 0, 1, 0), (50, none, .goto (-40), 3, 10, 0, 0)] := fq_of2 cd_150 ow_150 cl_150 rfl (pc := 35) (by decide +kernel)
          j_aldn (pc := 35) D rfl rfl rfl fun D =>
          j_ildn (pc := 36) D rfl rfl rfl fun D =>
          j_ild (pc := 37) D rfl rfl rfl fun D =>
          j_i2b (pc := 39) D rfl fun D =>
          j_asub (pc := 40) D rfl rfl gn gn gn fun h4 eh4 S q q2 D =>
          have T := fj_hs_ok H.1 S
          have H := shp_st H T
          j_inc (pc := 41) (L' := [(1, (0, wI (x1 + 1))), (6, (0, v2)), (0, (4, x0)), (2, (4, x2)), (3, (0, x3)), (4, (0, x4)), (5, (0, x5))]) D rfl rfl rfl (by decide +kernel) rfl fun D =>
          j_inc (pc := 44) (L' := [(3, (0, wI (x3 + 1))), (1, (0, wI (x1 + 1))), (6, (0, v2)), (0, (4, x0)), (2, (4, x2)), (4, (0, x4)), (5, (0, x5))]) D rfl rfl rfl (by decide +kernel) rfl fun D =>
          j_inc (pc := 47) (L' := [(5, (0, wI (x5 + 1))), (3, (0, wI (x3 + 1))), (1, (0, wI (x1 + 1))), (6, (0, v2)), (0, (4, x0)), (2, (4, x2)), (4, (0, x4))]) D rfl rfl rfl (by decide +kernel) rfl fun D =>
          j_goto (pc := 50) D rfl <|
          fk_jump cut_150_10 rfl rfl)) (fun q3 h1 e1 =>
        j_tx (hx_150 _))) (fun q =>
      have D : fk_D 150 [(53, none, .iload 4, 2, 0, 0, 0), (55, none, .ireturn, 1, 0, 0, 0)] := fq_of2 cd_150 ow_150 cl_150 rfl (pc := 53) (by decide +kernel)
      j_ild (pc := 53) D rfl rfl rfl fun D =>
      j_iret D rt_150)
theorem m_150 (d : Nat) (x0 x1 x2 x3 x4 : Int) {h : fi_H} (H : Shp h) : fj_run (d + 1) 150 h [(4, x0), (0, x1), (4, x2), (0, x3), (0, x4)] =
  cv_ (fj_run d 135 h [(0, x1), (0, x4), (4, x0)])
    (fun h1 =>
    c_150_10 d x0 x1 x2 x3 x4 0 h1)
    (fun q3 h1 => tx_ q3 h1) := by
  rw [fj_run_eq d (by decide) h [(4, x0), (0, x1), (4, x2), (0, x3), (0, x4)] (Nat.le_of_ble_eq_true (by rw [nl_150]; rfl))]
  show gG (fj_run d) 150 0 [(0, (4, x0)), (1, (0, x1)), (2, (4, x2)), (3, (0, x3)), (4, (0, x4))] [] h = _
  exact
    have D : fk_D 150 [(0, none, .iload_n 1, 1, 0, 0, 0), (1, none, .iload 4, 2, 0, 0, 0), (3, none, .aload_n 0, 1, 0, 0, 0), (4, none, .invokestatic 173, 3, 3, 135, 0), (7, none, .iconst 0, 1, 0, 0, 0), (8, none, .istore 5, 2, 0, 0, 0)] := fq_of2 cd_150 ow_150 cl_150 rfl (pc := 0) (by decide +kernel)
    j_ildn (pc := 0) D rfl rfl rfl fun D =>
    j_ild (pc := 1) D rfl rfl rfl fun D =>
    j_aldn (pc := 3) D rfl rfl rfl fun D =>
    j_isv (pc := 4) (m := 135) (a := [(0, x1), (0, x4), (4, x0)]) (rest := []) D rfl rfl rfl rfl (fun h1 e1 D =>
      have T := fj_run_ok _ _ _ _ _ _ H.1 e1
      have H := shp_st H T
      j_ic (pc := 7) D rfl fun D =>
      j_ist (pc := 8) (L' := [(5, (0, 0)), (0, (4, x0)), (1, (0, x1)), (2, (4, x2)), (3, (0, x3)), (4, (0, x4))]) D rfl nl_150 rfl rfl fun D =>
      fk_jump cut_150_10 rfl rfl) (fun q3 h1 e1 =>
      j_tx (hx_150 _))
/-! 151 java/lang/StringUTF16.coderFromArrayLen([BI)B -/
theorem cd_151 : fi_code 151 = prog_89_method_15_code := rfl
theorem hx_151 : ∀ pc, fi_hat 151 pc = none := fun pc => by unfold fi_hat; rw [show fi_hh 151 = [] from rfl]; rfl
theorem rt_151 : fi_ret 151 = some .byte := rfl
theorem nl_151 : fi_nl 151 = 2 := rfl
theorem ow_151 : fi_ow 151 = 80 := rfl
theorem cl_151 : fj_cutT.getD 151 [] = [] := rfl
theorem m_151 (d : Nat) (x0 x1 : Int) {h : fi_H} (H : Shp h) : fj_run (d + 1) 151 h [(4, x0), (0, x1)] =
  if fk_isA (h 0 x0.toNat 0) = true then
  if -128 ≤ wB (su_ (wI (x1 - (h 1 x0.toNat 0))) 31) ∧ wB (su_ (wI (x1 - (h 1 x0.toNat 0))) 31) < 128 then some (.inl (some (0, wB (su_ (wI (x1 - (h 1 x0.toNat 0))) 31))), h) else none
  else none := by
  rw [fj_run_eq d (by decide) h [(4, x0), (0, x1)] (Nat.le_of_ble_eq_true (by rw [nl_151]; rfl))]
  show gG (fj_run d) 151 0 [(0, (4, x0)), (1, (0, x1))] [] h = _
  exact
    have D : fk_D 151 [(0, none, .iload_n 1, 1, 0, 0, 0), (1, none, .aload_n 0, 1, 0, 0, 0), (2, none, .arraylength, 1, 0, 0, 0), (3, none, .isub, 1, 0, 0, 0), (4, none, .bipush 31, 2, 0, 31, 0), (6, none, .iushr, 1, 0, 0, 0), (7, none, .i2b, 1, 0, 0, 0), (8, none, .ireturn, 1, 0, 0, 0)] := fq_of2 cd_151 ow_151 cl_151 rfl (pc := 0) (by decide +kernel)
    j_ildn (pc := 0) D rfl rfl rfl fun D =>
    j_aldn (pc := 1) D rfl rfl rfl fun D =>
    j_lenu (pc := 2) H.2.1 D rfl fun q D =>
    j_isub (pc := 3) D rfl fun D =>
    j_bp (pc := 4) D rfl fun D =>
    j_iushr (pc := 6) D rfl fun D =>
    j_i2b (pc := 7) D rfl fun D =>
    j_bret D rt_151 gn
/-! 152 StatuteHouse$Reader.digits(I)I -/
theorem cd_152 : fi_code 152 = prog_53_method_10_code := rfl
theorem hx_152 : ∀ pc, fi_hat 152 pc = none := fun pc => by unfold fi_hat; rw [show fi_hh 152 = [] from rfl]; rfl
theorem rt_152 : fi_ret 152 = some .int := rfl
theorem nl_152 : fi_nl 152 = 5 := rfl
theorem ow_152 : fi_ow 152 = 15 := rfl
theorem cl_152 : fj_cutT.getD 152 [] = [(4, [0, 1, 2, 3]), (66, [0, 1, 2, 3]), (149, [0, 1, 2, 3])] := rfl
theorem cut_152_4 : fj_cut 152 4 = some [0, 1, 2, 3] := by decide +kernel
noncomputable def c_152_4 (d : Nat) (x1 x2 x3 : Int) (h : fi_H) : fk_R := gG (fj_run d) 152 4 [(0, (4, 377)), (1, (0, x1)), (2, (0, x2)), (3, (1, x3))] [] h
theorem cut_152_66 : fj_cut 152 66 = some [0, 1, 2, 3] := by decide +kernel
noncomputable def c_152_66 (d : Nat) (x1 x2 x3 s0 s1 s2 : Int) (h : fi_H) : fk_R := gG (fj_run d) 152 66 [(0, (4, 377)), (1, (0, x1)), (2, (0, x2)), (3, (1, x3))] [(0, s2), (0, s1), (4, s0)] h
theorem cut_152_149 : fj_cut 152 149 = some [0, 1, 2, 3] := by decide +kernel
noncomputable def c_152_149 (d : Nat) (x1 x2 x3 : Int) (h : fi_H) : fk_R := gG (fj_run d) 152 149 [(0, (4, 377)), (1, (0, x1)), (2, (0, x2)), (3, (1, x3))] [] h
theorem e_152_4 (d : Nat) (x1 x2 x3 : Int) {h : fi_H} (H : Shp h) : c_152_4 d x1 x2 x3 h =
  ca_ (fj_run d 114 h [(4, 377), (0, x2)]) 0
    (fun v2 h1 =>
    ca_ (fj_run d 128 h1 [(4, 377), (0, v2)]) 0
      (fun v5 h4 =>
      if v5 = 0 then
        if 9 < wI (x2 - x1) then
          c_152_66 d x1 x2 x3 378 (h4 157 377 0) 1 h4
        else
          c_152_66 d x1 x2 x3 378 (h4 157 377 0) 3 h4
      else
        ca_ (fj_run d 114 h4 [(4, 377), (0, x2)]) 0
          (fun v8 h7 =>
          ca_ (fj_run d 153 h7 [(1, 10000000000), (1, wJ ((wJ ((wJ (10 * x3)) + (wI v8))) - 48))]) 1
            (fun v11 h10 =>
            c_152_4 d x1 (wI (x2 + 1)) v11 h10)
            (fun q12 h10 => tx_ q12 h10))
          (fun q9 h7 => tx_ q9 h7))
      (fun q6 h4 => tx_ q6 h4))
    (fun q3 h1 => tx_ q3 h1) := by
  unfold c_152_4
  exact
    have D : fk_D 152 [(4, some [0, 1, 2, 3], .aload_n 0, 1, 0, 0, 0), (5, none, .aload_n 0, 1, 0, 0, 0), (6, none, .iload_n 2, 1, 0, 0, 0), (7, none, .invokevirtual 135, 3, 1, 248, 1), (10, none, .invokevirtual 146, 3, 1, 251, 1), (13, none, .ifCond .eq 32, 3, 45, 0, 0), (16, none, .ldc2_w 160, 3, 1, 10000000000, 0), (19, none, .ldc2_w 162, 3, 1, 10, 0), (22, none, .lload_n 3, 1, 0, 0, 0), (23, none, .lmul, 1, 0, 0, 0), (24, none, .aload_n 0, 1, 0, 0, 0), (25, none, .iload_n 2, 1, 0, 0, 0), (26, none, .invokevirtual 135, 3, 1, 248, 1), (29, none, .i2l, 1, 0, 0, 0), (30, none, .ladd, 1, 0, 0, 0), (31, none, .ldc2_w 164, 3, 1, 48, 0), (34, none, .lsub, 1, 0, 0, 0), (35, none, .invokestatic 166, 3, 2, 153, 2), (38, none, .lstore_n 3, 1, 0, 0, 0), (39, none, .iinc 2 1, 3, 0, 1, 0)] := fq_of2 cd_152 ow_152 cl_152 rfl (pc := 4) (by decide +kernel)
    j_aldn (pc := 4) D rfl rfl rfl fun D =>
    j_aldn (pc := 5) D rfl rfl rfl fun D =>
    j_ildn (pc := 6) D rfl rfl rfl fun D =>
    j_iv (pc := 7) (m := 114) (dd := 248) (a := [(0, x2)]) (rest := [(4, 377)]) D rfl rfl rfl rfl rfl (by decide) (s0_377 H) (by decide +kernel) (fun v2 h1 e1 D =>
      have T := fj_run_ok _ _ _ _ _ _ H.1 e1
      have H := shp_st H T
      j_iv (pc := 10) (m := 128) (dd := 251) (a := [(0, v2)]) (rest := []) D rfl rfl rfl rfl rfl (by decide) (s0_377 H) (by decide +kernel) (fun v5 h4 e1 D =>
        have T := fj_run_ok _ _ _ _ _ _ H.1 e1
        have H := shp_st H T
        j_ifeq (pc := 13) D rfl (fun q =>
          have D : fk_D 152 [(45, none, .aload_n 0, 1, 0, 0, 0), (46, none, .getfield 15, 3, 149, 115, 12), (49, none, .aload_n 0, 1, 0, 0, 0), (50, none, .getfield 107, 3, 157, 115, 10), (53, none, .iload_n 2, 1, 0, 0, 0), (54, none, .iload_n 1, 1, 0, 0, 0), (55, none, .isub, 1, 0, 0, 0), (56, none, .bipush 9, 2, 0, 9, 0), (58, none, .if_icmp .le 7, 3, 65, 0, 0), (61, none, .iconst 1, 1, 0, 1, 0), (62, none, .goto 4, 3, 66, 0, 0)] := fq_of2 cd_152 ow_152 cl_152 rfl (pc := 45) (by decide +kernel)
          j_aldn (pc := 45) D rfl rfl rfl fun D =>
          j_gfc (pc := 46) (a := 377) D rfl rfl (by decide) rfl (s0_377 H) rfl (sf_149_377 H) fun D =>
          j_aldn (pc := 49) D rfl rfl rfl fun D =>
          j_gf (pc := 50) (a := 377) D rfl rfl (by decide) rfl (s0_377 H) rfl fun D =>
          j_ildn (pc := 53) D rfl rfl rfl fun D =>
          j_ildn (pc := 54) D rfl rfl rfl fun D =>
          j_isub (pc := 55) D rfl fun D =>
          j_bp (pc := 56) D rfl fun D =>
          j_ile (pc := 58) D rfl (fun q D =>
            j_ic (pc := 61) D rfl fun D =>
            j_goto (pc := 62) D rfl <|
            fk_jump cut_152_66 rfl rfl) (fun q =>
            have D : fk_D 152 [(65, none, .iconst 3, 1, 0, 3, 0)] := fq_of2 cd_152 ow_152 cl_152 rfl (pc := 65) (by decide +kernel)
            j_ic (pc := 65) D rfl fun D =>
            fk_jump cut_152_66 rfl rfl)) (fun q D =>
          j_ldc2 (pc := 16) D rfl fun D =>
          j_ldc2 (pc := 19) D rfl fun D =>
          j_lldn (pc := 22) D rfl rfl rfl fun D =>
          j_lmul (pc := 23) D rfl fun D =>
          j_aldn (pc := 24) D rfl rfl rfl fun D =>
          j_ildn (pc := 25) D rfl rfl rfl fun D =>
          j_iv (pc := 26) (m := 114) (dd := 248) (a := [(0, x2)]) (rest := [(1, wJ (10 * x3)), (1, 10000000000)]) D rfl rfl rfl rfl rfl (by decide) (s0_377 H) (by decide +kernel) (fun v8 h7 e1 D =>
            have T := fj_run_ok _ _ _ _ _ _ H.1 e1
            have H := shp_st H T
            j_i2l (pc := 29) D rfl fun D =>
            j_ladd (pc := 30) D rfl fun D =>
            j_ldc2 (pc := 31) D rfl fun D =>
            j_lsub (pc := 34) D rfl fun D =>
            j_is (pc := 35) (m := 153) (a := [(1, 10000000000), (1, wJ ((wJ ((wJ (10 * x3)) + (wI v8))) - 48))]) (rest := []) D rfl rfl rfl rfl (fun v11 h10 e1 D =>
              have T := fj_run_ok _ _ _ _ _ _ H.1 e1
              have H := shp_st H T
              j_lstn (pc := 38) (L' := [(3, (1, v11)), (0, (4, 377)), (1, (0, x1)), (2, (0, x2))]) D rfl nl_152 rfl rfl fun D =>
              j_inc (pc := 39) (L' := [(2, (0, wI (x2 + 1))), (3, (1, v11)), (0, (4, 377)), (1, (0, x1))]) D rfl rfl rfl (by decide +kernel) rfl fun D =>
              have D : fk_D 152 [(42, none, .goto (-38), 3, 4, 0, 0)] := fq_of2 cd_152 ow_152 cl_152 rfl (pc := 42) (by decide +kernel)
              j_goto (pc := 42) D rfl <|
              fk_jump cut_152_4 rfl rfl) (fun q12 h10 e1 =>
              j_tx (hx_152 _))) (fun q9 h7 e1 =>
            j_tx (hx_152 _)))) (fun q6 h4 e1 =>
        j_tx (hx_152 _))) (fun q3 h1 e1 =>
      j_tx (hx_152 _))
theorem e_152_66 (d : Nat) (x1 x2 x3 s0 s1 s2 : Int) {h : fi_H} (H : Shp h) : c_152_66 d x1 x2 x3 s0 s1 s2 h =
  if 302 < s0 ∧ fi_et 1 (h 0 s0.toNat 0) ≠ 0 then
  if 0 ≤ s1 ∧ s1 < h 1 s0.toNat 0 then
  if fi_rg (fi_et 1 (h 0 s0.toNat 0)) (wB s2) = true then
  lt_ (fi_upd h (fi_et 1 (h 0 s0.toNat 0)) s0.toNat s1.toNat (wB s2)) fun h1 =>
  if 0 ≤ h1 157 377 0 ∧ h1 157 377 0 < 1202 then
  lt_ (fi_upd h1 10 380 (h1 157 377 0).toNat (wI x3)) fun h2 =>
  if 0 ≤ h2 157 377 0 ∧ h2 157 377 0 < 1202 then
  if h2 8 378 (h2 157 377 0).toNat = 3 then
    ca_ (fj_run d 114 h2 [(4, 377), (0, x2)]) 0
      (fun v6 h5 =>
      if v6 = 46 then
        ca_ (fj_run d 154 h5 [(4, 377), (0, wI (x2 + 1))]) 0
          (fun v9 h8 =>
          if v9 = 0 then
            c_152_149 d x1 x2 x3 h8
          else
            if 0 ≤ h8 157 377 0 ∧ h8 157 377 0 < 1202 then
            lt_ (fi_upd h8 8 378 (h8 157 377 0).toNat 4) fun h11 =>
            ca_ (fj_run d 155 h11 [(4, 377), (0, wI (x2 + 1))]) 0
              (fun v14 h13 =>
              if 0 ≤ h11 157 377 0 ∧ h11 157 377 0 < 1202 then
              lt_ (fi_upd h13 11 381 (h11 157 377 0).toNat (wJ ((wJ (100 * x3)) + (wI v14)))) fun h16 =>
              some (.inl (some (0, wI (x2 + 3))), h16)
              else none)
              (fun q15 h13 => tx_ q15 h13)
            else none)
          (fun q10 h8 => tx_ q10 h8)
      else
        c_152_149 d x1 x2 x3 h5)
      (fun q7 h5 => tx_ q7 h5)
  else
    c_152_149 d x1 x2 x3 h2
  else none
  else none
  else none
  else none
  else none := by
  unfold c_152_66
  exact
    have D : fk_D 152 [(66, some [0, 1, 2, 3], .i2b, 1, 0, 0, 0), (67, none, .bastore, 1, 0, 0, 0), (68, none, .aload_n 0, 1, 0, 0, 0), (69, none, .getfield 23, 3, 151, 115, 12), (72, none, .aload_n 0, 1, 0, 0, 0), (73, none, .getfield 107, 3, 157, 115, 10), (76, none, .lload_n 3, 1, 0, 0, 0), (77, none, .l2i, 1, 0, 0, 0), (78, none, .iastore, 1, 0, 0, 0), (79, none, .aload_n 0, 1, 0, 0, 0), (80, none, .getfield 15, 3, 149, 115, 12), (83, none, .aload_n 0, 1, 0, 0, 0), (84, none, .getfield 107, 3, 157, 115, 10), (87, none, .baload, 1, 0, 0, 0), (88, none, .iconst 3, 1, 0, 3, 0), (89, none, .if_icmp .ne 60, 3, 149, 0, 0), (92, none, .aload_n 0, 1, 0, 0, 0), (93, none, .iload_n 2, 1, 0, 0, 0), (94, none, .invokevirtual 135, 3, 1, 248, 1), (97, none, .bipush 46, 2, 0, 46, 0)] := fq_of2 cd_152 ow_152 cl_152 rfl (pc := 66) (by decide +kernel)
    j_i2b (pc := 66) D rfl fun D =>
    j_asub (pc := 67) D rfl rfl gn gn gn fun h1 eh1 S q q2 D =>
    have T := fj_hs_ok H.1 S
    have H := shp_st H T
    j_aldn (pc := 68) D rfl rfl rfl fun D =>
    j_gfc (pc := 69) (a := 377) D rfl rfl (by decide) rfl (s0_377 H) rfl (sf_151_377 H) fun D =>
    j_aldn (pc := 72) D rfl rfl rfl fun D =>
    j_gf (pc := 73) (a := 377) D rfl rfl (by decide) rfl (s0_377 H) rfl fun D =>
    j_lldn (pc := 76) D rfl rfl rfl fun D =>
    j_l2i (pc := 77) D rfl fun D =>
    j_as (pc := 78) (a := 380) (e := 10) D rfl ⟨rfl, rfl⟩ rfl (by decide) (s0_380 H) (s1_380 H) ⟨rfl, rfl, rfl⟩ rfl gn (gy rfl) fun h2 eh2 S qb3 D =>
    have T := fj_hs_ok H.1 S
    have H := shp_st H T
    j_aldn (pc := 79) D rfl rfl rfl fun D =>
    j_gfc (pc := 80) (a := 377) D rfl rfl (by decide) rfl (s0_377 H) rfl (sf_149_377 H) fun D =>
    j_aldn (pc := 83) D rfl rfl rfl fun D =>
    j_gf (pc := 84) (a := 377) D rfl rfl (by decide) rfl (s0_377 H) rfl fun D =>
    j_al (pc := 87) (a := 378) (e := 8) D rfl rfl rfl (by decide) (s0_378 H) (s1_378 H) ⟨rfl, rfl, rfl⟩ rfl gn fun qb4 D =>
    j_ic (pc := 88) D rfl fun D =>
    j_ine (pc := 89) D rfl (fun q D =>
      j_aldn (pc := 92) D rfl rfl rfl fun D =>
      j_ildn (pc := 93) D rfl rfl rfl fun D =>
      j_iv (pc := 94) (m := 114) (dd := 248) (a := [(0, x2)]) (rest := []) D rfl rfl rfl rfl rfl (by decide) (s0_377 H) (by decide +kernel) (fun v6 h5 e1 D =>
        have T := fj_run_ok _ _ _ _ _ _ H.1 e1
        have H := shp_st H T
        j_bp (pc := 97) D rfl fun D =>
        have D : fk_D 152 [(99, none, .if_icmp .ne 50, 3, 149, 0, 0), (102, none, .aload_n 0, 1, 0, 0, 0), (103, none, .iload_n 2, 1, 0, 0, 0), (104, none, .iconst 1, 1, 0, 1, 0), (105, none, .iadd, 1, 0, 0, 0), (106, none, .invokevirtual 172, 3, 1, 255, 1), (109, none, .ifCond .eq 40, 3, 149, 0, 0), (112, none, .aload_n 0, 1, 0, 0, 0), (113, none, .getfield 15, 3, 149, 115, 12), (116, none, .aload_n 0, 1, 0, 0, 0), (117, none, .getfield 107, 3, 157, 115, 10), (120, none, .iconst 4, 1, 0, 4, 0), (121, none, .bastore, 1, 0, 0, 0), (122, none, .aload_n 0, 1, 0, 0, 0), (123, none, .getfield 27, 3, 152, 115, 12), (126, none, .aload_n 0, 1, 0, 0, 0), (127, none, .getfield 107, 3, 157, 115, 10), (130, none, .ldc2_w 175, 3, 1, 100, 0), (133, none, .lload_n 3, 1, 0, 0, 0), (134, none, .lmul, 1, 0, 0, 0)] := fq_of2 cd_152 ow_152 cl_152 rfl (pc := 99) (by decide +kernel)
        j_ine (pc := 99) D rfl (fun q D =>
          j_aldn (pc := 102) D rfl rfl rfl fun D =>
          j_ildn (pc := 103) D rfl rfl rfl fun D =>
          j_ic (pc := 104) D rfl fun D =>
          j_iadd (pc := 105) D rfl fun D =>
          j_iv (pc := 106) (m := 154) (dd := 255) (a := [(0, wI (x2 + 1))]) (rest := []) D rfl rfl rfl rfl rfl (by decide) (s0_377 H) (by decide +kernel) (fun v9 h8 e1 D =>
            have T := fj_run_ok _ _ _ _ _ _ H.1 e1
            have H := shp_st H T
            j_ifeq (pc := 109) D rfl (fun q =>
              fk_jump cut_152_149 rfl rfl) (fun q D =>
              j_aldn (pc := 112) D rfl rfl rfl fun D =>
              j_gfc (pc := 113) (a := 377) D rfl rfl (by decide) rfl (s0_377 H) rfl (sf_149_377 H) fun D =>
              j_aldn (pc := 116) D rfl rfl rfl fun D =>
              j_gf (pc := 117) (a := 377) D rfl rfl (by decide) rfl (s0_377 H) rfl fun D =>
              j_ic (pc := 120) D rfl fun D =>
              j_as (pc := 121) (a := 378) (e := 8) D rfl ⟨rfl, rfl⟩ rfl (by decide) (s0_378 H) (s1_378 H) ⟨rfl, rfl, rfl⟩ rfl gn (gy (by decide)) fun h11 eh11 S qb12 D =>
              have T := fj_hs_ok H.1 S
              have H := shp_st H T
              j_aldn (pc := 122) D rfl rfl rfl fun D =>
              j_gfc (pc := 123) (a := 377) D rfl rfl (by decide) rfl (s0_377 H) rfl (sf_152_377 H) fun D =>
              j_aldn (pc := 126) D rfl rfl rfl fun D =>
              j_gf (pc := 127) (a := 377) D rfl rfl (by decide) rfl (s0_377 H) rfl fun D =>
              j_ldc2 (pc := 130) D rfl fun D =>
              j_lldn (pc := 133) D rfl rfl rfl fun D =>
              j_lmul (pc := 134) D rfl fun D =>
              have D : fk_D 152 [(135, none, .aload_n 0, 1, 0, 0, 0), (136, none, .iload_n 2, 1, 0, 0, 0), (137, none, .iconst 1, 1, 0, 1, 0), (138, none, .iadd, 1, 0, 0, 0), (139, none, .invokevirtual 177, 3, 1, 256, 1), (142, none, .i2l, 1, 0, 0, 0), (143, none, .ladd, 1, 0, 0, 0), (144, none, .lastore, 1, 0, 0, 0), (145, none, .iload_n 2, 1, 0, 0, 0), (146, none, .iconst 3, 1, 0, 3, 0), (147, none, .iadd, 1, 0, 0, 0), (148, none, .ireturn, 1, 0, 0, 0)] := fq_of2 cd_152 ow_152 cl_152 rfl (pc := 135) (by decide +kernel)
              j_aldn (pc := 135) D rfl rfl rfl fun D =>
              j_ildn (pc := 136) D rfl rfl rfl fun D =>
              j_ic (pc := 137) D rfl fun D =>
              j_iadd (pc := 138) D rfl fun D =>
              j_iv (pc := 139) (m := 155) (dd := 256) (a := [(0, wI (x2 + 1))]) (rest := [(1, wJ (100 * x3)), (0, h11 157 377 0), (4, 381)]) D rfl rfl rfl rfl rfl (by decide) (s0_377 H) (by decide +kernel) (fun v14 h13 e1 D =>
                have T := fj_run_ok _ _ _ _ _ _ H.1 e1
                have H := shp_st H T
                j_i2l (pc := 142) D rfl fun D =>
                j_ladd (pc := 143) D rfl fun D =>
                j_as (pc := 144) (a := 381) (e := 11) D rfl ⟨rfl, rfl⟩ rfl (by decide) (s0_381 H) (s1_381 H) ⟨rfl, rfl, rfl⟩ rfl gn (gy rfl) fun h16 eh16 S qb17 D =>
                have T := fj_hs_ok H.1 S
                have H := shp_st H T
                j_ildn (pc := 145) D rfl rfl rfl fun D =>
                j_ic (pc := 146) D rfl fun D =>
                j_iadd (pc := 147) D rfl fun D =>
                j_iret D rt_152) (fun q15 h13 e1 =>
                j_tx (hx_152 _)))) (fun q10 h8 e1 =>
            j_tx (hx_152 _))) (fun q =>
          fk_jump cut_152_149 rfl rfl)) (fun q7 h5 e1 =>
        j_tx (hx_152 _))) (fun q =>
      fk_jump cut_152_149 rfl rfl)
theorem e_152_149 (d : Nat) (x1 x2 x3 : Int) {h : fi_H} (H : Shp h) : c_152_149 d x1 x2 x3 h =
  if wI (x2 - x1) = 4 then
    ca_ (fj_run d 114 h [(4, 377), (0, x2)]) 0
      (fun v2 h1 =>
      if v2 = 45 then
        ca_ (fj_run d 154 h1 [(4, 377), (0, wI (x2 + 1))]) 0
          (fun v5 h4 =>
          if v5 = 0 then
            some (.inl (some (0, x2)), h4)
          else
            ca_ (fj_run d 114 h4 [(4, 377), (0, wI (x2 + 3))]) 0
              (fun v8 h7 =>
              if v8 = 45 then
                ca_ (fj_run d 154 h7 [(4, 377), (0, wI (x2 + 4))]) 0
                  (fun v11 h10 =>
                  if v11 = 0 then
                    some (.inl (some (0, x2)), h10)
                  else
                    if 0 ≤ h10 157 377 0 ∧ h10 157 377 0 < 1202 then
                    lt_ (fi_upd h10 8 378 (h10 157 377 0).toNat 5) fun h13 =>
                    ca_ (fj_run d 155 h13 [(4, 377), (0, wI (x2 + 1))]) 0
                      (fun v16 h15 =>
                      ca_ (fj_run d 155 h15 [(4, 377), (0, wI (x2 + 4))]) 0
                        (fun v19 h18 =>
                        ca_ (fj_run d 156 h18 [(1, x3), (1, wI v16), (1, wI v19)]) 0
                          (fun v22 h21 =>
                          if 0 ≤ h13 157 377 0 ∧ h13 157 377 0 < 1202 then
                          lt_ (fi_upd h21 10 380 (h13 157 377 0).toNat v22) fun h24 =>
                          some (.inl (some (0, wI (x2 + 6))), h24)
                          else none)
                          (fun q23 h21 => tx_ q23 h21))
                        (fun q20 h18 => tx_ q20 h18))
                      (fun q17 h15 => tx_ q17 h15)
                    else none)
                  (fun q12 h10 => tx_ q12 h10)
              else
                some (.inl (some (0, x2)), h7))
              (fun q9 h7 => tx_ q9 h7))
          (fun q6 h4 => tx_ q6 h4)
      else
        some (.inl (some (0, x2)), h1))
      (fun q3 h1 => tx_ q3 h1)
  else
    some (.inl (some (0, x2)), h) := by
  unfold c_152_149
  exact
    have D : fk_D 152 [(149, some [0, 1, 2, 3], .iload_n 2, 1, 0, 0, 0), (150, none, .iload_n 1, 1, 0, 0, 0), (151, none, .isub, 1, 0, 0, 0), (152, none, .iconst 4, 1, 0, 4, 0), (153, none, .if_icmp .ne 89, 3, 242, 0, 0), (156, none, .aload_n 0, 1, 0, 0, 0), (157, none, .iload_n 2, 1, 0, 0, 0), (158, none, .invokevirtual 135, 3, 1, 248, 1), (161, none, .bipush 45, 2, 0, 45, 0), (163, none, .if_icmp .ne 79, 3, 242, 0, 0), (166, none, .aload_n 0, 1, 0, 0, 0), (167, none, .iload_n 2, 1, 0, 0, 0), (168, none, .iconst 1, 1, 0, 1, 0), (169, none, .iadd, 1, 0, 0, 0), (170, none, .invokevirtual 172, 3, 1, 255, 1), (173, none, .ifCond .eq 69, 3, 242, 0, 0), (176, none, .aload_n 0, 1, 0, 0, 0), (177, none, .iload_n 2, 1, 0, 0, 0), (178, none, .iconst 3, 1, 0, 3, 0), (179, none, .iadd, 1, 0, 0, 0)] := fq_of2 cd_152 ow_152 cl_152 rfl (pc := 149) (by decide +kernel)
    j_ildn (pc := 149) D rfl rfl rfl fun D =>
    j_ildn (pc := 150) D rfl rfl rfl fun D =>
    j_isub (pc := 151) D rfl fun D =>
    j_ic (pc := 152) D rfl fun D =>
    j_ine (pc := 153) D rfl (fun q D =>
      j_aldn (pc := 156) D rfl rfl rfl fun D =>
      j_ildn (pc := 157) D rfl rfl rfl fun D =>
      j_iv (pc := 158) (m := 114) (dd := 248) (a := [(0, x2)]) (rest := []) D rfl rfl rfl rfl rfl (by decide) (s0_377 H) (by decide +kernel) (fun v2 h1 e1 D =>
        have T := fj_run_ok _ _ _ _ _ _ H.1 e1
        have H := shp_st H T
        j_bp (pc := 161) D rfl fun D =>
        j_ine (pc := 163) D rfl (fun q D =>
          j_aldn (pc := 166) D rfl rfl rfl fun D =>
          j_ildn (pc := 167) D rfl rfl rfl fun D =>
          j_ic (pc := 168) D rfl fun D =>
          j_iadd (pc := 169) D rfl fun D =>
          j_iv (pc := 170) (m := 154) (dd := 255) (a := [(0, wI (x2 + 1))]) (rest := []) D rfl rfl rfl rfl rfl (by decide) (s0_377 H) (by decide +kernel) (fun v5 h4 e1 D =>
            have T := fj_run_ok _ _ _ _ _ _ H.1 e1
            have H := shp_st H T
            j_ifeq (pc := 173) D rfl (fun q =>
              have D : fk_D 152 [(242, none, .iload_n 2, 1, 0, 0, 0), (243, none, .ireturn, 1, 0, 0, 0)] := fq_of2 cd_152 ow_152 cl_152 rfl (pc := 242) (by decide +kernel)
              j_ildn (pc := 242) D rfl rfl rfl fun D =>
              j_iret D rt_152) (fun q D =>
              j_aldn (pc := 176) D rfl rfl rfl fun D =>
              j_ildn (pc := 177) D rfl rfl rfl fun D =>
              j_ic (pc := 178) D rfl fun D =>
              j_iadd (pc := 179) D rfl fun D =>
              have D : fk_D 152 [(180, none, .invokevirtual 135, 3, 1, 248, 1), (183, none, .bipush 45, 2, 0, 45, 0), (185, none, .if_icmp .ne 57, 3, 242, 0, 0), (188, none, .aload_n 0, 1, 0, 0, 0), (189, none, .iload_n 2, 1, 0, 0, 0), (190, none, .iconst 4, 1, 0, 4, 0), (191, none, .iadd, 1, 0, 0, 0), (192, none, .invokevirtual 172, 3, 1, 255, 1), (195, none, .ifCond .eq 47, 3, 242, 0, 0), (198, none, .aload_n 0, 1, 0, 0, 0), (199, none, .getfield 15, 3, 149, 115, 12), (202, none, .aload_n 0, 1, 0, 0, 0), (203, none, .getfield 107, 3, 157, 115, 10), (206, none, .iconst 5, 1, 0, 5, 0), (207, none, .bastore, 1, 0, 0, 0), (208, none, .aload_n 0, 1, 0, 0, 0), (209, none, .getfield 23, 3, 151, 115, 12), (212, none, .aload_n 0, 1, 0, 0, 0), (213, none, .getfield 107, 3, 157, 115, 10), (216, none, .lload_n 3, 1, 0, 0, 0)] := fq_of2 cd_152 ow_152 cl_152 rfl (pc := 180) (by decide +kernel)
              j_iv (pc := 180) (m := 114) (dd := 248) (a := [(0, wI (x2 + 3))]) (rest := []) D rfl rfl rfl rfl rfl (by decide) (s0_377 H) (by decide +kernel) (fun v8 h7 e1 D =>
                have T := fj_run_ok _ _ _ _ _ _ H.1 e1
                have H := shp_st H T
                j_bp (pc := 183) D rfl fun D =>
                j_ine (pc := 185) D rfl (fun q D =>
                  j_aldn (pc := 188) D rfl rfl rfl fun D =>
                  j_ildn (pc := 189) D rfl rfl rfl fun D =>
                  j_ic (pc := 190) D rfl fun D =>
                  j_iadd (pc := 191) D rfl fun D =>
                  j_iv (pc := 192) (m := 154) (dd := 255) (a := [(0, wI (x2 + 4))]) (rest := []) D rfl rfl rfl rfl rfl (by decide) (s0_377 H) (by decide +kernel) (fun v11 h10 e1 D =>
                    have T := fj_run_ok _ _ _ _ _ _ H.1 e1
                    have H := shp_st H T
                    j_ifeq (pc := 195) D rfl (fun q =>
                      have D : fk_D 152 [(242, none, .iload_n 2, 1, 0, 0, 0), (243, none, .ireturn, 1, 0, 0, 0)] := fq_of2 cd_152 ow_152 cl_152 rfl (pc := 242) (by decide +kernel)
                      j_ildn (pc := 242) D rfl rfl rfl fun D =>
                      j_iret D rt_152) (fun q D =>
                      j_aldn (pc := 198) D rfl rfl rfl fun D =>
                      j_gfc (pc := 199) (a := 377) D rfl rfl (by decide) rfl (s0_377 H) rfl (sf_149_377 H) fun D =>
                      j_aldn (pc := 202) D rfl rfl rfl fun D =>
                      j_gf (pc := 203) (a := 377) D rfl rfl (by decide) rfl (s0_377 H) rfl fun D =>
                      j_ic (pc := 206) D rfl fun D =>
                      j_as (pc := 207) (a := 378) (e := 8) D rfl ⟨rfl, rfl⟩ rfl (by decide) (s0_378 H) (s1_378 H) ⟨rfl, rfl, rfl⟩ rfl gn (gy (by decide)) fun h13 eh13 S qb14 D =>
                      have T := fj_hs_ok H.1 S
                      have H := shp_st H T
                      j_aldn (pc := 208) D rfl rfl rfl fun D =>
                      j_gfc (pc := 209) (a := 377) D rfl rfl (by decide) rfl (s0_377 H) rfl (sf_151_377 H) fun D =>
                      j_aldn (pc := 212) D rfl rfl rfl fun D =>
                      j_gf (pc := 213) (a := 377) D rfl rfl (by decide) rfl (s0_377 H) rfl fun D =>
                      j_lldn (pc := 216) D rfl rfl rfl fun D =>
                      have D : fk_D 152 [(217, none, .aload_n 0, 1, 0, 0, 0), (218, none, .iload_n 2, 1, 0, 0, 0), (219, none, .iconst 1, 1, 0, 1, 0), (220, none, .iadd, 1, 0, 0, 0), (221, none, .invokevirtual 177, 3, 1, 256, 1), (224, none, .i2l, 1, 0, 0, 0), (225, none, .aload_n 0, 1, 0, 0, 0), (226, none, .iload_n 2, 1, 0, 0, 0), (227, none, .iconst 4, 1, 0, 4, 0), (228, none, .iadd, 1, 0, 0, 0), (229, none, .invokevirtual 177, 3, 1, 256, 1), (232, none, .i2l, 1, 0, 0, 0), (233, none, .invokestatic 180, 3, 3, 156, 1), (236, none, .iastore, 1, 0, 0, 0), (237, none, .iload_n 2, 1, 0, 0, 0), (238, none, .bipush 6, 2, 0, 6, 0), (240, none, .iadd, 1, 0, 0, 0), (241, none, .ireturn, 1, 0, 0, 0)] := fq_of2 cd_152 ow_152 cl_152 rfl (pc := 217) (by decide +kernel)
                      j_aldn (pc := 217) D rfl rfl rfl fun D =>
                      j_ildn (pc := 218) D rfl rfl rfl fun D =>
                      j_ic (pc := 219) D rfl fun D =>
                      j_iadd (pc := 220) D rfl fun D =>
                      j_iv (pc := 221) (m := 155) (dd := 256) (a := [(0, wI (x2 + 1))]) (rest := [(1, x3), (0, h13 157 377 0), (4, 380)]) D rfl rfl rfl rfl rfl (by decide) (s0_377 H) (by decide +kernel) (fun v16 h15 e1 D =>
                        have T := fj_run_ok _ _ _ _ _ _ H.1 e1
                        have H := shp_st H T
                        j_i2l (pc := 224) D rfl fun D =>
                        j_aldn (pc := 225) D rfl rfl rfl fun D =>
                        j_ildn (pc := 226) D rfl rfl rfl fun D =>
                        j_ic (pc := 227) D rfl fun D =>
                        j_iadd (pc := 228) D rfl fun D =>
                        j_iv (pc := 229) (m := 155) (dd := 256) (a := [(0, wI (x2 + 4))]) (rest := [(1, wI v16), (1, x3), (0, h13 157 377 0), (4, 380)]) D rfl rfl rfl rfl rfl (by decide) (s0_377 H) (by decide +kernel) (fun v19 h18 e1 D =>
                          have T := fj_run_ok _ _ _ _ _ _ H.1 e1
                          have H := shp_st H T
                          j_i2l (pc := 232) D rfl fun D =>
                          j_is (pc := 233) (m := 156) (a := [(1, x3), (1, wI v16), (1, wI v19)]) (rest := [(0, h13 157 377 0), (4, 380)]) D rfl rfl rfl rfl (fun v22 h21 e1 D =>
                            have T := fj_run_ok _ _ _ _ _ _ H.1 e1
                            have H := shp_st H T
                            j_as (pc := 236) (a := 380) (e := 10) D rfl ⟨rfl, rfl⟩ rfl (by decide) (s0_380 H) (s1_380 H) ⟨rfl, rfl, rfl⟩ rfl gn (gy rfl) fun h24 eh24 S qb25 D =>
                            have T := fj_hs_ok H.1 S
                            have H := shp_st H T
                            j_ildn (pc := 237) D rfl rfl rfl fun D =>
                            j_bp (pc := 238) D rfl fun D =>
                            j_iadd (pc := 240) D rfl fun D =>
                            j_iret D rt_152) (fun q23 h21 e1 =>
                            j_tx (hx_152 _))) (fun q20 h18 e1 =>
                          j_tx (hx_152 _))) (fun q17 h15 e1 =>
                        j_tx (hx_152 _)))) (fun q12 h10 e1 =>
                    j_tx (hx_152 _))) (fun q =>
                  have D : fk_D 152 [(242, none, .iload_n 2, 1, 0, 0, 0), (243, none, .ireturn, 1, 0, 0, 0)] := fq_of2 cd_152 ow_152 cl_152 rfl (pc := 242) (by decide +kernel)
                  j_ildn (pc := 242) D rfl rfl rfl fun D =>
                  j_iret D rt_152)) (fun q9 h7 e1 =>
                j_tx (hx_152 _)))) (fun q6 h4 e1 =>
            j_tx (hx_152 _))) (fun q =>
          have D : fk_D 152 [(242, none, .iload_n 2, 1, 0, 0, 0), (243, none, .ireturn, 1, 0, 0, 0)] := fq_of2 cd_152 ow_152 cl_152 rfl (pc := 242) (by decide +kernel)
          j_ildn (pc := 242) D rfl rfl rfl fun D =>
          j_iret D rt_152)) (fun q3 h1 e1 =>
        j_tx (hx_152 _))) (fun q =>
      have D : fk_D 152 [(242, none, .iload_n 2, 1, 0, 0, 0), (243, none, .ireturn, 1, 0, 0, 0)] := fq_of2 cd_152 ow_152 cl_152 rfl (pc := 242) (by decide +kernel)
      j_ildn (pc := 242) D rfl rfl rfl fun D =>
      j_iret D rt_152)
theorem m_152 (d : Nat) (x1 : Int) {h : fi_H} (H : Shp h) : fj_run (d + 1) 152 h [(4, 377), (0, x1)] =
  c_152_4 d x1 x1 0 h := by
  rw [fj_run_eq d (by decide) h [(4, 377), (0, x1)] (Nat.le_of_ble_eq_true (by rw [nl_152]; rfl))]
  show gG (fj_run d) 152 0 [(0, (4, 377)), (1, (0, x1))] [] h = _
  exact
    have D : fk_D 152 [(0, none, .iload_n 1, 1, 0, 0, 0), (1, none, .istore_n 2, 1, 0, 0, 0), (2, none, .lconst 0, 1, 0, 0, 0), (3, none, .lstore_n 3, 1, 0, 0, 0)] := fq_of2 cd_152 ow_152 cl_152 rfl (pc := 0) (by decide +kernel)
    j_ildn (pc := 0) D rfl rfl rfl fun D =>
    j_istn (pc := 1) (L' := [(2, (0, x1)), (0, (4, 377)), (1, (0, x1))]) D rfl nl_152 rfl rfl fun D =>
    j_c0 (pc := 2) (v := (1, 0)) D rfl rfl (by decide +kernel) fun D =>
    j_lstn (pc := 3) (L' := [(3, (1, 0)), (2, (0, x1)), (0, (4, 377)), (1, (0, x1))]) D rfl nl_152 rfl rfl fun D =>
    fk_jump cut_152_4 rfl rfl
/-! 153 java/lang/Math.min(JJ)J -/
theorem cd_153 : fi_code 153 = prog_82_method_70_code := rfl
theorem hx_153 : ∀ pc, fi_hat 153 pc = none := fun pc => by unfold fi_hat; rw [show fi_hh 153 = [] from rfl]; rfl
theorem rt_153 : fi_ret 153 = some .long := rfl
theorem nl_153 : fi_nl 153 = 4 := rfl
theorem ow_153 : fi_ow 153 = 75 := rfl
theorem cl_153 : fj_cutT.getD 153 [] = [] := rfl
theorem m_153 (d : Nat) (x0 x2 : Int) {h : fi_H} (H : Shp h) : fj_run (d + 1) 153 h [(1, x0), (1, x2)] =
  if 0 < lc_ x0 x2 then
    some (.inl (some (1, x2)), h)
  else
    some (.inl (some (1, x0)), h) := by
  rw [fj_run_eq d (by decide) h [(1, x0), (1, x2)] (Nat.le_of_ble_eq_true (by rw [nl_153]; rfl))]
  show gG (fj_run d) 153 0 [(0, (1, x0)), (2, (1, x2))] [] h = _
  exact
    have D : fk_D 153 [(0, none, .lload_n 0, 1, 0, 0, 0), (1, none, .lload_n 2, 1, 0, 0, 0), (2, none, .lcmp, 1, 0, 0, 0), (3, none, .ifCond .gt 7, 3, 10, 0, 0), (6, none, .lload_n 0, 1, 0, 0, 0), (7, none, .goto 4, 3, 11, 0, 0)] := fq_of2 cd_153 ow_153 cl_153 rfl (pc := 0) (by decide +kernel)
    j_lldn (pc := 0) D rfl rfl rfl fun D =>
    j_lldn (pc := 1) D rfl rfl rfl fun D =>
    j_lcmp (pc := 2) D rfl fun D =>
    j_ifgt (pc := 3) D rfl (fun q =>
      have D : fk_D 153 [(10, none, .lload_n 2, 1, 0, 0, 0), (11, none, .lreturn, 1, 0, 0, 0)] := fq_of2 cd_153 ow_153 cl_153 rfl (pc := 10) (by decide +kernel)
      j_lldn (pc := 10) D rfl rfl rfl fun D =>
      j_lret D rt_153) (fun q D =>
      j_lldn (pc := 6) D rfl rfl rfl fun D =>
      j_goto (pc := 7) D rfl <|
      have D : fk_D 153 [(11, none, .lreturn, 1, 0, 0, 0)] := fq_of2 cd_153 ow_153 cl_153 rfl (pc := 11) (by decide +kernel)
      j_lret D rt_153)
/-! 154 StatuteHouse$Reader.areTwo(I)Z -/
theorem cd_154 : fi_code 154 = prog_53_method_8_code := rfl
theorem hx_154 : ∀ pc, fi_hat 154 pc = none := fun pc => by unfold fi_hat; rw [show fi_hh 154 = [] from rfl]; rfl
theorem rt_154 : fi_ret 154 = some .boolean := rfl
theorem nl_154 : fi_nl 154 = 2 := rfl
theorem ow_154 : fi_ow 154 = 15 := rfl
theorem cl_154 : fj_cutT.getD 154 [] = [] := rfl
theorem m_154 (d : Nat) (x1 : Int) {h : fi_H} (H : Shp h) : fj_run (d + 1) 154 h [(4, 377), (0, x1)] =
  ca_ (fj_run d 114 h [(4, 377), (0, x1)]) 0
    (fun v2 h1 =>
    ca_ (fj_run d 128 h1 [(4, 377), (0, v2)]) 0
      (fun v5 h4 =>
      if v5 = 0 then
        some (.inl (some (0, 0)), h4)
      else
        ca_ (fj_run d 114 h4 [(4, 377), (0, wI (x1 + 1))]) 0
          (fun v8 h7 =>
          ca_ (fj_run d 128 h7 [(4, 377), (0, v8)]) 0
            (fun v11 h10 =>
            if v11 = 0 then
              some (.inl (some (0, 0)), h10)
            else
              some (.inl (some (0, 1)), h10))
            (fun q12 h10 => tx_ q12 h10))
          (fun q9 h7 => tx_ q9 h7))
      (fun q6 h4 => tx_ q6 h4))
    (fun q3 h1 => tx_ q3 h1) := by
  rw [fj_run_eq d (by decide) h [(4, 377), (0, x1)] (Nat.le_of_ble_eq_true (by rw [nl_154]; rfl))]
  show gG (fj_run d) 154 0 [(0, (4, 377)), (1, (0, x1))] [] h = _
  exact
    have D : fk_D 154 [(0, none, .aload_n 0, 1, 0, 0, 0), (1, none, .aload_n 0, 1, 0, 0, 0), (2, none, .iload_n 1, 1, 0, 0, 0), (3, none, .invokevirtual 135, 3, 1, 248, 1), (6, none, .invokevirtual 146, 3, 1, 251, 1), (9, none, .ifCond .eq 21, 3, 30, 0, 0), (12, none, .aload_n 0, 1, 0, 0, 0), (13, none, .aload_n 0, 1, 0, 0, 0), (14, none, .iload_n 1, 1, 0, 0, 0), (15, none, .iconst 1, 1, 0, 1, 0), (16, none, .iadd, 1, 0, 0, 0), (17, none, .invokevirtual 135, 3, 1, 248, 1), (20, none, .invokevirtual 146, 3, 1, 251, 1), (23, none, .ifCond .eq 7, 3, 30, 0, 0), (26, none, .iconst 1, 1, 0, 1, 0), (27, none, .goto 4, 3, 31, 0, 0)] := fq_of2 cd_154 ow_154 cl_154 rfl (pc := 0) (by decide +kernel)
    j_aldn (pc := 0) D rfl rfl rfl fun D =>
    j_aldn (pc := 1) D rfl rfl rfl fun D =>
    j_ildn (pc := 2) D rfl rfl rfl fun D =>
    j_iv (pc := 3) (m := 114) (dd := 248) (a := [(0, x1)]) (rest := [(4, 377)]) D rfl rfl rfl rfl rfl (by decide) (s0_377 H) (by decide +kernel) (fun v2 h1 e1 D =>
      have T := fj_run_ok _ _ _ _ _ _ H.1 e1
      have H := shp_st H T
      j_iv (pc := 6) (m := 128) (dd := 251) (a := [(0, v2)]) (rest := []) D rfl rfl rfl rfl rfl (by decide) (s0_377 H) (by decide +kernel) (fun v5 h4 e1 D =>
        have T := fj_run_ok _ _ _ _ _ _ H.1 e1
        have H := shp_st H T
        j_ifeq (pc := 9) D rfl (fun q =>
          have D : fk_D 154 [(30, none, .iconst 0, 1, 0, 0, 0), (31, none, .ireturn, 1, 0, 0, 0)] := fq_of2 cd_154 ow_154 cl_154 rfl (pc := 30) (by decide +kernel)
          j_ic (pc := 30) D rfl fun D =>
          j_zret D rt_154 (gy (by decide))) (fun q D =>
          j_aldn (pc := 12) D rfl rfl rfl fun D =>
          j_aldn (pc := 13) D rfl rfl rfl fun D =>
          j_ildn (pc := 14) D rfl rfl rfl fun D =>
          j_ic (pc := 15) D rfl fun D =>
          j_iadd (pc := 16) D rfl fun D =>
          j_iv (pc := 17) (m := 114) (dd := 248) (a := [(0, wI (x1 + 1))]) (rest := [(4, 377)]) D rfl rfl rfl rfl rfl (by decide) (s0_377 H) (by decide +kernel) (fun v8 h7 e1 D =>
            have T := fj_run_ok _ _ _ _ _ _ H.1 e1
            have H := shp_st H T
            j_iv (pc := 20) (m := 128) (dd := 251) (a := [(0, v8)]) (rest := []) D rfl rfl rfl rfl rfl (by decide) (s0_377 H) (by decide +kernel) (fun v11 h10 e1 D =>
              have T := fj_run_ok _ _ _ _ _ _ H.1 e1
              have H := shp_st H T
              j_ifeq (pc := 23) D rfl (fun q =>
                have D : fk_D 154 [(30, none, .iconst 0, 1, 0, 0, 0), (31, none, .ireturn, 1, 0, 0, 0)] := fq_of2 cd_154 ow_154 cl_154 rfl (pc := 30) (by decide +kernel)
                j_ic (pc := 30) D rfl fun D =>
                j_zret D rt_154 (gy (by decide))) (fun q D =>
                j_ic (pc := 26) D rfl fun D =>
                j_goto (pc := 27) D rfl <|
                have D : fk_D 154 [(31, none, .ireturn, 1, 0, 0, 0)] := fq_of2 cd_154 ow_154 cl_154 rfl (pc := 31) (by decide +kernel)
                j_zret D rt_154 (gy (by decide)))) (fun q12 h10 e1 =>
              j_tx (hx_154 _))) (fun q9 h7 e1 =>
            j_tx (hx_154 _)))) (fun q6 h4 e1 =>
        j_tx (hx_154 _))) (fun q3 h1 e1 =>
      j_tx (hx_154 _))
/-! 155 StatuteHouse$Reader.two(I)I -/
theorem cd_155 : fi_code 155 = prog_53_method_9_code := rfl
theorem hx_155 : ∀ pc, fi_hat 155 pc = none := fun pc => by unfold fi_hat; rw [show fi_hh 155 = [] from rfl]; rfl
theorem rt_155 : fi_ret 155 = some .int := rfl
theorem nl_155 : fi_nl 155 = 2 := rfl
theorem ow_155 : fi_ow 155 = 15 := rfl
theorem cl_155 : fj_cutT.getD 155 [] = [] := rfl
theorem m_155 (d : Nat) (x1 : Int) {h : fi_H} (H : Shp h) : fj_run (d + 1) 155 h [(4, 377), (0, x1)] =
  ca_ (fj_run d 114 h [(4, 377), (0, x1)]) 0
    (fun v2 h1 =>
    ca_ (fj_run d 114 h1 [(4, 377), (0, wI (x1 + 1))]) 0
      (fun v5 h4 =>
      some (.inl (some (0, wI ((wI ((wI (10 * (wI (v2 - 48)))) + v5)) - 48))), h4))
      (fun q6 h4 => tx_ q6 h4))
    (fun q3 h1 => tx_ q3 h1) := by
  rw [fj_run_eq d (by decide) h [(4, 377), (0, x1)] (Nat.le_of_ble_eq_true (by rw [nl_155]; rfl))]
  show gG (fj_run d) 155 0 [(0, (4, 377)), (1, (0, x1))] [] h = _
  exact
    have D : fk_D 155 [(0, none, .bipush 10, 2, 0, 10, 0), (2, none, .aload_n 0, 1, 0, 0, 0), (3, none, .iload_n 1, 1, 0, 0, 0), (4, none, .invokevirtual 135, 3, 1, 248, 1), (7, none, .bipush 48, 2, 0, 48, 0), (9, none, .isub, 1, 0, 0, 0), (10, none, .imul, 1, 0, 0, 0), (11, none, .aload_n 0, 1, 0, 0, 0), (12, none, .iload_n 1, 1, 0, 0, 0), (13, none, .iconst 1, 1, 0, 1, 0), (14, none, .iadd, 1, 0, 0, 0), (15, none, .invokevirtual 135, 3, 1, 248, 1), (18, none, .iadd, 1, 0, 0, 0), (19, none, .bipush 48, 2, 0, 48, 0), (21, none, .isub, 1, 0, 0, 0), (22, none, .ireturn, 1, 0, 0, 0)] := fq_of2 cd_155 ow_155 cl_155 rfl (pc := 0) (by decide +kernel)
    j_bp (pc := 0) D rfl fun D =>
    j_aldn (pc := 2) D rfl rfl rfl fun D =>
    j_ildn (pc := 3) D rfl rfl rfl fun D =>
    j_iv (pc := 4) (m := 114) (dd := 248) (a := [(0, x1)]) (rest := [(0, 10)]) D rfl rfl rfl rfl rfl (by decide) (s0_377 H) (by decide +kernel) (fun v2 h1 e1 D =>
      have T := fj_run_ok _ _ _ _ _ _ H.1 e1
      have H := shp_st H T
      j_bp (pc := 7) D rfl fun D =>
      j_isub (pc := 9) D rfl fun D =>
      j_imul (pc := 10) D rfl fun D =>
      j_aldn (pc := 11) D rfl rfl rfl fun D =>
      j_ildn (pc := 12) D rfl rfl rfl fun D =>
      j_ic (pc := 13) D rfl fun D =>
      j_iadd (pc := 14) D rfl fun D =>
      j_iv (pc := 15) (m := 114) (dd := 248) (a := [(0, wI (x1 + 1))]) (rest := [(0, wI (10 * (wI (v2 - 48))))]) D rfl rfl rfl rfl rfl (by decide) (s0_377 H) (by decide +kernel) (fun v5 h4 e1 D =>
        have T := fj_run_ok _ _ _ _ _ _ H.1 e1
        have H := shp_st H T
        j_iadd (pc := 18) D rfl fun D =>
        j_bp (pc := 19) D rfl fun D =>
        j_isub (pc := 21) D rfl fun D =>
        j_iret D rt_155) (fun q6 h4 e1 =>
        j_tx (hx_155 _))) (fun q3 h1 e1 =>
      j_tx (hx_155 _))
/-! 156 StatuteHouse$Calendar.exact(JJJ)I -/
theorem cd_156 : fi_code 156 = prog_3_method_6_code := rfl
theorem hx_156 : ∀ pc, fi_hat 156 pc = none := fun pc => by unfold fi_hat; rw [show fi_hh 156 = [] from rfl]; rfl
theorem rt_156 : fi_ret 156 = some .int := rfl
theorem nl_156 : fi_nl 156 = 7 := rfl
theorem ow_156 : fi_ow 156 = 1 := rfl
theorem cl_156 : fj_cutT.getD 156 [] = [] := rfl
theorem m_156 (d : Nat) (x0 x2 x4 : Int) {h : fi_H} (H : Shp h) : fj_run (d + 1) 156 h [(1, x0), (1, x2), (1, x4)] =
  if lc_ x0 1900 < 0 then
    some (.inl (some (0, (-1))), h)
  else
    if 0 < lc_ x0 2079 then
      some (.inl (some (0, (-1))), h)
    else
      if lc_ x2 1 < 0 then
        some (.inl (some (0, (-1))), h)
      else
        if 0 < lc_ x2 12 then
          some (.inl (some (0, (-1))), h)
        else
          if lc_ x4 1 < 0 then
            some (.inl (some (0, (-1))), h)
          else
            ca_ (fj_run d 157 h [(0, wI x0), (0, wI x2)]) 0
              (fun v2 h1 =>
              if 0 < lc_ x4 (wI v2) then
                some (.inl (some (0, (-1))), h1)
              else
                ca_ (fj_run d 159 h1 [(0, wI x0), (0, wI x2), (0, wI x4)]) 0
                  (fun v5 h4 =>
                  if 65535 < v5 then
                    some (.inl (some (0, (-1))), h4)
                  else
                    some (.inl (some (0, v5)), h4))
                  (fun q6 h4 => tx_ q6 h4))
              (fun q3 h1 => tx_ q3 h1) := by
  rw [fj_run_eq d (by decide) h [(1, x0), (1, x2), (1, x4)] (Nat.le_of_ble_eq_true (by rw [nl_156]; rfl))]
  show gG (fj_run d) 156 0 [(0, (1, x0)), (2, (1, x2)), (4, (1, x4))] [] h = _
  exact
    have D : fk_D 156 [(0, none, .lload_n 0, 1, 0, 0, 0), (1, none, .ldc2_w 29, 3, 1, 1900, 0), (4, none, .lcmp, 1, 0, 0, 0), (5, none, .ifCond .lt 46, 3, 51, 0, 0), (8, none, .lload_n 0, 1, 0, 0, 0), (9, none, .ldc2_w 31, 3, 1, 2079, 0), (12, none, .lcmp, 1, 0, 0, 0), (13, none, .ifCond .gt 38, 3, 51, 0, 0), (16, none, .lload_n 2, 1, 0, 0, 0), (17, none, .lconst 1, 1, 0, 0, 0), (18, none, .lcmp, 1, 0, 0, 0), (19, none, .ifCond .lt 32, 3, 51, 0, 0), (22, none, .lload_n 2, 1, 0, 0, 0), (23, none, .ldc2_w 33, 3, 1, 12, 0), (26, none, .lcmp, 1, 0, 0, 0), (27, none, .ifCond .gt 24, 3, 51, 0, 0), (30, none, .lload 4, 2, 0, 0, 0), (32, none, .lconst 1, 1, 0, 0, 0), (33, none, .lcmp, 1, 0, 0, 0), (34, none, .ifCond .lt 17, 3, 51, 0, 0)] := fq_of2 cd_156 ow_156 cl_156 rfl (pc := 0) (by decide +kernel)
    j_lldn (pc := 0) D rfl rfl rfl fun D =>
    j_ldc2 (pc := 1) D rfl fun D =>
    j_lcmp (pc := 4) D rfl fun D =>
    j_iflt (pc := 5) D rfl (fun q =>
      have D : fk_D 156 [(51, none, .iconst (-1), 1, 0, (-1), 0), (52, none, .ireturn, 1, 0, 0, 0)] := fq_of2 cd_156 ow_156 cl_156 rfl (pc := 51) (by decide +kernel)
      j_ic (pc := 51) D rfl fun D =>
      j_iret D rt_156) (fun q D =>
      j_lldn (pc := 8) D rfl rfl rfl fun D =>
      j_ldc2 (pc := 9) D rfl fun D =>
      j_lcmp (pc := 12) D rfl fun D =>
      j_ifgt (pc := 13) D rfl (fun q =>
        have D : fk_D 156 [(51, none, .iconst (-1), 1, 0, (-1), 0), (52, none, .ireturn, 1, 0, 0, 0)] := fq_of2 cd_156 ow_156 cl_156 rfl (pc := 51) (by decide +kernel)
        j_ic (pc := 51) D rfl fun D =>
        j_iret D rt_156) (fun q D =>
        j_lldn (pc := 16) D rfl rfl rfl fun D =>
        j_c0 (pc := 17) (v := (1, 1)) D rfl rfl (by decide +kernel) fun D =>
        j_lcmp (pc := 18) D rfl fun D =>
        j_iflt (pc := 19) D rfl (fun q =>
          have D : fk_D 156 [(51, none, .iconst (-1), 1, 0, (-1), 0), (52, none, .ireturn, 1, 0, 0, 0)] := fq_of2 cd_156 ow_156 cl_156 rfl (pc := 51) (by decide +kernel)
          j_ic (pc := 51) D rfl fun D =>
          j_iret D rt_156) (fun q D =>
          j_lldn (pc := 22) D rfl rfl rfl fun D =>
          j_ldc2 (pc := 23) D rfl fun D =>
          j_lcmp (pc := 26) D rfl fun D =>
          j_ifgt (pc := 27) D rfl (fun q =>
            have D : fk_D 156 [(51, none, .iconst (-1), 1, 0, (-1), 0), (52, none, .ireturn, 1, 0, 0, 0)] := fq_of2 cd_156 ow_156 cl_156 rfl (pc := 51) (by decide +kernel)
            j_ic (pc := 51) D rfl fun D =>
            j_iret D rt_156) (fun q D =>
            j_lld (pc := 30) D rfl rfl rfl fun D =>
            j_c0 (pc := 32) (v := (1, 1)) D rfl rfl (by decide +kernel) fun D =>
            j_lcmp (pc := 33) D rfl fun D =>
            j_iflt (pc := 34) D rfl (fun q =>
              have D : fk_D 156 [(51, none, .iconst (-1), 1, 0, (-1), 0), (52, none, .ireturn, 1, 0, 0, 0)] := fq_of2 cd_156 ow_156 cl_156 rfl (pc := 51) (by decide +kernel)
              j_ic (pc := 51) D rfl fun D =>
              j_iret D rt_156) (fun q D =>
              have D : fk_D 156 [(37, none, .lload 4, 2, 0, 0, 0), (39, none, .lload_n 0, 1, 0, 0, 0), (40, none, .l2i, 1, 0, 0, 0), (41, none, .lload_n 2, 1, 0, 0, 0), (42, none, .l2i, 1, 0, 0, 0), (43, none, .invokestatic 35, 3, 2, 157, 1), (46, none, .i2l, 1, 0, 0, 0), (47, none, .lcmp, 1, 0, 0, 0), (48, none, .ifCond .le 5, 3, 53, 0, 0), (51, none, .iconst (-1), 1, 0, (-1), 0), (52, none, .ireturn, 1, 0, 0, 0)] := fq_of2 cd_156 ow_156 cl_156 rfl (pc := 37) (by decide +kernel)
              j_lld (pc := 37) D rfl rfl rfl fun D =>
              j_lldn (pc := 39) D rfl rfl rfl fun D =>
              j_l2i (pc := 40) D rfl fun D =>
              j_lldn (pc := 41) D rfl rfl rfl fun D =>
              j_l2i (pc := 42) D rfl fun D =>
              j_is (pc := 43) (m := 157) (a := [(0, wI x0), (0, wI x2)]) (rest := [(1, x4)]) D rfl rfl rfl rfl (fun v2 h1 e1 D =>
                have T := fj_run_ok _ _ _ _ _ _ H.1 e1
                have H := shp_st H T
                j_i2l (pc := 46) D rfl fun D =>
                j_lcmp (pc := 47) D rfl fun D =>
                j_ifle (pc := 48) D rfl (fun q D =>
                  j_ic (pc := 51) D rfl fun D =>
                  j_iret D rt_156) (fun q =>
                  have D : fk_D 156 [(53, none, .lload_n 0, 1, 0, 0, 0), (54, none, .l2i, 1, 0, 0, 0), (55, none, .lload_n 2, 1, 0, 0, 0), (56, none, .l2i, 1, 0, 0, 0), (57, none, .lload 4, 2, 0, 0, 0), (59, none, .l2i, 1, 0, 0, 0), (60, none, .invokestatic 39, 3, 3, 159, 1), (63, none, .istore 6, 2, 0, 0, 0), (65, none, .iload 6, 2, 0, 0, 0), (67, none, .ldc 43, 2, 0, 65535, 0), (69, none, .if_icmp .le 7, 3, 76, 0, 0), (72, none, .iconst (-1), 1, 0, (-1), 0), (73, none, .goto 5, 3, 78, 0, 0)] := fq_of2 cd_156 ow_156 cl_156 rfl (pc := 53) (by decide +kernel)
                  j_lldn (pc := 53) D rfl rfl rfl fun D =>
                  j_l2i (pc := 54) D rfl fun D =>
                  j_lldn (pc := 55) D rfl rfl rfl fun D =>
                  j_l2i (pc := 56) D rfl fun D =>
                  j_lld (pc := 57) D rfl rfl rfl fun D =>
                  j_l2i (pc := 59) D rfl fun D =>
                  j_is (pc := 60) (m := 159) (a := [(0, wI x0), (0, wI x2), (0, wI x4)]) (rest := []) D rfl rfl rfl rfl (fun v5 h4 e1 D =>
                    have T := fj_run_ok _ _ _ _ _ _ H.1 e1
                    have H := shp_st H T
                    j_ist (pc := 63) (L' := [(6, (0, v5)), (0, (1, x0)), (2, (1, x2)), (4, (1, x4))]) D rfl nl_156 rfl rfl fun D =>
                    j_ild (pc := 65) D rfl rfl rfl fun D =>
                    j_ldc (pc := 67) D rfl fun D =>
                    j_ile (pc := 69) D rfl (fun q D =>
                      j_ic (pc := 72) D rfl fun D =>
                      j_goto (pc := 73) D rfl <|
                      have D : fk_D 156 [(78, none, .ireturn, 1, 0, 0, 0)] := fq_of2 cd_156 ow_156 cl_156 rfl (pc := 78) (by decide +kernel)
                      j_iret D rt_156) (fun q =>
                      have D : fk_D 156 [(76, none, .iload 6, 2, 0, 0, 0), (78, none, .ireturn, 1, 0, 0, 0)] := fq_of2 cd_156 ow_156 cl_156 rfl (pc := 76) (by decide +kernel)
                      j_ild (pc := 76) D rfl rfl rfl fun D =>
                      j_iret D rt_156)) (fun q6 h4 e1 =>
                    j_tx (hx_156 _)))) (fun q3 h1 e1 =>
                j_tx (hx_156 _)))))))
/-! 157 StatuteHouse$Calendar.length(II)I -/
theorem cd_157 : fi_code 157 = prog_3_method_5_code := rfl
theorem hx_157 : ∀ pc, fi_hat 157 pc = none := fun pc => by unfold fi_hat; rw [show fi_hh 157 = [] from rfl]; rfl
theorem rt_157 : fi_ret 157 = some .int := rfl
theorem nl_157 : fi_nl 157 = 2 := rfl
theorem ow_157 : fi_ow 157 = 1 := rfl
theorem cl_157 : fj_cutT.getD 157 [] = [] := rfl
theorem m_157 (d : Nat) (x0 x1 : Int) {h : fi_H} (H : Shp h) : fj_run (d + 1) 157 h [(0, x0), (0, x1)] =
  if x1 = 2 then
    ca_ (fj_run d 158 h [(0, x0)]) 0
      (fun v2 h1 =>
      if v2 = 0 then
        some (.inl (some (0, 28)), h1)
      else
        some (.inl (some (0, 29)), h1))
      (fun q3 h1 => tx_ q3 h1)
  else if x1 = 4 then
    some (.inl (some (0, 30)), h)
  else if x1 = 6 then
    some (.inl (some (0, 30)), h)
  else if x1 = 9 then
    some (.inl (some (0, 30)), h)
  else if x1 = 11 then
    some (.inl (some (0, 30)), h)
  else 
    some (.inl (some (0, 31)), h) := by
  rw [fj_run_eq d (by decide) h [(0, x0), (0, x1)] (Nat.le_of_ble_eq_true (by rw [nl_157]; rfl))]
  show gG (fj_run d) 157 0 [(0, (0, x0)), (1, (0, x1))] [] h = _
  exact
    have D : fk_D 157 [(0, none, .iload_n 1, 1, 0, 0, 0), (1, none, .tableswitch 73 2 11 #[55, 73, 70, 73, 70, 73, 73, 70, 73, 70], 55, 0, 0, 0)] := fq_of3 cd_157 ow_157 cl_157 rfl (pc := 0) (by decide +kernel)
    j_ildn (pc := 0) D rfl rfl rfl fun D =>
    have N : fk_ni (x1) [] := trivial
    j_tc (pc := 1) 2 (t := 56) D N rfl (by decide +kernel) (fun q =>
      have D : fk_D 157 [(56, none, .iload_n 0, 1, 0, 0, 0), (57, none, .invokestatic 25, 3, 1, 158, 1), (60, none, .ifCond .eq 8, 3, 68, 0, 0), (63, none, .bipush 29, 2, 0, 29, 0), (65, none, .goto 5, 3, 70, 0, 0)] := fq_of2 cd_157 ow_157 cl_157 rfl (pc := 56) (by decide +kernel)
      j_ildn (pc := 56) D rfl rfl rfl fun D =>
      j_is (pc := 57) (m := 158) (a := [(0, x0)]) (rest := []) D rfl rfl rfl rfl (fun v2 h1 e1 D =>
        have T := fj_run_ok _ _ _ _ _ _ H.1 e1
        have H := shp_st H T
        j_ifeq (pc := 60) D rfl (fun q =>
          have D : fk_D 157 [(68, none, .bipush 28, 2, 0, 28, 0), (70, none, .ireturn, 1, 0, 0, 0)] := fq_of2 cd_157 ow_157 cl_157 rfl (pc := 68) (by decide +kernel)
          j_bp (pc := 68) D rfl fun D =>
          j_iret D rt_157) (fun q D =>
          j_bp (pc := 63) D rfl fun D =>
          j_goto (pc := 65) D rfl <|
          have D : fk_D 157 [(70, none, .ireturn, 1, 0, 0, 0)] := fq_of2 cd_157 ow_157 cl_157 rfl (pc := 70) (by decide +kernel)
          j_iret D rt_157)) (fun q3 h1 e1 =>
        j_tx (hx_157 _))) (fun N =>
      j_tc 4 (t := 71) D N rfl (by decide +kernel) (fun q =>
        have D : fk_D 157 [(71, none, .bipush 30, 2, 0, 30, 0), (73, none, .ireturn, 1, 0, 0, 0)] := fq_of2 cd_157 ow_157 cl_157 rfl (pc := 71) (by decide +kernel)
        j_bp (pc := 71) D rfl fun D =>
        j_iret D rt_157) (fun N =>
        j_tc 6 (t := 71) D N rfl (by decide +kernel) (fun q =>
          have D : fk_D 157 [(71, none, .bipush 30, 2, 0, 30, 0), (73, none, .ireturn, 1, 0, 0, 0)] := fq_of2 cd_157 ow_157 cl_157 rfl (pc := 71) (by decide +kernel)
          j_bp (pc := 71) D rfl fun D =>
          j_iret D rt_157) (fun N =>
          j_tc 9 (t := 71) D N rfl (by decide +kernel) (fun q =>
            have D : fk_D 157 [(71, none, .bipush 30, 2, 0, 30, 0), (73, none, .ireturn, 1, 0, 0, 0)] := fq_of2 cd_157 ow_157 cl_157 rfl (pc := 71) (by decide +kernel)
            j_bp (pc := 71) D rfl fun D =>
            j_iret D rt_157) (fun N =>
            j_tc 11 (t := 71) D N rfl (by decide +kernel) (fun q =>
              have D : fk_D 157 [(71, none, .bipush 30, 2, 0, 30, 0), (73, none, .ireturn, 1, 0, 0, 0)] := fq_of2 cd_157 ow_157 cl_157 rfl (pc := 71) (by decide +kernel)
              j_bp (pc := 71) D rfl fun D =>
              j_iret D rt_157) (fun N =>
              j_td (t := 74) D N rfl (by decide +kernel) (by decide +kernel) <|
              have D : fk_D 157 [(74, none, .bipush 31, 2, 0, 31, 0), (76, none, .ireturn, 1, 0, 0, 0)] := fq_of2 cd_157 ow_157 cl_157 rfl (pc := 74) (by decide +kernel)
              j_bp (pc := 74) D rfl fun D =>
              j_iret D rt_157)))))
/-! 158 StatuteHouse$Calendar.isLeap(I)Z -/
theorem cd_158 : fi_code 158 = prog_3_method_4_code := rfl
theorem hx_158 : ∀ pc, fi_hat 158 pc = none := fun pc => by unfold fi_hat; rw [show fi_hh 158 = [] from rfl]; rfl
theorem rt_158 : fi_ret 158 = some .boolean := rfl
theorem nl_158 : fi_nl 158 = 1 := rfl
theorem ow_158 : fi_ow 158 = 1 := rfl
theorem cl_158 : fj_cutT.getD 158 [] = [] := rfl
theorem m_158 (d : Nat) (x0 : Int) {h : fi_H} (H : Shp h) : fj_run (d + 1) 158 h [(0, x0)] =
  if ir_ x0 4 = 0 then
    if ir_ x0 100 = 0 then
      if ir_ x0 400 = 0 then
        some (.inl (some (0, 1)), h)
      else
        some (.inl (some (0, 0)), h)
    else
      some (.inl (some (0, 1)), h)
  else
    some (.inl (some (0, 0)), h) := by
  rw [fj_run_eq d (by decide) h [(0, x0)] (Nat.le_of_ble_eq_true (by rw [nl_158]; rfl))]
  show gG (fj_run d) 158 0 [(0, (0, x0))] [] h = _
  exact
    have D : fk_D 158 [(0, none, .iload_n 0, 1, 0, 0, 0), (1, none, .iconst 4, 1, 0, 4, 0), (2, none, .irem, 1, 0, 0, 0), (3, none, .ifCond .ne 22, 3, 25, 0, 0), (6, none, .iload_n 0, 1, 0, 0, 0), (7, none, .bipush 100, 2, 0, 100, 0), (9, none, .irem, 1, 0, 0, 0), (10, none, .ifCond .ne 11, 3, 21, 0, 0), (13, none, .iload_n 0, 1, 0, 0, 0), (14, none, .sipush 400, 3, 0, 400, 0), (17, none, .irem, 1, 0, 0, 0), (18, none, .ifCond .ne 7, 3, 25, 0, 0), (21, none, .iconst 1, 1, 0, 1, 0), (22, none, .goto 4, 3, 26, 0, 0)] := fq_of2 cd_158 ow_158 cl_158 rfl (pc := 0) (by decide +kernel)
    j_ildn (pc := 0) D rfl rfl rfl fun D =>
    j_ic (pc := 1) D rfl fun D =>
    j_iremk (pc := 2) D rfl (by decide) fun D =>
    j_ifne (pc := 3) D rfl (fun q D =>
      j_ildn (pc := 6) D rfl rfl rfl fun D =>
      j_bp (pc := 7) D rfl fun D =>
      j_iremk (pc := 9) D rfl (by decide) fun D =>
      j_ifne (pc := 10) D rfl (fun q D =>
        j_ildn (pc := 13) D rfl rfl rfl fun D =>
        j_sp (pc := 14) D rfl fun D =>
        j_iremk (pc := 17) D rfl (by decide) fun D =>
        j_ifne (pc := 18) D rfl (fun q D =>
          j_ic (pc := 21) D rfl fun D =>
          j_goto (pc := 22) D rfl <|
          have D : fk_D 158 [(26, none, .ireturn, 1, 0, 0, 0)] := fq_of2 cd_158 ow_158 cl_158 rfl (pc := 26) (by decide +kernel)
          j_zret D rt_158 (gy (by decide))) (fun q =>
          have D : fk_D 158 [(25, none, .iconst 0, 1, 0, 0, 0), (26, none, .ireturn, 1, 0, 0, 0)] := fq_of2 cd_158 ow_158 cl_158 rfl (pc := 25) (by decide +kernel)
          j_ic (pc := 25) D rfl fun D =>
          j_zret D rt_158 (gy (by decide)))) (fun q =>
        have D : fk_D 158 [(21, none, .iconst 1, 1, 0, 1, 0), (22, none, .goto 4, 3, 26, 0, 0)] := fq_of2 cd_158 ow_158 cl_158 rfl (pc := 21) (by decide +kernel)
        j_ic (pc := 21) D rfl fun D =>
        j_goto (pc := 22) D rfl <|
        have D : fk_D 158 [(26, none, .ireturn, 1, 0, 0, 0)] := fq_of2 cd_158 ow_158 cl_158 rfl (pc := 26) (by decide +kernel)
        j_zret D rt_158 (gy (by decide)))) (fun q =>
      have D : fk_D 158 [(25, none, .iconst 0, 1, 0, 0, 0), (26, none, .ireturn, 1, 0, 0, 0)] := fq_of2 cd_158 ow_158 cl_158 rfl (pc := 25) (by decide +kernel)
      j_ic (pc := 25) D rfl fun D =>
      j_zret D rt_158 (gy (by decide)))
/-! 159 StatuteHouse$Calendar.number(III)I -/
theorem cd_159 : fi_code 159 = prog_3_method_3_code := rfl
theorem hx_159 : ∀ pc, fi_hat 159 pc = none := fun pc => by unfold fi_hat; rw [show fi_hh 159 = [] from rfl]; rfl
theorem rt_159 : fi_ret 159 = some .int := rfl
theorem nl_159 : fi_nl 159 = 7 := rfl
theorem ow_159 : fi_ow 159 = 1 := rfl
theorem cl_159 : fj_cutT.getD 159 [] = [(12, [1, 2]), (48, [2, 4, 5])] := rfl
theorem cut_159_12 : fj_cut 159 12 = some [1, 2] := by decide +kernel
noncomputable def c_159_12 (d : Nat) (x1 x2 s0 : Int) (h : fi_H) : fk_R := gG (fj_run d) 159 12 [(1, (0, x1)), (2, (0, x2))] [(0, s0)] h
theorem cut_159_48 : fj_cut 159 48 = some [2, 4, 5] := by decide +kernel
noncomputable def c_159_48 (d : Nat) (x2 x4 x5 s0 s1 : Int) (h : fi_H) : fk_R := gG (fj_run d) 159 48 [(2, (0, x2)), (4, (0, x4)), (5, (0, x5))] [(0, s1), (0, s0)] h
theorem e_159_12 (d : Nat) (x1 x2 s0 : Int) {h : fi_H} (H : Shp h) : c_159_12 d x1 x2 s0 h =
  if 2 < x1 then
    c_159_48 d x2 (iq_ s0 400) (wI (s0 - (wI (400 * (iq_ s0 400))))) 153 (wI (x1 - 3)) h
  else
    c_159_48 d x2 (iq_ s0 400) (wI (s0 - (wI (400 * (iq_ s0 400))))) 153 (wI (x1 + 9)) h := by
  unfold c_159_12
  exact
    have D : fk_D 159 [(12, some [1, 2], .istore_n 3, 1, 0, 0, 0), (13, none, .iload_n 3, 1, 0, 0, 0), (14, none, .sipush 400, 3, 0, 400, 0), (17, none, .idiv, 1, 0, 0, 0), (18, none, .istore 4, 2, 0, 0, 0), (20, none, .iload_n 3, 1, 0, 0, 0), (21, none, .sipush 400, 3, 0, 400, 0), (24, none, .iload 4, 2, 0, 0, 0), (26, none, .imul, 1, 0, 0, 0), (27, none, .isub, 1, 0, 0, 0), (28, none, .istore 5, 2, 0, 0, 0), (30, none, .sipush 153, 3, 0, 153, 0), (33, none, .iload_n 1, 1, 0, 0, 0), (34, none, .iconst 2, 1, 0, 2, 0), (35, none, .if_icmp .le 9, 3, 44, 0, 0), (38, none, .iload_n 1, 1, 0, 0, 0), (39, none, .iconst 3, 1, 0, 3, 0), (40, none, .isub, 1, 0, 0, 0), (41, none, .goto 7, 3, 48, 0, 0)] := fq_of2 cd_159 ow_159 cl_159 rfl (pc := 12) (by decide +kernel)
    j_istn (pc := 12) (L' := [(3, (0, s0)), (1, (0, x1)), (2, (0, x2))]) D rfl nl_159 rfl rfl fun D =>
    j_ildn (pc := 13) D rfl rfl rfl fun D =>
    j_sp (pc := 14) D rfl fun D =>
    j_idivk (pc := 17) D rfl (by decide) fun D =>
    j_ist (pc := 18) (L' := [(4, (0, iq_ s0 400)), (3, (0, s0)), (1, (0, x1)), (2, (0, x2))]) D rfl nl_159 rfl rfl fun D =>
    j_ildn (pc := 20) D rfl rfl rfl fun D =>
    j_sp (pc := 21) D rfl fun D =>
    j_ild (pc := 24) D rfl rfl rfl fun D =>
    j_imul (pc := 26) D rfl fun D =>
    j_isub (pc := 27) D rfl fun D =>
    j_ist (pc := 28) (L' := [(5, (0, wI (s0 - (wI (400 * (iq_ s0 400)))))), (4, (0, iq_ s0 400)), (3, (0, s0)), (1, (0, x1)), (2, (0, x2))]) D rfl nl_159 rfl rfl fun D =>
    j_sp (pc := 30) D rfl fun D =>
    j_ildn (pc := 33) D rfl rfl rfl fun D =>
    j_ic (pc := 34) D rfl fun D =>
    j_ile (pc := 35) D rfl (fun q D =>
      j_ildn (pc := 38) D rfl rfl rfl fun D =>
      j_ic (pc := 39) D rfl fun D =>
      j_isub (pc := 40) D rfl fun D =>
      j_goto (pc := 41) D rfl <|
      fk_jump cut_159_48 rfl rfl) (fun q =>
      have D : fk_D 159 [(44, none, .iload_n 1, 1, 0, 0, 0), (45, none, .bipush 9, 2, 0, 9, 0), (47, none, .iadd, 1, 0, 0, 0)] := fq_of2 cd_159 ow_159 cl_159 rfl (pc := 44) (by decide +kernel)
      j_ildn (pc := 44) D rfl rfl rfl fun D =>
      j_bp (pc := 45) D rfl fun D =>
      j_iadd (pc := 47) D rfl fun D =>
      fk_jump cut_159_48 rfl rfl)
theorem e_159_48 (d : Nat) (x2 x4 x5 s0 s1 : Int) {h : fi_H} (H : Shp h) : c_159_48 d x2 x4 x5 s0 s1 h =
  lt_ (wI ((wI ((iq_ (wI ((wI (s0 * s1)) + 2)) 5) + x2)) - 1)) fun y1 =>
  some (.inl (some (0, wI ((wI ((wI ((wI ((wI ((wI (x4 * 146097)) + (wI (365 * x5)))) + (iq_ x5 4))) - (iq_ x5 100))) + y1)) - 693901))), h) := by
  unfold c_159_48
  exact
    have D : fk_D 159 [(48, some [2, 4, 5], .imul, 1, 0, 0, 0), (49, none, .iconst 2, 1, 0, 2, 0), (50, none, .iadd, 1, 0, 0, 0), (51, none, .iconst 5, 1, 0, 5, 0), (52, none, .idiv, 1, 0, 0, 0), (53, none, .iload_n 2, 1, 0, 0, 0), (54, none, .iadd, 1, 0, 0, 0), (55, none, .iconst 1, 1, 0, 1, 0), (56, none, .isub, 1, 0, 0, 0), (57, none, .istore 6, 2, 0, 0, 0), (59, none, .iload 4, 2, 0, 0, 0), (61, none, .ldc 12, 2, 0, 146097, 0), (63, none, .imul, 1, 0, 0, 0), (64, none, .sipush 365, 3, 0, 365, 0), (67, none, .iload 5, 2, 0, 0, 0), (69, none, .imul, 1, 0, 0, 0), (70, none, .iadd, 1, 0, 0, 0), (71, none, .iload 5, 2, 0, 0, 0), (73, none, .iconst 4, 1, 0, 4, 0), (74, none, .idiv, 1, 0, 0, 0)] := fq_of2 cd_159 ow_159 cl_159 rfl (pc := 48) (by decide +kernel)
    j_imul (pc := 48) D rfl fun D =>
    j_ic (pc := 49) D rfl fun D =>
    j_iadd (pc := 50) D rfl fun D =>
    j_ic (pc := 51) D rfl fun D =>
    j_idivk (pc := 52) D rfl (by decide) fun D =>
    j_ildn (pc := 53) D rfl rfl rfl fun D =>
    j_iadd (pc := 54) D rfl fun D =>
    j_ic (pc := 55) D rfl fun D =>
    j_isub (pc := 56) D rfl fun D =>
    j_stl (pc := 57) (L' := fun y1 => [(6, (0, y1)), (2, (0, x2)), (4, (0, x4)), (5, (0, x5))]) D rfl ⟨rfl, rfl, rfl, rfl⟩ nl_159 rfl (fun _ => rfl) fun y1 ey1 D =>
    j_ild (pc := 59) D rfl rfl rfl fun D =>
    j_ldc (pc := 61) D rfl fun D =>
    j_imul (pc := 63) D rfl fun D =>
    j_sp (pc := 64) D rfl fun D =>
    j_ild (pc := 67) D rfl rfl rfl fun D =>
    j_imul (pc := 69) D rfl fun D =>
    j_iadd (pc := 70) D rfl fun D =>
    j_ild (pc := 71) D rfl rfl rfl fun D =>
    j_ic (pc := 73) D rfl fun D =>
    j_idivk (pc := 74) D rfl (by decide) fun D =>
    have D : fk_D 159 [(75, none, .iadd, 1, 0, 0, 0), (76, none, .iload 5, 2, 0, 0, 0), (78, none, .bipush 100, 2, 0, 100, 0), (80, none, .idiv, 1, 0, 0, 0), (81, none, .isub, 1, 0, 0, 0), (82, none, .iload 6, 2, 0, 0, 0), (84, none, .iadd, 1, 0, 0, 0), (85, none, .ldc 11, 2, 0, 693901, 0), (87, none, .isub, 1, 0, 0, 0), (88, none, .ireturn, 1, 0, 0, 0)] := fq_of2 cd_159 ow_159 cl_159 rfl (pc := 75) (by decide +kernel)
    j_iadd (pc := 75) D rfl fun D =>
    j_ild (pc := 76) D rfl rfl rfl fun D =>
    j_bp (pc := 78) D rfl fun D =>
    j_idivk (pc := 80) D rfl (by decide) fun D =>
    j_isub (pc := 81) D rfl fun D =>
    j_ild (pc := 82) D rfl rfl rfl fun D =>
    j_iadd (pc := 84) D rfl fun D =>
    j_ldc (pc := 85) D rfl fun D =>
    j_isub (pc := 87) D rfl fun D =>
    j_iret D rt_159
theorem m_159 (d : Nat) (x0 x1 x2 : Int) {h : fi_H} (H : Shp h) : fj_run (d + 1) 159 h [(0, x0), (0, x1), (0, x2)] =
  if 2 < x1 then
    c_159_12 d x1 x2 x0 h
  else
    c_159_12 d x1 x2 (wI (x0 - 1)) h := by
  rw [fj_run_eq d (by decide) h [(0, x0), (0, x1), (0, x2)] (Nat.le_of_ble_eq_true (by rw [nl_159]; rfl))]
  show gG (fj_run d) 159 0 [(0, (0, x0)), (1, (0, x1)), (2, (0, x2))] [] h = _
  exact
    have D : fk_D 159 [(0, none, .iload_n 1, 1, 0, 0, 0), (1, none, .iconst 2, 1, 0, 2, 0), (2, none, .if_icmp .gt 9, 3, 11, 0, 0), (5, none, .iload_n 0, 1, 0, 0, 0), (6, none, .iconst 1, 1, 0, 1, 0), (7, none, .isub, 1, 0, 0, 0), (8, none, .goto 4, 3, 12, 0, 0)] := fq_of2 cd_159 ow_159 cl_159 rfl (pc := 0) (by decide +kernel)
    j_ildn (pc := 0) D rfl rfl rfl fun D =>
    j_ic (pc := 1) D rfl fun D =>
    j_igt (pc := 2) D rfl (fun q =>
      have D : fk_D 159 [(11, none, .iload_n 0, 1, 0, 0, 0)] := fq_of2 cd_159 ow_159 cl_159 rfl (pc := 11) (by decide +kernel)
      j_ildn (pc := 11) D rfl rfl rfl fun D =>
      fk_jump cut_159_12 rfl rfl) (fun q D =>
      j_ildn (pc := 5) D rfl rfl rfl fun D =>
      j_ic (pc := 6) D rfl fun D =>
      j_isub (pc := 7) D rfl fun D =>
      j_goto (pc := 8) D rfl <|
      fk_jump cut_159_12 rfl rfl)
/-! 160 StatuteHouse$Reader.names()V -/
theorem cd_160 : fi_code 160 = prog_53_method_34_code := rfl
theorem hx_160 : ∀ pc, fi_hat 160 pc = none := fun pc => by unfold fi_hat; rw [show fi_hh 160 = [] from rfl]; rfl
theorem rt_160 : fi_ret 160 = none := rfl
theorem nl_160 : fi_nl 160 = 1 := rfl
theorem ow_160 : fi_ow 160 = 15 := rfl
theorem cl_160 : fj_cutT.getD 160 [] = [(0, [0])] := rfl
theorem cut_160_0 : fj_cut 160 0 = some [0] := by decide +kernel
noncomputable def c_160_0 (d : Nat) (h : fi_H) : fk_R := gG (fj_run d) 160 0 [(0, (4, 377))] [] h
theorem e_160_0 (d : Nat) {h : fi_H} (H : Shp h) : c_160_0 d h =
  if 0 ≤ h 158 377 0 ∧ h 158 377 0 < 1202 then
  if h 8 378 (h 158 377 0).toNat = 0 then
    some (.inl none, h)
  else
    cv_ (fj_run d 161 h [(4, 377)])
      (fun h2 =>
      c_160_0 d h2)
      (fun q4 h2 => tx_ q4 h2)
  else none := by
  unfold c_160_0
  exact
    have D : fk_D 160 [(0, some [0], .aload_n 0, 1, 0, 0, 0), (1, none, .getfield 15, 3, 149, 115, 12), (4, none, .aload_n 0, 1, 0, 0, 0), (5, none, .getfield 104, 3, 158, 115, 10), (8, none, .baload, 1, 0, 0, 0), (9, none, .ifCond .eq 10, 3, 19, 0, 0), (12, none, .aload_n 0, 1, 0, 0, 0), (13, none, .invokevirtual 485, 3, 0, 273, 0), (16, none, .goto (-16), 3, 0, 0, 0)] := fq_of2 cd_160 ow_160 cl_160 rfl (pc := 0) (by decide +kernel)
    j_aldn (pc := 0) D rfl rfl rfl fun D =>
    j_gfc (pc := 1) (a := 377) D rfl rfl (by decide) rfl (s0_377 H) rfl (sf_149_377 H) fun D =>
    j_aldn (pc := 4) D rfl rfl rfl fun D =>
    j_gf (pc := 5) (a := 377) D rfl rfl (by decide) rfl (s0_377 H) rfl fun D =>
    j_al (pc := 8) (a := 378) (e := 8) D rfl rfl rfl (by decide) (s0_378 H) (s1_378 H) ⟨rfl, rfl, rfl⟩ rfl gn fun qb1 D =>
    j_ifeq (pc := 9) D rfl (fun q =>
      have D : fk_D 160 [(19, none, .return_, 1, 0, 0, 0)] := fq_of2 cd_160 ow_160 cl_160 rfl (pc := 19) (by decide +kernel)
      j_vret D rt_160) (fun q D =>
      j_aldn (pc := 12) D rfl rfl rfl fun D =>
      j_ivv (pc := 13) (m := 161) (dd := 273) (a := []) (rest := []) D rfl rfl rfl rfl rfl (by decide) (s0_377 H) (by decide +kernel) (fun h2 e1 D =>
        have T := fj_run_ok _ _ _ _ _ _ H.1 e1
        have H := shp_st H T
        j_goto (pc := 16) D rfl <|
        fk_jump cut_160_0 rfl rfl) (fun q4 h2 e1 =>
        j_tx (hx_160 _)))
theorem m_160 (d : Nat) {h : fi_H} (H : Shp h) : fj_run (d + 1) 160 h [(4, 377)] =
  c_160_0 d h := by
  rw [fj_run_eq d (by decide) h [(4, 377)] (Nat.le_of_ble_eq_true (by rw [nl_160]; rfl))]
  show gG (fj_run d) 160 0 [(0, (4, 377))] [] h = _
  exact
    fk_jump cut_160_0 rfl rfl
/-! 161 StatuteHouse$Reader.declaration()V -/
theorem cd_161 : fi_code 161 = prog_53_method_35_code := rfl
theorem hx_161 : ∀ pc, fi_hat 161 pc = none := fun pc => by unfold fi_hat; rw [show fi_hh 161 = [] from rfl]; rfl
theorem rt_161 : fi_ret 161 = none := rfl
theorem nl_161 : fi_nl 161 = 5 := rfl
theorem ow_161 : fi_ow 161 = 15 := rfl
theorem cl_161 : fj_cutT.getD 161 [] = [(38, [0, 1, 2]), (143, [0, 1, 2, 3]), (173, [0, 4])] := rfl
theorem cut_161_38 : fj_cut 161 38 = some [0, 1, 2] := by decide +kernel
noncomputable def c_161_38 (d : Nat) (x1 x2 : Int) (h : fi_H) : fk_R := gG (fj_run d) 161 38 [(0, (4, 377)), (1, (0, x1)), (2, (0, x2))] [] h
theorem cut_161_143 : fj_cut 161 143 = some [0, 1, 2, 3] := by decide +kernel
noncomputable def c_161_143 (d : Nat) (x1 x2 x3 : Int) (h : fi_H) : fk_R := gG (fj_run d) 161 143 [(0, (4, 377)), (1, (0, x1)), (2, (0, x2)), (3, (4, x3))] [] h
theorem cut_161_173 : fj_cut 161 173 = some [0, 4] := by decide +kernel
noncomputable def c_161_173 (d : Nat) (x4 : Int) (h : fi_H) : fk_R := gG (fj_run d) 161 173 [(0, (4, 377)), (4, (4, x4))] [] h
theorem e_161_38 (d : Nat) (x1 x2 : Int) {h : fi_H} (H : Shp h) : c_161_38 d x1 x2 h =
  cv_ (fj_run d 166 h [(4, 377)])
    (fun h1 =>
    ca_ (fj_run d 167 h1 [(4, 377)]) 0
      (fun v5 h4 =>
      if v5 = 0 then
        ca_ (fj_run d 164 h4 [(4, 377), (0, 1)]) 4
          (fun v8 h7 =>
          if v8 ≠ 0 then
          tx_ v8.toNat h7
          else none)
          (fun q9 h7 => tx_ q9 h7)
      else
        if 0 ≤ h4 158 377 0 ∧ h4 158 377 0 < 1202 then
        ca_ (fj_run d 181 h4 [(4, 377), (4, h4 12 383 (h4 158 377 0).toNat)]) 0
          (fun v12 h11 =>
          if v12 = (-1) then
            if wI ((h11 215 303 0) + (h11 160 377 0)) = 40 then
              ca_ (fj_run d 164 h11 [(4, 377), (0, 4)]) 4
                (fun v15 h14 =>
                if v15 ≠ 0 then
                tx_ v15.toNat h14
                else none)
                (fun q16 h14 => tx_ q16 h14)
            else
              cv_ (fj_run d 166 h11 [(4, 377)])
                (fun h17 =>
                cv_ (fj_run d 182 h17 [(4, 377), (0, 58)])
                  (fun h20 =>
                  if x2 = 0 then
                    c_161_143 d x1 x2 (h4 12 383 (h4 158 377 0).toNat) h20
                  else
                    ca_ (fj_run d 162 h20 [(4, 377), (4, 201)]) 0
                      (fun v24 h23 =>
                      if v24 = 0 then
                        ca_ (fj_run d 162 h23 [(4, 377), (4, 199)]) 0
                          (fun v27 h26 =>
                          if v27 = 0 then
                            ca_ (fj_run d 164 h26 [(4, 377), (0, 1)]) 4
                              (fun v30 h29 =>
                              if v30 ≠ 0 then
                              tx_ v30.toNat h29
                              else none)
                              (fun q31 h29 => tx_ q31 h29)
                          else
                            c_161_143 d x1 x2 (h4 12 383 (h4 158 377 0).toNat) h26)
                          (fun q28 h26 => tx_ q28 h26)
                      else
                        c_161_143 d x1 x2 (h4 12 383 (h4 158 377 0).toNat) h23)
                      (fun q25 h23 => tx_ q25 h23))
                  (fun q22 h20 => tx_ q22 h20))
                (fun q19 h17 => tx_ q19 h17)
          else
            ca_ (fj_run d 164 h11 [(4, 377), (0, 2)]) 4
              (fun v33 h32 =>
              if v33 ≠ 0 then
              tx_ v33.toNat h32
              else none)
              (fun q34 h32 => tx_ q34 h32))
          (fun q13 h11 => tx_ q13 h11)
        else none)
      (fun q6 h4 => tx_ q6 h4))
    (fun q3 h1 => tx_ q3 h1) := by
  unfold c_161_38
  exact
    have D : fk_D 161 [(38, some [0, 1, 2], .aload_n 0, 1, 0, 0, 0), (39, none, .invokevirtual 206, 3, 0, 261, 0), (42, none, .aload_n 0, 1, 0, 0, 0), (43, none, .invokevirtual 377, 3, 0, 266, 1), (46, none, .ifCond .ne 9, 3, 55, 0, 0), (49, none, .aload_n 0, 1, 0, 0, 0), (50, none, .iconst 1, 1, 0, 1, 0), (51, none, .invokevirtual 190, 3, 1, 258, 5), (54, none, .athrow, 1, 0, 0, 0)] := fq_of2 cd_161 ow_161 cl_161 rfl (pc := 38) (by decide +kernel)
    j_aldn (pc := 38) D rfl rfl rfl fun D =>
    j_ivv (pc := 39) (m := 166) (dd := 261) (a := []) (rest := []) D rfl rfl rfl rfl rfl (by decide) (s0_377 H) (by decide +kernel) (fun h1 e1 D =>
      have T := fj_run_ok _ _ _ _ _ _ H.1 e1
      have H := shp_st H T
      j_aldn (pc := 42) D rfl rfl rfl fun D =>
      j_iv (pc := 43) (m := 167) (dd := 266) (a := []) (rest := []) D rfl rfl rfl rfl rfl (by decide) (s0_377 H) (by decide +kernel) (fun v5 h4 e1 D =>
        have T := fj_run_ok _ _ _ _ _ _ H.1 e1
        have H := shp_st H T
        j_ifne (pc := 46) D rfl (fun q D =>
          j_aldn (pc := 49) D rfl rfl rfl fun D =>
          j_ic (pc := 50) D rfl fun D =>
          j_iv (pc := 51) (m := 164) (dd := 258) (a := [(0, 1)]) (rest := []) D rfl rfl rfl rfl rfl (by decide) (s0_377 H) (by decide +kernel) (fun v8 h7 e1 D =>
            have T := fj_run_ok _ _ _ _ _ _ H.1 e1
            have H := shp_st H T
            j_at (pc := 54) D gn <|
            j_tx (hx_161 _)) (fun q9 h7 e1 =>
            j_tx (hx_161 _))) (fun q =>
          have D : fk_D 161 [(55, none, .aload_n 0, 1, 0, 0, 0), (56, none, .getfield 37, 3, 154, 115, 12), (59, none, .aload_n 0, 1, 0, 0, 0), (60, none, .getfield 104, 3, 158, 115, 10), (63, none, .aaload, 1, 0, 0, 0), (64, none, .astore_n 3, 1, 0, 0, 0), (65, none, .aload_n 0, 1, 0, 0, 0), (66, none, .aload_n 3, 1, 0, 0, 0), (67, none, .invokevirtual 381, 3, 1, 267, 1), (70, none, .iconst (-1), 1, 0, (-1), 0), (71, none, .if_icmp .eq 9, 3, 80, 0, 0), (74, none, .aload_n 0, 1, 0, 0, 0), (75, none, .iconst 2, 1, 0, 2, 0), (76, none, .invokevirtual 190, 3, 1, 258, 5), (79, none, .athrow, 1, 0, 0, 0)] := fq_of2 cd_161 ow_161 cl_161 rfl (pc := 55) (by decide +kernel)
          j_aldn (pc := 55) D rfl rfl rfl fun D =>
          j_gfc (pc := 56) (a := 377) D rfl rfl (by decide) rfl (s0_377 H) rfl (sf_154_377 H) fun D =>
          j_aldn (pc := 59) D rfl rfl rfl fun D =>
          j_gf (pc := 60) (a := 377) D rfl rfl (by decide) rfl (s0_377 H) rfl fun D =>
          j_al (pc := 63) (a := 383) (e := 12) D rfl rfl rfl (by decide) (s0_383 H) (s1_383 H) ⟨rfl, rfl, rfl⟩ rfl gn fun qb10 D =>
          j_astn (pc := 64) (L' := [(3, (4, h4 12 383 (h4 158 377 0).toNat)), (0, (4, 377)), (1, (0, x1)), (2, (0, x2))]) D rfl nl_161 rfl rfl fun D =>
          j_aldn (pc := 65) D rfl rfl rfl fun D =>
          j_aldn (pc := 66) D rfl rfl rfl fun D =>
          j_iv (pc := 67) (m := 181) (dd := 267) (a := [(4, h4 12 383 (h4 158 377 0).toNat)]) (rest := []) D rfl rfl rfl rfl rfl (by decide) (s0_377 H) (by decide +kernel) (fun v12 h11 e1 D =>
            have T := fj_run_ok _ _ _ _ _ _ H.1 e1
            have H := shp_st H T
            j_ic (pc := 70) D rfl fun D =>
            j_ieq (pc := 71) D rfl (fun q =>
              have D : fk_D 161 [(80, none, .aload_n 0, 1, 0, 0, 0), (81, none, .getfield 3, 3, 182, 115, 12), (84, none, .getfield 365, 3, 215, 100, 10), (87, none, .aload_n 0, 1, 0, 0, 0), (88, none, .getfield 113, 3, 160, 115, 10), (91, none, .iadd, 1, 0, 0, 0), (92, none, .bipush 40, 2, 0, 40, 0), (94, none, .if_icmp .ne 9, 3, 103, 0, 0), (97, none, .aload_n 0, 1, 0, 0, 0), (98, none, .iconst 4, 1, 0, 4, 0), (99, none, .invokevirtual 190, 3, 1, 258, 5), (102, none, .athrow, 1, 0, 0, 0)] := fq_of2 cd_161 ow_161 cl_161 rfl (pc := 80) (by decide +kernel)
              j_aldn (pc := 80) D rfl rfl rfl fun D =>
              j_gfc (pc := 81) (a := 377) D rfl rfl (by decide) rfl (s0_377 H) rfl (sf_182_377 H) fun D =>
              j_gf (pc := 84) (a := 303) D rfl rfl (by decide) rfl (s0_303 H) rfl fun D =>
              j_aldn (pc := 87) D rfl rfl rfl fun D =>
              j_gf (pc := 88) (a := 377) D rfl rfl (by decide) rfl (s0_377 H) rfl fun D =>
              j_iadd (pc := 91) D rfl fun D =>
              j_bp (pc := 92) D rfl fun D =>
              j_ine (pc := 94) D rfl (fun q D =>
                j_aldn (pc := 97) D rfl rfl rfl fun D =>
                j_ic (pc := 98) D rfl fun D =>
                j_iv (pc := 99) (m := 164) (dd := 258) (a := [(0, 4)]) (rest := []) D rfl rfl rfl rfl rfl (by decide) (s0_377 H) (by decide +kernel) (fun v15 h14 e1 D =>
                  have T := fj_run_ok _ _ _ _ _ _ H.1 e1
                  have H := shp_st H T
                  j_at (pc := 102) D gn <|
                  j_tx (hx_161 _)) (fun q16 h14 e1 =>
                  j_tx (hx_161 _))) (fun q =>
                have D : fk_D 161 [(103, none, .aload_n 0, 1, 0, 0, 0), (104, none, .invokevirtual 206, 3, 0, 261, 0), (107, none, .aload_n 0, 1, 0, 0, 0), (108, none, .bipush 58, 2, 0, 58, 0), (110, none, .invokevirtual 216, 3, 1, 264, 0), (113, none, .iload_n 2, 1, 0, 0, 0), (114, none, .ifCond .eq 29, 3, 143, 0, 0), (117, none, .aload_n 0, 1, 0, 0, 0), (118, none, .ldc_w 262, 3, 4, 201, 0), (121, none, .invokevirtual 209, 3, 1, 262, 1), (124, none, .ifCond .ne 19, 3, 143, 0, 0), (127, none, .aload_n 0, 1, 0, 0, 0), (128, none, .ldc_w 260, 3, 4, 199, 0), (131, none, .invokevirtual 209, 3, 1, 262, 1), (134, none, .ifCond .ne 9, 3, 143, 0, 0), (137, none, .aload_n 0, 1, 0, 0, 0), (138, none, .iconst 1, 1, 0, 1, 0), (139, none, .invokevirtual 190, 3, 1, 258, 5), (142, none, .athrow, 1, 0, 0, 0)] := fq_of2 cd_161 ow_161 cl_161 rfl (pc := 103) (by decide +kernel)
                j_aldn (pc := 103) D rfl rfl rfl fun D =>
                j_ivv (pc := 104) (m := 166) (dd := 261) (a := []) (rest := []) D rfl rfl rfl rfl rfl (by decide) (s0_377 H) (by decide +kernel) (fun h17 e1 D =>
                  have T := fj_run_ok _ _ _ _ _ _ H.1 e1
                  have H := shp_st H T
                  j_aldn (pc := 107) D rfl rfl rfl fun D =>
                  j_bp (pc := 108) D rfl fun D =>
                  j_ivv (pc := 110) (m := 182) (dd := 264) (a := [(0, 58)]) (rest := []) D rfl rfl rfl rfl rfl (by decide) (s0_377 H) (by decide +kernel) (fun h20 e1 D =>
                    have T := fj_run_ok _ _ _ _ _ _ H.1 e1
                    have H := shp_st H T
                    j_ildn (pc := 113) D rfl rfl rfl fun D =>
                    j_ifeq (pc := 114) D rfl (fun q =>
                      fk_jump cut_161_143 rfl rfl) (fun q D =>
                      j_aldn (pc := 117) D rfl rfl rfl fun D =>
                      j_ldcw (pc := 118) D rfl fun D =>
                      j_iv (pc := 121) (m := 162) (dd := 262) (a := [(4, 201)]) (rest := []) D rfl rfl rfl rfl rfl (by decide) (s0_377 H) (by decide +kernel) (fun v24 h23 e1 D =>
                        have T := fj_run_ok _ _ _ _ _ _ H.1 e1
                        have H := shp_st H T
                        j_ifne (pc := 124) D rfl (fun q D =>
                          j_aldn (pc := 127) D rfl rfl rfl fun D =>
                          j_ldcw (pc := 128) D rfl fun D =>
                          j_iv (pc := 131) (m := 162) (dd := 262) (a := [(4, 199)]) (rest := []) D rfl rfl rfl rfl rfl (by decide) (s0_377 H) (by decide +kernel) (fun v27 h26 e1 D =>
                            have T := fj_run_ok _ _ _ _ _ _ H.1 e1
                            have H := shp_st H T
                            j_ifne (pc := 134) D rfl (fun q D =>
                              j_aldn (pc := 137) D rfl rfl rfl fun D =>
                              j_ic (pc := 138) D rfl fun D =>
                              j_iv (pc := 139) (m := 164) (dd := 258) (a := [(0, 1)]) (rest := []) D rfl rfl rfl rfl rfl (by decide) (s0_377 H) (by decide +kernel) (fun v30 h29 e1 D =>
                                have T := fj_run_ok _ _ _ _ _ _ H.1 e1
                                have H := shp_st H T
                                j_at (pc := 142) D gn <|
                                j_tx (hx_161 _)) (fun q31 h29 e1 =>
                                j_tx (hx_161 _))) (fun q =>
                              fk_jump cut_161_143 rfl rfl)) (fun q28 h26 e1 =>
                            j_tx (hx_161 _))) (fun q =>
                          fk_jump cut_161_143 rfl rfl)) (fun q25 h23 e1 =>
                        j_tx (hx_161 _)))) (fun q22 h20 e1 =>
                    j_tx (hx_161 _))) (fun q19 h17 e1 =>
                  j_tx (hx_161 _)))) (fun q D =>
              j_aldn (pc := 74) D rfl rfl rfl fun D =>
              j_ic (pc := 75) D rfl fun D =>
              j_iv (pc := 76) (m := 164) (dd := 258) (a := [(0, 2)]) (rest := []) D rfl rfl rfl rfl rfl (by decide) (s0_377 H) (by decide +kernel) (fun v33 h32 e1 D =>
                have T := fj_run_ok _ _ _ _ _ _ H.1 e1
                have H := shp_st H T
                j_at (pc := 79) D gn <|
                j_tx (hx_161 _)) (fun q34 h32 e1 =>
                j_tx (hx_161 _)))) (fun q13 h11 e1 =>
            j_tx (hx_161 _)))) (fun q6 h4 e1 =>
        j_tx (hx_161 _))) (fun q3 h1 e1 =>
      j_tx (hx_161 _))
theorem e_161_143 (d : Nat) (x1 x2 x3 : Int) {h : fi_H} (H : Shp h) : c_161_143 d x1 x2 x3 h =
  nw_ h 124 10 0 fun r1 h2 =>
  ca_ (fj_run d 184 h2 [(4, 377)]) 4
    (fun v4 h3 =>
    cv_ (fj_run d 185 h3 [(4, r1), (4, x3), (0, x1), (0, x2), (4, v4)])
      (fun h6 =>
      cv_ (fj_run d 166 h6 [(4, 377)])
        (fun h9 =>
        if x2 = 0 then
          cv_ (fj_run d 186 h9 [(4, 377), (4, r1)])
            (fun h12 =>
            c_161_173 d r1 h12)
            (fun q14 h12 => tx_ q14 h12)
        else
          c_161_173 d r1 h9)
        (fun q11 h9 => tx_ q11 h9))
      (fun q8 h6 => tx_ q8 h6))
    (fun q5 h3 => tx_ q5 h3) := by
  unfold c_161_143
  exact
    have D : fk_D 161 [(143, some [0, 1, 2, 3], .new 373, 3, 124, 10, 0), (146, none, .dup, 1, 0, 0, 0), (147, none, .aload_n 3, 1, 0, 0, 0), (148, none, .iload_n 1, 1, 0, 0, 0), (149, none, .iload_n 2, 1, 0, 0, 0), (150, none, .aload_n 0, 1, 0, 0, 0), (151, none, .invokevirtual 488, 3, 0, 274, 5), (154, none, .invokespecial 491, 3, 4, 185, 0), (157, none, .astore 4, 2, 0, 0, 0), (159, none, .aload_n 0, 1, 0, 0, 0), (160, none, .invokevirtual 206, 3, 0, 261, 0), (163, none, .iload_n 2, 1, 0, 0, 0), (164, none, .ifCond .ne 9, 3, 173, 0, 0), (167, none, .aload_n 0, 1, 0, 0, 0), (168, none, .aload 4, 2, 0, 0, 0), (170, none, .invokevirtual 494, 3, 1, 275, 0)] := fq_of2 cd_161 ow_161 cl_161 rfl (pc := 143) (by decide +kernel)
    j_new (pc := 143) D rfl fun r1 h2 er eh2 S D =>
    have gt_r1 := nw_gt H.1 er
    have kc_r1 := nw_cls H.1 er eh2
    have T := fj_hs_ok H.1 S
    have H := shp_st H T
    j_sh (pc := 146) D rfl rfl rfl fun D =>
    j_aldn (pc := 147) D rfl rfl rfl fun D =>
    j_ildn (pc := 148) D rfl rfl rfl fun D =>
    j_ildn (pc := 149) D rfl rfl rfl fun D =>
    j_aldn (pc := 150) D rfl rfl rfl fun D =>
    j_iv (pc := 151) (m := 184) (dd := 274) (a := []) (rest := [(0, x2), (0, x1), (4, x3), (4, r1), (4, r1)]) D rfl rfl rfl rfl rfl (by decide) (s0_377 H) (by decide +kernel) (fun v4 h3 e1 D =>
      have T := fj_run_ok _ _ _ _ _ _ H.1 e1
      have kc_r1 := cls_st H.1 T.2 kc_r1 (by decide)
      have H := shp_st H T
      j_spv (pc := 154) (m := 185) (a := [(4, x3), (0, x1), (0, x2), (4, v4)]) (rest := [(4, r1)]) D rfl rfl rfl rfl (by rw [show h3 0 r1.toNat 0 = 124 from kc_r1]; decide) (gt_nz gt_r1) (fun h6 e1 D =>
        have T := fj_run_ok _ _ _ _ _ _ H.1 e1
        have kc_r1 := cls_st H.1 T.2 kc_r1 (by decide)
        have H := shp_st H T
        j_ast (pc := 157) (L' := [(4, (4, r1)), (0, (4, 377)), (1, (0, x1)), (2, (0, x2)), (3, (4, x3))]) D rfl nl_161 rfl rfl fun D =>
        j_aldn (pc := 159) D rfl rfl rfl fun D =>
        j_ivv (pc := 160) (m := 166) (dd := 261) (a := []) (rest := []) D rfl rfl rfl rfl rfl (by decide) (s0_377 H) (by decide +kernel) (fun h9 e1 D =>
          have T := fj_run_ok _ _ _ _ _ _ H.1 e1
          have kc_r1 := cls_st H.1 T.2 kc_r1 (by decide)
          have H := shp_st H T
          j_ildn (pc := 163) D rfl rfl rfl fun D =>
          j_ifne (pc := 164) D rfl (fun q D =>
            j_aldn (pc := 167) D rfl rfl rfl fun D =>
            j_ald (pc := 168) D rfl rfl rfl fun D =>
            j_ivv (pc := 170) (m := 186) (dd := 275) (a := [(4, r1)]) (rest := []) D rfl rfl rfl rfl rfl (by decide) (s0_377 H) (by decide +kernel) (fun h12 e1 D =>
              have T := fj_run_ok _ _ _ _ _ _ H.1 e1
              have kc_r1 := cls_st H.1 T.2 kc_r1 (by decide)
              have H := shp_st H T
              fk_jump cut_161_173 rfl rfl) (fun q14 h12 e1 =>
              j_tx (hx_161 _))) (fun q =>
            fk_jump cut_161_173 rfl rfl)) (fun q11 h9 e1 =>
          j_tx (hx_161 _))) (fun q8 h6 e1 =>
        j_tx (hx_161 _))) (fun q5 h3 e1 =>
      j_tx (hx_161 _))
theorem e_161_173 (d : Nat) (x4 : Int) {h : fi_H} (H : Shp h) : c_161_173 d x4 h =
  cv_ (fj_run d 182 h [(4, 377), (0, 59)])
    (fun h1 =>
    if 0 ≤ wI ((h1 215 303 0) + (h1 160 377 0)) ∧ wI ((h1 215 303 0) + (h1 160 377 0)) < 40 then
    if x4 = 0 ∨ (fi_sup (h1 0 x4.toNat 0)).contains 124 = true then
    lt_ (fi_upd h1 12 320 (wI ((h1 215 303 0) + (h1 160 377 0))).toNat x4) fun h4 =>
    lt_ (fi_upd h4 160 377 0 (wI ((h4 160 377 0) + 1))) fun h6 =>
    some (.inl none, h6)
    else none
    else none)
    (fun q3 h1 => tx_ q3 h1) := by
  unfold c_161_173
  exact
    have D : fk_D 161 [(173, some [0, 4], .aload_n 0, 1, 0, 0, 0), (174, none, .bipush 59, 2, 0, 59, 0), (176, none, .invokevirtual 216, 3, 1, 264, 0), (179, none, .aload_n 0, 1, 0, 0, 0), (180, none, .getfield 3, 3, 182, 115, 12), (183, none, .getfield 368, 3, 214, 100, 12), (186, none, .aload_n 0, 1, 0, 0, 0), (187, none, .getfield 3, 3, 182, 115, 12), (190, none, .getfield 365, 3, 215, 100, 10), (193, none, .aload_n 0, 1, 0, 0, 0), (194, none, .getfield 113, 3, 160, 115, 10), (197, none, .iadd, 1, 0, 0, 0), (198, none, .aload 4, 2, 0, 0, 0), (200, none, .aastore, 1, 0, 0, 0), (201, none, .aload_n 0, 1, 0, 0, 0), (202, none, .dup, 1, 0, 0, 0), (203, none, .getfield 113, 3, 160, 115, 10), (206, none, .iconst 1, 1, 0, 1, 0), (207, none, .iadd, 1, 0, 0, 0), (208, none, .putfield 113, 3, 160, 115, 10)] := fq_of2 cd_161 ow_161 cl_161 rfl (pc := 173) (by decide +kernel)
    j_aldn (pc := 173) D rfl rfl rfl fun D =>
    j_bp (pc := 174) D rfl fun D =>
    j_ivv (pc := 176) (m := 182) (dd := 264) (a := [(0, 59)]) (rest := []) D rfl rfl rfl rfl rfl (by decide) (s0_377 H) (by decide +kernel) (fun h1 e1 D =>
      have T := fj_run_ok _ _ _ _ _ _ H.1 e1
      have H := shp_st H T
      j_aldn (pc := 179) D rfl rfl rfl fun D =>
      j_gfc (pc := 180) (a := 377) D rfl rfl (by decide) rfl (s0_377 H) rfl (sf_182_377 H) fun D =>
      j_gfc (pc := 183) (a := 303) D rfl rfl (by decide) rfl (s0_303 H) rfl (sf_214_303 H) fun D =>
      j_aldn (pc := 186) D rfl rfl rfl fun D =>
      j_gfc (pc := 187) (a := 377) D rfl rfl (by decide) rfl (s0_377 H) rfl (sf_182_377 H) fun D =>
      j_gf (pc := 190) (a := 303) D rfl rfl (by decide) rfl (s0_303 H) rfl fun D =>
      j_aldn (pc := 193) D rfl rfl rfl fun D =>
      j_gf (pc := 194) (a := 377) D rfl rfl (by decide) rfl (s0_377 H) rfl fun D =>
      j_iadd (pc := 197) D rfl fun D =>
      j_ald (pc := 198) D rfl rfl rfl fun D =>
      j_asr (pc := 200) (a := 320) D rfl rfl (by decide) (s0_320 H) (s1_320 H) ⟨rfl, rfl, rfl⟩ rfl gn gn fun h4 eh4 S qb5 D =>
      have T := fj_hs_ok H.1 S
      have H := shp_st H T
      j_aldn (pc := 201) D rfl rfl rfl fun D =>
      j_sh (pc := 202) D rfl rfl rfl fun D =>
      j_gf (pc := 203) (a := 377) D rfl rfl (by decide) rfl (s0_377 H) rfl fun D =>
      j_ic (pc := 206) D rfl fun D =>
      j_iadd (pc := 207) D rfl fun D =>
      j_pf (pc := 208) (a := 377) D rfl rfl rfl (s0_377 H) rfl rfl (gy (by decide)) (gy rfl) fun h6 eh6 S D =>
      have T := fj_hs_ok H.1 S
      have H := shp_st H T
      have D : fk_D 161 [(211, none, .return_, 1, 0, 0, 0)] := fq_of2 cd_161 ow_161 cl_161 rfl (pc := 211) (by decide +kernel)
      j_vret D rt_161) (fun q3 h1 e1 =>
      j_tx (hx_161 _))
theorem m_161 (d : Nat) {h : fi_H} (H : Shp h) : fj_run (d + 1) 161 h [(4, 377)] =
  ca_ (fj_run d 162 h [(4, 377), (4, 167)]) 0
    (fun v2 h1 =>
    ca_ (fj_run d 162 h1 [(4, 377), (4, 169)]) 0
      (fun v5 h4 =>
      if v2 = 0 then
        if v5 = 0 then
          ca_ (fj_run d 162 h4 [(4, 377), (4, 171)]) 0
            (fun v8 h7 =>
            if v8 = 0 then
              ca_ (fj_run d 164 h7 [(4, 377), (0, 1)]) 4
                (fun v11 h10 =>
                if v11 ≠ 0 then
                tx_ v11.toNat h10
                else none)
                (fun q12 h10 => tx_ q12 h10)
            else
              c_161_38 d v2 v5 h7)
            (fun q9 h7 => tx_ q9 h7)
        else
          c_161_38 d v2 v5 h4
      else
        c_161_38 d v2 v5 h4)
      (fun q6 h4 => tx_ q6 h4))
    (fun q3 h1 => tx_ q3 h1) := by
  rw [fj_run_eq d (by decide) h [(4, 377)] (Nat.le_of_ble_eq_true (by rw [nl_161]; rfl))]
  show gG (fj_run d) 161 0 [(0, (4, 377))] [] h = _
  exact
    have D : fk_D 161 [(0, none, .aload_n 0, 1, 0, 0, 0), (1, none, .ldc 252, 2, 4, 167, 0), (3, none, .invokevirtual 209, 3, 1, 262, 1), (6, none, .istore_n 1, 1, 0, 0, 0), (7, none, .aload_n 0, 1, 0, 0, 0), (8, none, .ldc_w 330, 3, 4, 169, 0), (11, none, .invokevirtual 209, 3, 1, 262, 1), (14, none, .istore_n 2, 1, 0, 0, 0), (15, none, .iload_n 1, 1, 0, 0, 0), (16, none, .ifCond .ne 22, 3, 38, 0, 0), (19, none, .iload_n 2, 1, 0, 0, 0), (20, none, .ifCond .ne 18, 3, 38, 0, 0), (23, none, .aload_n 0, 1, 0, 0, 0), (24, none, .ldc 250, 2, 4, 171, 0), (26, none, .invokevirtual 209, 3, 1, 262, 1), (29, none, .ifCond .ne 9, 3, 38, 0, 0), (32, none, .aload_n 0, 1, 0, 0, 0), (33, none, .iconst 1, 1, 0, 1, 0), (34, none, .invokevirtual 190, 3, 1, 258, 5), (37, none, .athrow, 1, 0, 0, 0)] := fq_of2 cd_161 ow_161 cl_161 rfl (pc := 0) (by decide +kernel)
    j_aldn (pc := 0) D rfl rfl rfl fun D =>
    j_ldc (pc := 1) D rfl fun D =>
    j_iv (pc := 3) (m := 162) (dd := 262) (a := [(4, 167)]) (rest := []) D rfl rfl rfl rfl rfl (by decide) (s0_377 H) (by decide +kernel) (fun v2 h1 e1 D =>
      have T := fj_run_ok _ _ _ _ _ _ H.1 e1
      have H := shp_st H T
      j_istn (pc := 6) (L' := [(1, (0, v2)), (0, (4, 377))]) D rfl nl_161 rfl rfl fun D =>
      j_aldn (pc := 7) D rfl rfl rfl fun D =>
      j_ldcw (pc := 8) D rfl fun D =>
      j_iv (pc := 11) (m := 162) (dd := 262) (a := [(4, 169)]) (rest := []) D rfl rfl rfl rfl rfl (by decide) (s0_377 H) (by decide +kernel) (fun v5 h4 e1 D =>
        have T := fj_run_ok _ _ _ _ _ _ H.1 e1
        have H := shp_st H T
        j_istn (pc := 14) (L' := [(2, (0, v5)), (1, (0, v2)), (0, (4, 377))]) D rfl nl_161 rfl rfl fun D =>
        j_ildn (pc := 15) D rfl rfl rfl fun D =>
        j_ifne (pc := 16) D rfl (fun q D =>
          j_ildn (pc := 19) D rfl rfl rfl fun D =>
          j_ifne (pc := 20) D rfl (fun q D =>
            j_aldn (pc := 23) D rfl rfl rfl fun D =>
            j_ldc (pc := 24) D rfl fun D =>
            j_iv (pc := 26) (m := 162) (dd := 262) (a := [(4, 171)]) (rest := []) D rfl rfl rfl rfl rfl (by decide) (s0_377 H) (by decide +kernel) (fun v8 h7 e1 D =>
              have T := fj_run_ok _ _ _ _ _ _ H.1 e1
              have H := shp_st H T
              j_ifne (pc := 29) D rfl (fun q D =>
                j_aldn (pc := 32) D rfl rfl rfl fun D =>
                j_ic (pc := 33) D rfl fun D =>
                j_iv (pc := 34) (m := 164) (dd := 258) (a := [(0, 1)]) (rest := []) D rfl rfl rfl rfl rfl (by decide) (s0_377 H) (by decide +kernel) (fun v11 h10 e1 D =>
                  have T := fj_run_ok _ _ _ _ _ _ H.1 e1
                  have H := shp_st H T
                  j_at (pc := 37) D gn <|
                  j_tx (hx_161 _)) (fun q12 h10 e1 =>
                  j_tx (hx_161 _))) (fun q =>
                fk_jump cut_161_38 rfl rfl)) (fun q9 h7 e1 =>
              j_tx (hx_161 _))) (fun q =>
            fk_jump cut_161_38 rfl rfl)) (fun q =>
          fk_jump cut_161_38 rfl rfl)) (fun q6 h4 e1 =>
        j_tx (hx_161 _))) (fun q3 h1 e1 =>
      j_tx (hx_161 _))
/-! 162 StatuteHouse$Reader.isWord(Ljava/lang/String;)Z -/
theorem cd_162 : fi_code 162 = prog_53_method_15_code := rfl
theorem hx_162 : ∀ pc, fi_hat 162 pc = none := fun pc => by unfold fi_hat; rw [show fi_hh 162 = [] from rfl]; rfl
theorem rt_162 : fi_ret 162 = some .boolean := rfl
theorem nl_162 : fi_nl 162 = 2 := rfl
theorem ow_162 : fi_ow 162 = 15 := rfl
theorem cl_162 : fj_cutT.getD 162 [] = [] := rfl
theorem m_162 (d : Nat) (x1 : Int) {h : fi_H} (H : Shp h) : fj_run (d + 1) 162 h [(4, 377), (4, x1)] =
  ca_ (fj_run d 163 h [(4, 377), (0, h 158 377 0), (4, x1)]) 0
    (fun v2 h1 =>
    if v2 = 0 ∨ v2 = 1 then some (.inl (some (0, v2)), h1) else none)
    (fun q3 h1 => tx_ q3 h1) := by
  rw [fj_run_eq d (by decide) h [(4, 377), (4, x1)] (Nat.le_of_ble_eq_true (by rw [nl_162]; rfl))]
  show gG (fj_run d) 162 0 [(0, (4, 377)), (1, (4, x1))] [] h = _
  exact
    have D : fk_D 162 [(0, none, .aload_n 0, 1, 0, 0, 0), (1, none, .aload_n 0, 1, 0, 0, 0), (2, none, .getfield 104, 3, 158, 115, 10), (5, none, .aload_n 1, 1, 0, 0, 0), (6, none, .invokevirtual 198, 3, 2, 259, 1), (9, none, .ireturn, 1, 0, 0, 0)] := fq_of2 cd_162 ow_162 cl_162 rfl (pc := 0) (by decide +kernel)
    j_aldn (pc := 0) D rfl rfl rfl fun D =>
    j_aldn (pc := 1) D rfl rfl rfl fun D =>
    j_gf (pc := 2) (a := 377) D rfl rfl (by decide) rfl (s0_377 H) rfl fun D =>
    j_aldn (pc := 5) D rfl rfl rfl fun D =>
    j_iv (pc := 6) (m := 163) (dd := 259) (a := [(0, h 158 377 0), (4, x1)]) (rest := []) D rfl rfl rfl rfl rfl (by decide) (s0_377 H) (by decide +kernel) (fun v2 h1 e1 D =>
      have T := fj_run_ok _ _ _ _ _ _ H.1 e1
      have H := shp_st H T
      j_zret D rt_162 gn) (fun q3 h1 e1 =>
      j_tx (hx_162 _))
/-! 163 StatuteHouse$Reader.isAt(ILjava/lang/String;)Z -/
theorem cd_163 : fi_code 163 = prog_53_method_14_code := rfl
theorem hx_163 : ∀ pc, fi_hat 163 pc = none := fun pc => by unfold fi_hat; rw [show fi_hh 163 = [] from rfl]; rfl
theorem rt_163 : fi_ret 163 = some .boolean := rfl
theorem nl_163 : fi_nl 163 = 3 := rfl
theorem ow_163 : fi_ow 163 = 15 := rfl
theorem cl_163 : fj_cutT.getD 163 [] = [] := rfl
theorem m_163 (d : Nat) (x1 x2 : Int) {h : fi_H} (H : Shp h) : fj_run (d + 1) 163 h [(4, 377), (0, x1), (4, x2)] =
  if 0 ≤ x1 ∧ x1 < 1202 then
  if h 8 378 x1.toNat = 2 then
    dv_ (fi_vt 216 (h 0 (h 12 383 x1.toNat).toNat 0)) fun m5 => ca_ (fj_run d m5 h [(4, h 12 383 x1.toNat), (4, x2)]) 0
      (fun v3 h2 =>
      if v3 = 0 then
        some (.inl (some (0, 0)), h2)
      else
        some (.inl (some (0, 1)), h2))
      (fun q4 h2 => tx_ q4 h2)
  else
    some (.inl (some (0, 0)), h)
  else none := by
  rw [fj_run_eq d (by decide) h [(4, 377), (0, x1), (4, x2)] (Nat.le_of_ble_eq_true (by rw [nl_163]; rfl))]
  show gG (fj_run d) 163 0 [(0, (4, 377)), (1, (0, x1)), (2, (4, x2))] [] h = _
  exact
    have D : fk_D 163 [(0, none, .aload_n 0, 1, 0, 0, 0), (1, none, .getfield 15, 3, 149, 115, 12), (4, none, .iload_n 1, 1, 0, 0, 0), (5, none, .baload, 1, 0, 0, 0), (6, none, .iconst 2, 1, 0, 2, 0), (7, none, .if_icmp .ne 20, 3, 27, 0, 0), (10, none, .aload_n 0, 1, 0, 0, 0), (11, none, .getfield 37, 3, 154, 115, 12), (14, none, .iload_n 1, 1, 0, 0, 0), (15, none, .aaload, 1, 0, 0, 0), (16, none, .aload_n 2, 1, 0, 0, 0), (17, none, .invokevirtual 194, 3, 1, 216, 1), (20, none, .ifCond .eq 7, 3, 27, 0, 0), (23, none, .iconst 1, 1, 0, 1, 0), (24, none, .goto 4, 3, 28, 0, 0)] := fq_of2 cd_163 ow_163 cl_163 rfl (pc := 0) (by decide +kernel)
    j_aldn (pc := 0) D rfl rfl rfl fun D =>
    j_gfc (pc := 1) (a := 377) D rfl rfl (by decide) rfl (s0_377 H) rfl (sf_149_377 H) fun D =>
    j_ildn (pc := 4) D rfl rfl rfl fun D =>
    j_al (pc := 5) (a := 378) (e := 8) D rfl rfl rfl (by decide) (s0_378 H) (s1_378 H) ⟨rfl, rfl, rfl⟩ rfl gn fun qb1 D =>
    j_ic (pc := 6) D rfl fun D =>
    j_ine (pc := 7) D rfl (fun q D =>
      j_aldn (pc := 10) D rfl rfl rfl fun D =>
      j_gfc (pc := 11) (a := 377) D rfl rfl (by decide) rfl (s0_377 H) rfl (sf_154_377 H) fun D =>
      j_ildn (pc := 14) D rfl rfl rfl fun D =>
      j_al (pc := 15) (a := 383) (e := 12) D rfl rfl rfl (by decide) (s0_383 H) (s1_383 H) ⟨rfl, rfl, rfl⟩ rfl (gy qb1) fun q D =>
      j_aldn (pc := 16) D rfl rfl rfl fun D =>
      j_ivu (pc := 17) (dd := 216) (a := [(4, x2)]) (rest := []) H.2.1 D rfl rfl rfl rfl rfl (fun m5 v3 h2 e1 D =>
        have T := fj_run_ok _ _ _ _ _ _ H.1 e1
        have H := shp_st H T
        j_ifeq (pc := 20) D rfl (fun q =>
          have D : fk_D 163 [(27, none, .iconst 0, 1, 0, 0, 0), (28, none, .ireturn, 1, 0, 0, 0)] := fq_of2 cd_163 ow_163 cl_163 rfl (pc := 27) (by decide +kernel)
          j_ic (pc := 27) D rfl fun D =>
          j_zret D rt_163 (gy (by decide))) (fun q D =>
          j_ic (pc := 23) D rfl fun D =>
          j_goto (pc := 24) D rfl <|
          have D : fk_D 163 [(28, none, .ireturn, 1, 0, 0, 0)] := fq_of2 cd_163 ow_163 cl_163 rfl (pc := 28) (by decide +kernel)
          j_zret D rt_163 (gy (by decide)))) (fun m5 q4 h2 e1 =>
        j_tx (hx_163 _))) (fun q =>
      have D : fk_D 163 [(27, none, .iconst 0, 1, 0, 0, 0), (28, none, .ireturn, 1, 0, 0, 0)] := fq_of2 cd_163 ow_163 cl_163 rfl (pc := 27) (by decide +kernel)
      j_ic (pc := 27) D rfl fun D =>
      j_zret D rt_163 (gy (by decide)))
/-! 164 StatuteHouse$Reader.wrongAt(I)LStatuteHouse$Wrong; -/
theorem cd_164 : fi_code 164 = prog_53_method_11_code := rfl
theorem hx_164 : ∀ pc, fi_hat 164 pc = none := fun pc => by unfold fi_hat; rw [show fi_hh 164 = [] from rfl]; rfl
theorem rt_164 : fj_ft (fi_ret 164) = 5 := rfl
theorem nl_164 : fi_nl 164 = 2 := rfl
theorem ow_164 : fi_ow 164 = 15 := rfl
theorem cl_164 : fj_cutT.getD 164 [] = [] := rfl
theorem m_164 (d : Nat) (x1 : Int) {h : fi_H} (H : Shp h) : fj_run (d + 1) 164 h [(4, 377), (0, x1)] =
  if 0 ≤ h 158 377 0 ∧ h 158 377 0 < 1202 then
  ca_ (fj_run d 165 h [(4, 303), (0, x1), (0, h 9 379 (h 158 377 0).toNat)]) 4
    (fun v3 h2 =>
    some (.inl (some (4, v3)), h2))
    (fun q4 h2 => tx_ q4 h2)
  else none := by
  rw [fj_run_eq d (by decide) h [(4, 377), (0, x1)] (Nat.le_of_ble_eq_true (by rw [nl_164]; rfl))]
  show gG (fj_run d) 164 0 [(0, (4, 377)), (1, (0, x1))] [] h = _
  exact
    have D : fk_D 164 [(0, none, .aload_n 0, 1, 0, 0, 0), (1, none, .getfield 3, 3, 182, 115, 12), (4, none, .iload_n 1, 1, 0, 0, 0), (5, none, .aload_n 0, 1, 0, 0, 0), (6, none, .getfield 19, 3, 150, 115, 12), (9, none, .aload_n 0, 1, 0, 0, 0), (10, none, .getfield 104, 3, 158, 115, 10), (13, none, .saload, 1, 0, 0, 0), (14, none, .invokevirtual 186, 3, 2, 257, 5), (17, none, .areturn, 1, 0, 0, 0)] := fq_of2 cd_164 ow_164 cl_164 rfl (pc := 0) (by decide +kernel)
    j_aldn (pc := 0) D rfl rfl rfl fun D =>
    j_gfc (pc := 1) (a := 377) D rfl rfl (by decide) rfl (s0_377 H) rfl (sf_182_377 H) fun D =>
    j_ildn (pc := 4) D rfl rfl rfl fun D =>
    j_aldn (pc := 5) D rfl rfl rfl fun D =>
    j_gfc (pc := 6) (a := 377) D rfl rfl (by decide) rfl (s0_377 H) rfl (sf_150_377 H) fun D =>
    j_aldn (pc := 9) D rfl rfl rfl fun D =>
    j_gf (pc := 10) (a := 377) D rfl rfl (by decide) rfl (s0_377 H) rfl fun D =>
    j_al (pc := 13) (a := 379) (e := 9) D rfl rfl rfl (by decide) (s0_379 H) (s1_379 H) ⟨rfl, rfl, rfl⟩ rfl gn fun qb1 D =>
    j_iv (pc := 14) (m := 165) (dd := 257) (a := [(0, x1), (0, h 9 379 (h 158 377 0).toNat)]) (rest := []) D rfl rfl rfl rfl rfl (by decide) (s0_303 H) (by decide +kernel) (fun v3 h2 e1 D =>
      have T := fj_run_ok _ _ _ _ _ _ H.1 e1
      have H := shp_st H T
      j_aret D rt_164) (fun q4 h2 e1 =>
      j_tx (hx_164 _))
/-! 165 StatuteHouse.wrong(II)LStatuteHouse$Wrong; -/
theorem cd_165 : fi_code 165 = prog_1_method_2_code := rfl
theorem hx_165 : ∀ pc, fi_hat 165 pc = none := fun pc => by unfold fi_hat; rw [show fi_hh 165 = [] from rfl]; rfl
theorem rt_165 : fj_ft (fi_ret 165) = 5 := rfl
theorem nl_165 : fi_nl 165 = 3 := rfl
theorem ow_165 : fi_ow 165 = 0 := rfl
theorem cl_165 : fj_cutT.getD 165 [] = [] := rfl
theorem m_165 (d : Nat) (x1 x2 : Int) {h : fi_H} (H : Shp h) : fj_run (d + 1) 165 h [(4, 303), (0, x1), (0, x2)] =
  lt_ (fi_upd h 107 304 0 x1) fun h1 =>
  lt_ (fi_upd h1 108 304 0 x2) fun h2 =>
  some (.inl (some (4, 304)), h2) := by
  rw [fj_run_eq d (by decide) h [(4, 303), (0, x1), (0, x2)] (Nat.le_of_ble_eq_true (by rw [nl_165]; rfl))]
  show gG (fj_run d) 165 0 [(0, (4, 303)), (1, (0, x1)), (2, (0, x2))] [] h = _
  exact
    have D : fk_D 165 [(0, none, .aload_n 0, 1, 0, 0, 0), (1, none, .getfield 1, 3, 207, 100, 12), (4, none, .iload_n 1, 1, 0, 0, 0), (5, none, .putfield 7, 3, 107, 128, 10), (8, none, .aload_n 0, 1, 0, 0, 0), (9, none, .getfield 1, 3, 207, 100, 12), (12, none, .iload_n 2, 1, 0, 0, 0), (13, none, .putfield 13, 3, 108, 128, 10), (16, none, .aload_n 0, 1, 0, 0, 0), (17, none, .getfield 1, 3, 207, 100, 12), (20, none, .areturn, 1, 0, 0, 0)] := fq_of2 cd_165 ow_165 cl_165 rfl (pc := 0) (by decide +kernel)
    j_aldn (pc := 0) D rfl rfl rfl fun D =>
    j_gfc (pc := 1) (a := 303) D rfl rfl (by decide) rfl (s0_303 H) rfl (sf_207_303 H) fun D =>
    j_ildn (pc := 4) D rfl rfl rfl fun D =>
    j_pf (pc := 5) (a := 304) D rfl rfl rfl (s0_304 H) rfl rfl (gy (by decide)) (gy rfl) fun h1 eh1 S D =>
    have T := fj_hs_ok H.1 S
    have H := shp_st H T
    j_aldn (pc := 8) D rfl rfl rfl fun D =>
    j_gfc (pc := 9) (a := 303) D rfl rfl (by decide) rfl (s0_303 H) rfl (sf_207_303 H) fun D =>
    j_ildn (pc := 12) D rfl rfl rfl fun D =>
    j_pf (pc := 13) (a := 304) D rfl rfl rfl (s0_304 H) rfl rfl (gy (by decide)) (gy rfl) fun h2 eh2 S D =>
    have T := fj_hs_ok H.1 S
    have H := shp_st H T
    j_aldn (pc := 16) D rfl rfl rfl fun D =>
    j_gfc (pc := 17) (a := 303) D rfl rfl (by decide) rfl (s0_303 H) rfl (sf_207_303 H) fun D =>
    j_aret D rt_165
/-! 166 StatuteHouse$Reader.take()V -/
theorem cd_166 : fi_code 166 = prog_53_method_12_code := rfl
theorem hx_166 : ∀ pc, fi_hat 166 pc = none := fun pc => by unfold fi_hat; rw [show fi_hh 166 = [] from rfl]; rfl
theorem rt_166 : fi_ret 166 = none := rfl
theorem nl_166 : fi_nl 166 = 1 := rfl
theorem ow_166 : fi_ow 166 = 15 := rfl
theorem cl_166 : fj_cutT.getD 166 [] = [] := rfl
theorem m_166 (d : Nat) {h : fi_H} (H : Shp h) : fj_run (d + 1) 166 h [(4, 377)] =
  if h 158 377 0 = 1200 then
    ca_ (fj_run d 164 h [(4, 377), (0, 4)]) 4
      (fun v2 h1 =>
      if v2 ≠ 0 then
      tx_ v2.toNat h1
      else none)
      (fun q3 h1 => tx_ q3 h1)
  else
    lt_ (fi_upd h 158 377 0 (wI ((h 158 377 0) + 1))) fun h4 =>
    some (.inl none, h4) := by
  rw [fj_run_eq d (by decide) h [(4, 377)] (Nat.le_of_ble_eq_true (by rw [nl_166]; rfl))]
  show gG (fj_run d) 166 0 [(0, (4, 377))] [] h = _
  exact
    have D : fk_D 166 [(0, none, .aload_n 0, 1, 0, 0, 0), (1, none, .getfield 104, 3, 158, 115, 10), (4, none, .sipush 1200, 3, 0, 1200, 0), (7, none, .if_icmp .ne 9, 3, 16, 0, 0), (10, none, .aload_n 0, 1, 0, 0, 0), (11, none, .iconst 4, 1, 0, 4, 0), (12, none, .invokevirtual 190, 3, 1, 258, 5), (15, none, .athrow, 1, 0, 0, 0)] := fq_of2 cd_166 ow_166 cl_166 rfl (pc := 0) (by decide +kernel)
    j_aldn (pc := 0) D rfl rfl rfl fun D =>
    j_gf (pc := 1) (a := 377) D rfl rfl (by decide) rfl (s0_377 H) rfl fun D =>
    j_sp (pc := 4) D rfl fun D =>
    j_ine (pc := 7) D rfl (fun q D =>
      j_aldn (pc := 10) D rfl rfl rfl fun D =>
      j_ic (pc := 11) D rfl fun D =>
      j_iv (pc := 12) (m := 164) (dd := 258) (a := [(0, 4)]) (rest := []) D rfl rfl rfl rfl rfl (by decide) (s0_377 H) (by decide +kernel) (fun v2 h1 e1 D =>
        have T := fj_run_ok _ _ _ _ _ _ H.1 e1
        have H := shp_st H T
        j_at (pc := 15) D gn <|
        j_tx (hx_166 _)) (fun q3 h1 e1 =>
        j_tx (hx_166 _))) (fun q =>
      have D : fk_D 166 [(16, none, .aload_n 0, 1, 0, 0, 0), (17, none, .dup, 1, 0, 0, 0), (18, none, .getfield 104, 3, 158, 115, 10), (21, none, .iconst 1, 1, 0, 1, 0), (22, none, .iadd, 1, 0, 0, 0), (23, none, .putfield 104, 3, 158, 115, 10), (26, none, .return_, 1, 0, 0, 0)] := fq_of2 cd_166 ow_166 cl_166 rfl (pc := 16) (by decide +kernel)
      j_aldn (pc := 16) D rfl rfl rfl fun D =>
      j_sh (pc := 17) D rfl rfl rfl fun D =>
      j_gf (pc := 18) (a := 377) D rfl rfl (by decide) rfl (s0_377 H) rfl fun D =>
      j_ic (pc := 21) D rfl fun D =>
      j_iadd (pc := 22) D rfl fun D =>
      j_pf (pc := 23) (a := 377) D rfl rfl rfl (s0_377 H) rfl rfl (gy (by decide)) (gy rfl) fun h4 eh4 S D =>
      have T := fj_hs_ok H.1 S
      have H := shp_st H T
      j_vret D rt_166)
/-! 167 StatuteHouse$Reader.isName()Z -/
theorem cd_167 : fi_code 167 = prog_53_method_23_code := rfl
theorem hx_167 : ∀ pc, fi_hat 167 pc = none := fun pc => by unfold fi_hat; rw [show fi_hh 167 = [] from rfl]; rfl
theorem rt_167 : fi_ret 167 = some .boolean := rfl
theorem nl_167 : fi_nl 167 = 1 := rfl
theorem ow_167 : fi_ow 167 = 15 := rfl
theorem cl_167 : fj_cutT.getD 167 [] = [] := rfl
theorem m_167 (d : Nat) {h : fi_H} (H : Shp h) : fj_run (d + 1) 167 h [(4, 377)] =
  if 0 ≤ h 158 377 0 ∧ h 158 377 0 < 1202 then
  if h 8 378 (h 158 377 0).toNat = 2 then
    ca_ (fj_run d 168 h [(4, 377), (4, h 12 383 (h 158 377 0).toNat)]) 0
      (fun v3 h2 =>
      if v3 = 0 then
        some (.inl (some (0, 1)), h2)
      else
        some (.inl (some (0, 0)), h2))
      (fun q4 h2 => tx_ q4 h2)
  else
    some (.inl (some (0, 0)), h)
  else none := by
  rw [fj_run_eq d (by decide) h [(4, 377)] (Nat.le_of_ble_eq_true (by rw [nl_167]; rfl))]
  show gG (fj_run d) 167 0 [(0, (4, 377))] [] h = _
  exact
    have D : fk_D 167 [(0, none, .aload_n 0, 1, 0, 0, 0), (1, none, .getfield 15, 3, 149, 115, 12), (4, none, .aload_n 0, 1, 0, 0, 0), (5, none, .getfield 104, 3, 158, 115, 10), (8, none, .baload, 1, 0, 0, 0), (9, none, .iconst 2, 1, 0, 2, 0), (10, none, .if_icmp .ne 23, 3, 33, 0, 0), (13, none, .aload_n 0, 1, 0, 0, 0), (14, none, .aload_n 0, 1, 0, 0, 0), (15, none, .getfield 37, 3, 154, 115, 12), (18, none, .aload_n 0, 1, 0, 0, 0), (19, none, .getfield 104, 3, 158, 115, 10), (22, none, .aaload, 1, 0, 0, 0), (23, none, .invokevirtual 362, 3, 1, 265, 1), (26, none, .ifCond .ne 7, 3, 33, 0, 0), (29, none, .iconst 1, 1, 0, 1, 0), (30, none, .goto 4, 3, 34, 0, 0)] := fq_of2 cd_167 ow_167 cl_167 rfl (pc := 0) (by decide +kernel)
    j_aldn (pc := 0) D rfl rfl rfl fun D =>
    j_gfc (pc := 1) (a := 377) D rfl rfl (by decide) rfl (s0_377 H) rfl (sf_149_377 H) fun D =>
    j_aldn (pc := 4) D rfl rfl rfl fun D =>
    j_gf (pc := 5) (a := 377) D rfl rfl (by decide) rfl (s0_377 H) rfl fun D =>
    j_al (pc := 8) (a := 378) (e := 8) D rfl rfl rfl (by decide) (s0_378 H) (s1_378 H) ⟨rfl, rfl, rfl⟩ rfl gn fun qb1 D =>
    j_ic (pc := 9) D rfl fun D =>
    j_ine (pc := 10) D rfl (fun q D =>
      j_aldn (pc := 13) D rfl rfl rfl fun D =>
      j_aldn (pc := 14) D rfl rfl rfl fun D =>
      j_gfc (pc := 15) (a := 377) D rfl rfl (by decide) rfl (s0_377 H) rfl (sf_154_377 H) fun D =>
      j_aldn (pc := 18) D rfl rfl rfl fun D =>
      j_gf (pc := 19) (a := 377) D rfl rfl (by decide) rfl (s0_377 H) rfl fun D =>
      j_al (pc := 22) (a := 383) (e := 12) D rfl rfl rfl (by decide) (s0_383 H) (s1_383 H) ⟨rfl, rfl, rfl⟩ rfl (gy qb1) fun q D =>
      j_iv (pc := 23) (m := 168) (dd := 265) (a := [(4, h 12 383 (h 158 377 0).toNat)]) (rest := []) D rfl rfl rfl rfl rfl (by decide) (s0_377 H) (by decide +kernel) (fun v3 h2 e1 D =>
        have T := fj_run_ok _ _ _ _ _ _ H.1 e1
        have H := shp_st H T
        j_ifne (pc := 26) D rfl (fun q D =>
          j_ic (pc := 29) D rfl fun D =>
          j_goto (pc := 30) D rfl <|
          have D : fk_D 167 [(34, none, .ireturn, 1, 0, 0, 0)] := fq_of2 cd_167 ow_167 cl_167 rfl (pc := 34) (by decide +kernel)
          j_zret D rt_167 (gy (by decide))) (fun q =>
          have D : fk_D 167 [(33, none, .iconst 0, 1, 0, 0, 0), (34, none, .ireturn, 1, 0, 0, 0)] := fq_of2 cd_167 ow_167 cl_167 rfl (pc := 33) (by decide +kernel)
          j_ic (pc := 33) D rfl fun D =>
          j_zret D rt_167 (gy (by decide)))) (fun q4 h2 e1 =>
        j_tx (hx_167 _))) (fun q =>
      have D : fk_D 167 [(33, none, .iconst 0, 1, 0, 0, 0), (34, none, .ireturn, 1, 0, 0, 0)] := fq_of2 cd_167 ow_167 cl_167 rfl (pc := 33) (by decide +kernel)
      j_ic (pc := 33) D rfl fun D =>
      j_zret D rt_167 (gy (by decide)))
