/-! forms of methods 90..136, printed by gen/forms.py -/
set_option maxRecDepth 100000
/-! 90 java/lang/Throwable.<init>()V -/
theorem cd_90 : fi_code 90 = prog_92_method_1_code := rfl
theorem hx_90 : ∀ pc, fi_hat 90 pc = none := fun pc => by unfold fi_hat; rw [show fi_hh 90 = [] from rfl]; rfl
theorem rt_90 : fi_ret 90 = none := rfl
theorem nl_90 : fi_nl 90 = 1 := rfl
theorem ow_90 : fi_ow 90 = 33 := rfl
theorem cl_90 : fj_cutT.getD 90 [] = [] := rfl
theorem m_90 (d : Nat) (x0 : Int) {h : fi_H} (H : Sh0 h) (hk : h 0 x0.toNat 0 = 133) : fj_run (d + 1) 90 h [(4, x0)] =
  cv_ (fj_run d 1009 h [(4, x0)])
    (fun h1 =>
    if 302 < x0 then
    lt_ (fi_upd h1 102 x0.toNat 0 x0) fun h4 =>
    none
    else none)
    (fun q3 h1 => tx_ q3 h1) := by
  rw [fj_run_eq d (by decide) h [(4, x0)] (Nat.le_of_ble_eq_true (by rw [nl_90]; rfl))]
  show gG (fj_run d) 90 0 [(0, (4, x0))] [] h = _
  exact
    have D : fk_D 90 [(0, none, .aload_n 0, 1, 0, 0, 0), (1, none, .invokespecial 1, 3, 0, 1009, 0), (4, none, .aload_n 0, 1, 0, 0, 0), (5, none, .aload_n 0, 1, 0, 0, 0), (6, none, .putfield 7, 3, 102, 133, 12), (9, none, .aload_n 0, 1, 0, 0, 0)] := fq_of2 cd_90 ow_90 cl_90 rfl (pc := 0) (by decide +kernel)
    j_aldn (pc := 0) D rfl rfl rfl fun D =>
    j_spv (pc := 1) (m := 1009) (a := []) (rest := []) D rfl rfl rfl rfl (by rw [show h 0 x0.toNat 0 = 133 from hk]; decide) (nz_cls H.2.1 hk (by decide)) (fun h1 e1 D =>
      have T := fj_run_ok _ _ _ _ _ _ H.1 e1
      have hk := cls_st H.1 T.2 hk (by decide)
      have H := sh0_st H T
      j_aldn (pc := 4) D rfl rfl rfl fun D =>
      j_aldn (pc := 5) D rfl rfl rfl fun D =>
      j_pf (pc := 6) (a := x0.toNat) D rfl rfl rfl hk rfl rfl gn (gy rfl) fun h4 eh4 S D =>
      have T := fj_hs_ok H.1 S
      have hk := cls_st H.1 T.2 hk (by decide)
      have H := sh0_st H T
      j_aldn (pc := 9) D rfl rfl rfl fun D =>
      j_dead (ins := .getstatic 13) (len := 3) (by decide +kernel : fk_dec prog_92_method_1_code 10 (.getstatic 13) 3 = true) cd_90 rfl rfl (fun L => ⟨fk_dG (by decide +kernel) L, fun q => by cases q⟩)) (fun q3 h1 e1 =>
      j_tx (hx_90 _))
/-! 91 StatuteHouse$Wrong.<init>()V -/
theorem cd_91 : fi_code 91 = prog_67_method_1_code := rfl
theorem hx_91 : ∀ pc, fi_hat 91 pc = none := fun pc => by unfold fi_hat; rw [show fi_hh 91 = [] from rfl]; rfl
theorem rt_91 : fi_ret 91 = none := rfl
theorem nl_91 : fi_nl 91 = 1 := rfl
theorem ow_91 : fi_ow 91 = 28 := rfl
theorem cl_91 : fj_cutT.getD 91 [] = [] := rfl
theorem m_91 (d : Nat) (x0 : Int) {h : fi_H} (H : Sh0 h) (hk : h 0 x0.toNat 0 = 128) : fj_run (d + 1) 91 h [(4, x0)] =
  cv_ (fj_run d 92 h [(4, x0), (4, 0), (4, 0), (0, 0), (0, 0)])
    (fun h1 =>
    some (.inl none, h1))
    (fun q3 h1 => tx_ q3 h1) := by
  rw [fj_run_eq d (by decide) h [(4, x0)] (Nat.le_of_ble_eq_true (by rw [nl_91]; rfl))]
  show gG (fj_run d) 91 0 [(0, (4, x0))] [] h = _
  exact
    have D : fk_D 91 [(0, none, .aload_n 0, 1, 0, 0, 0), (1, none, .aconst_null, 1, 0, 0, 0), (2, none, .aconst_null, 1, 0, 0, 0), (3, none, .iconst 0, 1, 0, 0, 0), (4, none, .iconst 0, 1, 0, 0, 0), (5, none, .invokespecial 1, 3, 4, 92, 0), (8, none, .return_, 1, 0, 0, 0)] := fq_of2 cd_91 ow_91 cl_91 rfl (pc := 0) (by decide +kernel)
    j_aldn (pc := 0) D rfl rfl rfl fun D =>
    j_c0 (pc := 1) (v := (4, 0)) D rfl rfl (by decide +kernel) fun D =>
    j_c0 (pc := 2) (v := (4, 0)) D rfl rfl (by decide +kernel) fun D =>
    j_ic (pc := 3) D rfl fun D =>
    j_ic (pc := 4) D rfl fun D =>
    j_spv (pc := 5) (m := 92) (a := [(4, 0), (4, 0), (0, 0), (0, 0)]) (rest := []) D rfl rfl rfl rfl (by rw [show h 0 x0.toNat 0 = 128 from hk]; decide) (nz_cls H.2.1 hk (by decide)) (fun h1 e1 D =>
      have T := fj_run_ok _ _ _ _ _ _ H.1 e1
      have hk := cls_st H.1 T.2 hk (by decide)
      have H := sh0_st H T
      j_vret D rt_91) (fun q3 h1 e1 =>
      j_tx (hx_91 _))
/-! 92 java/lang/Exception.<init>(Ljava/lang/String;Ljava/lang/Throwable;ZZ)V -/
theorem cd_92 : fi_code 92 = prog_76_method_5_code := rfl
theorem hx_92 : ∀ pc, fi_hat 92 pc = none := fun pc => by unfold fi_hat; rw [show fi_hh 92 = [] from rfl]; rfl
theorem rt_92 : fi_ret 92 = none := rfl
theorem nl_92 : fi_nl 92 = 5 := rfl
theorem ow_92 : fi_ow 92 = 71 := rfl
theorem cl_92 : fj_cutT.getD 92 [] = [] := rfl
theorem m_92 (d : Nat) (x0 x1 x2 x3 x4 : Int) {h : fi_H} {k0 : Int} (H : Sh0 h) (hk : h 0 x0.toNat 0 = k0) (hk0 : k0 ≠ 0) : fj_run (d + 1) 92 h [(4, x0), (4, x1), (4, x2), (0, x3), (0, x4)] =
  if 100 ≤ h 0 x0.toNat 0 ∧ h 0 x0.toNat 0 < 134 then
  cv_ (fj_run d 1005 h [(4, x0), (4, x1), (4, x2), (0, x3), (0, x4)])
    (fun h1 =>
    some (.inl none, h1))
    (fun q3 h1 => tx_ q3 h1)
  else none := by
  rw [fj_run_eq d (by decide) h [(4, x0), (4, x1), (4, x2), (0, x3), (0, x4)] (Nat.le_of_ble_eq_true (by rw [nl_92]; rfl))]
  show gG (fj_run d) 92 0 [(0, (4, x0)), (1, (4, x1)), (2, (4, x2)), (3, (0, x3)), (4, (0, x4))] [] h = _
  exact
    have D : fk_D 92 [(0, none, .aload_n 0, 1, 0, 0, 0), (1, none, .aload_n 1, 1, 0, 0, 0), (2, none, .aload_n 2, 1, 0, 0, 0), (3, none, .iload_n 3, 1, 0, 0, 0), (4, none, .iload 4, 2, 0, 0, 0), (6, none, .invokespecial 16, 3, 4, 1005, 0), (9, none, .return_, 1, 0, 0, 0)] := fq_of2 cd_92 ow_92 cl_92 rfl (pc := 0) (by decide +kernel)
    j_aldn (pc := 0) D rfl rfl rfl fun D =>
    j_aldn (pc := 1) D rfl rfl rfl fun D =>
    j_aldn (pc := 2) D rfl rfl rfl fun D =>
    j_ildn (pc := 3) D rfl rfl rfl fun D =>
    j_ild (pc := 4) D rfl rfl rfl fun D =>
    j_spuv (pc := 6) (m := 1005) (a := [(4, x1), (4, x2), (0, x3), (0, x4)]) (rest := []) H.2.1 D rfl rfl rfl rfl (fun h1 e1 D =>
      have T := fj_run_ok _ _ _ _ _ _ H.1 e1
      have hk := cls_st H.1 T.2 hk hk0
      have H := sh0_st H T
      j_vret D rt_92) (fun q3 h1 e1 =>
      j_tx (hx_92 _))
/-! 93 java/lang/Throwable.<init>(Ljava/lang/String;Ljava/lang/Throwable;ZZ)V -/
theorem cd_93 : fi_code 93 = prog_92_method_5_code := rfl
theorem hx_93 : ∀ pc, fi_hat 93 pc = none := fun pc => by unfold fi_hat; rw [show fi_hh 93 = [] from rfl]; rfl
theorem rt_93 : fi_ret 93 = none := rfl
theorem nl_93 : fi_nl 93 = 5 := rfl
theorem ow_93 : fi_ow 93 = 33 := rfl
theorem cl_93 : fj_cutT.getD 93 [] = [] := rfl
theorem m_93 (d : Nat) (x0 x1 x2 x3 x4 : Int) {h : fi_H} (H : Sh0 h) (hk : h 0 x0.toNat 0 = 133) : fj_run (d + 1) 93 h [(4, x0), (4, x1), (4, x2), (0, x3), (0, x4)] =
  cv_ (fj_run d 1009 h [(4, x0)])
    (fun h1 =>
    if 302 < x0 then
    lt_ (fi_upd h1 102 x0.toNat 0 x0) fun h4 =>
    none
    else none)
    (fun q3 h1 => tx_ q3 h1) := by
  rw [fj_run_eq d (by decide) h [(4, x0), (4, x1), (4, x2), (0, x3), (0, x4)] (Nat.le_of_ble_eq_true (by rw [nl_93]; rfl))]
  show gG (fj_run d) 93 0 [(0, (4, x0)), (1, (4, x1)), (2, (4, x2)), (3, (0, x3)), (4, (0, x4))] [] h = _
  exact
    have D : fk_D 93 [(0, none, .aload_n 0, 1, 0, 0, 0), (1, none, .invokespecial 1, 3, 0, 1009, 0), (4, none, .aload_n 0, 1, 0, 0, 0), (5, none, .aload_n 0, 1, 0, 0, 0), (6, none, .putfield 7, 3, 102, 133, 12), (9, none, .aload_n 0, 1, 0, 0, 0)] := fq_of2 cd_93 ow_93 cl_93 rfl (pc := 0) (by decide +kernel)
    j_aldn (pc := 0) D rfl rfl rfl fun D =>
    j_spv (pc := 1) (m := 1009) (a := []) (rest := []) D rfl rfl rfl rfl (by rw [show h 0 x0.toNat 0 = 133 from hk]; decide) (nz_cls H.2.1 hk (by decide)) (fun h1 e1 D =>
      have T := fj_run_ok _ _ _ _ _ _ H.1 e1
      have hk := cls_st H.1 T.2 hk (by decide)
      have H := sh0_st H T
      j_aldn (pc := 4) D rfl rfl rfl fun D =>
      j_aldn (pc := 5) D rfl rfl rfl fun D =>
      j_pf (pc := 6) (a := x0.toNat) D rfl rfl rfl hk rfl rfl gn (gy rfl) fun h4 eh4 S D =>
      have T := fj_hs_ok H.1 S
      have hk := cls_st H.1 T.2 hk (by decide)
      have H := sh0_st H T
      j_aldn (pc := 9) D rfl rfl rfl fun D =>
      j_dead (ins := .getstatic 13) (len := 3) (by decide +kernel : fk_dec prog_92_method_5_code 10 (.getstatic 13) 3 = true) cd_93 rfl rfl (fun L => ⟨fk_dG (by decide +kernel) L, fun q => by cases q⟩)) (fun q3 h1 e1 =>
      j_tx (hx_93 _))
/-! 94 StatuteHouse$Fault.<init>()V -/
theorem cd_94 : fi_code 94 = prog_9_method_1_code := rfl
theorem hx_94 : ∀ pc, fi_hat 94 pc = none := fun pc => by unfold fi_hat; rw [show fi_hh 94 = [] from rfl]; rfl
theorem rt_94 : fi_ret 94 = none := rfl
theorem nl_94 : fi_nl 94 = 1 := rfl
theorem ow_94 : fi_ow 94 = 7 := rfl
theorem cl_94 : fj_cutT.getD 94 [] = [] := rfl
theorem m_94 (d : Nat) (x0 : Int) {h : fi_H} (H : Sh0 h) (hk : h 0 x0.toNat 0 = 107) : fj_run (d + 1) 94 h [(4, x0)] =
  cv_ (fj_run d 92 h [(4, x0), (4, 0), (4, 0), (0, 0), (0, 0)])
    (fun h1 =>
    some (.inl none, h1))
    (fun q3 h1 => tx_ q3 h1) := by
  rw [fj_run_eq d (by decide) h [(4, x0)] (Nat.le_of_ble_eq_true (by rw [nl_94]; rfl))]
  show gG (fj_run d) 94 0 [(0, (4, x0))] [] h = _
  exact
    have D : fk_D 94 [(0, none, .aload_n 0, 1, 0, 0, 0), (1, none, .aconst_null, 1, 0, 0, 0), (2, none, .aconst_null, 1, 0, 0, 0), (3, none, .iconst 0, 1, 0, 0, 0), (4, none, .iconst 0, 1, 0, 0, 0), (5, none, .invokespecial 1, 3, 4, 92, 0), (8, none, .return_, 1, 0, 0, 0)] := fq_of2 cd_94 ow_94 cl_94 rfl (pc := 0) (by decide +kernel)
    j_aldn (pc := 0) D rfl rfl rfl fun D =>
    j_c0 (pc := 1) (v := (4, 0)) D rfl rfl (by decide +kernel) fun D =>
    j_c0 (pc := 2) (v := (4, 0)) D rfl rfl (by decide +kernel) fun D =>
    j_ic (pc := 3) D rfl fun D =>
    j_ic (pc := 4) D rfl fun D =>
    j_spv (pc := 5) (m := 92) (a := [(4, 0), (4, 0), (0, 0), (0, 0)]) (rest := []) D rfl rfl rfl rfl (by rw [show h 0 x0.toNat 0 = 107 from hk]; decide) (nz_cls H.2.1 hk (by decide)) (fun h1 e1 D =>
      have T := fj_run_ok _ _ _ _ _ _ H.1 e1
      have hk := cls_st H.1 T.2 hk (by decide)
      have H := sh0_st H T
      j_vret D rt_94) (fun q3 h1 e1 =>
      j_tx (hx_94 _))
/-! 95 StatuteHouse$Calendar.<init>()V -/
theorem cd_95 : fi_code 95 = prog_3_method_1_code := rfl
theorem hx_95 : ∀ pc, fi_hat 95 pc = none := fun pc => by unfold fi_hat; rw [show fi_hh 95 = [] from rfl]; rfl
theorem rt_95 : fi_ret 95 = none := rfl
theorem nl_95 : fi_nl 95 = 1 := rfl
theorem ow_95 : fi_ow 95 = 1 := rfl
theorem cl_95 : fj_cutT.getD 95 [] = [] := rfl
theorem m_95 (d : Nat) (x0 : Int) {h : fi_H} (H : Sh0 h) (hk : h 0 x0.toNat 0 = 101) : fj_run (d + 1) 95 h [(4, x0)] =
  cv_ (fj_run d 1009 h [(4, x0)])
    (fun h1 =>
    some (.inl none, h1))
    (fun q3 h1 => tx_ q3 h1) := by
  rw [fj_run_eq d (by decide) h [(4, x0)] (Nat.le_of_ble_eq_true (by rw [nl_95]; rfl))]
  show gG (fj_run d) 95 0 [(0, (4, x0))] [] h = _
  exact
    have D : fk_D 95 [(0, none, .aload_n 0, 1, 0, 0, 0), (1, none, .invokespecial 3, 3, 0, 1009, 0), (4, none, .return_, 1, 0, 0, 0)] := fq_of2 cd_95 ow_95 cl_95 rfl (pc := 0) (by decide +kernel)
    j_aldn (pc := 0) D rfl rfl rfl fun D =>
    j_spv (pc := 1) (m := 1009) (a := []) (rest := []) D rfl rfl rfl rfl (by rw [show h 0 x0.toNat 0 = 101 from hk]; decide) (nz_cls H.2.1 hk (by decide)) (fun h1 e1 D =>
      have T := fj_run_ok _ _ _ _ _ _ H.1 e1
      have hk := cls_st H.1 T.2 hk (by decide)
      have H := sh0_st H T
      j_vret D rt_95) (fun q3 h1 e1 =>
      j_tx (hx_95 _))
/-! 96 StatuteHouse$Shelf.<init>(I)V -/
theorem cd_96 : fi_code 96 = prog_57_method_1_code := rfl
theorem hx_96 : ∀ pc, fi_hat 96 pc = none := fun pc => by unfold fi_hat; rw [show fi_hh 96 = [] from rfl]; rfl
theorem rt_96 : fi_ret 96 = none := rfl
theorem nl_96 : fi_nl 96 = 2 := rfl
theorem ow_96 : fi_ow 96 = 19 := rfl
theorem cl_96 : fj_cutT.getD 96 [] = [(60, [0, 1])] := rfl
theorem cut_96_60 : fj_cut 96 60 = some [0, 1] := by decide +kernel
noncomputable def c_96_60 (d : Nat) (x0 x1 : Int) (h : fi_H) : fk_R := gG (fj_run d) 96 60 [(0, (4, x0)), (1, (0, x1))] [] h
theorem e_96_60 (d : Nat) (x0 x1 : Int) {h : fi_H} (H : Sh0 h) (hk : h 0 x0.toNat 0 = 119) : c_96_60 d x0 x1 h =
  if 0 ≤ x1 ∧ x1 < 65536 then
  nw_ h 7 x1 x1 fun r1 h2 =>
  if 302 < x0 then
  if h2 122 x0.toNat 0 = 0 then
  lt_ (fi_upd h2 122 x0.toNat 0 r1) fun h3 =>
  if 0 ≤ x1 ∧ x1 < 65536 then
  nw_ h3 8 x1 x1 fun r4 h5 =>
  if 302 < x0 then
  if h5 123 x0.toNat 0 = 0 then
  lt_ (fi_upd h5 123 x0.toNat 0 r4) fun h6 =>
  some (.inl none, h6)
  else none
  else none
  else none
  else none
  else none
  else none := by
  unfold c_96_60
  exact
    have D : fk_D 96 [(60, some [0, 1], .aload_n 0, 1, 0, 0, 0), (61, none, .iload_n 1, 1, 0, 0, 0), (62, none, .newarray .double, 2, 0, 0, 0), (64, none, .putfield 38, 3, 122, 119, 112), (67, none, .aload_n 0, 1, 0, 0, 0), (68, none, .iload_n 1, 1, 0, 0, 0), (69, none, .newarray .byte, 2, 0, 0, 0), (71, none, .putfield 42, 3, 123, 119, 112), (74, none, .return_, 1, 0, 0, 0)] := fq_of2 cd_96 ow_96 cl_96 rfl (pc := 60) (by decide +kernel)
    j_aldn (pc := 60) D rfl rfl rfl fun D =>
    j_ildn (pc := 61) D rfl rfl rfl fun D =>
    j_na (pc := 62) (k := 7) (N := 65536) D rfl rfl rfl gn fun r1 h2 er eh2 S q D =>
    have gt_r1 := nw_gt H.1 er
    have kc_r1 := nw_cls H.1 er eh2
    have kl_r1 := nw_len H.1 er eh2
    have T := fj_hs_ok H.1 S
    have hk := cls_st H.1 T.2 hk (by decide)
    have H := sh0_st H T
    j_pfF (pc := 64) (a := x0.toNat) (ty := 12) D rfl rfl rfl hk ⟨rfl, rfl⟩ rfl gn (gy rfl) gn fun h3 eh3 S D =>
    have T := fj_hs_ok H.1 S
    have hk := cls_st H.1 T.2 hk (by decide)
    have H := sh0_st H T
    j_aldn (pc := 67) D rfl rfl rfl fun D =>
    j_ildn (pc := 68) D rfl rfl rfl fun D =>
    j_na (pc := 69) (k := 8) (N := 65536) D rfl rfl rfl gn fun r4 h5 er eh5 S q D =>
    have gt_r4 := nw_gt H.1 er
    have kc_r4 := nw_cls H.1 er eh5
    have kl_r4 := nw_len H.1 er eh5
    have T := fj_hs_ok H.1 S
    have hk := cls_st H.1 T.2 hk (by decide)
    have H := sh0_st H T
    j_pfF (pc := 71) (a := x0.toNat) (ty := 12) D rfl rfl rfl hk ⟨rfl, rfl⟩ rfl gn (gy rfl) gn fun h6 eh6 S D =>
    have T := fj_hs_ok H.1 S
    have hk := cls_st H.1 T.2 hk (by decide)
    have H := sh0_st H T
    j_vret D rt_96
theorem m_96 (d : Nat) (x0 x1 : Int) {h : fi_H} (H : Sh0 h) (hk : h 0 x0.toNat 0 = 119) : fj_run (d + 1) 96 h [(4, x0), (0, x1)] =
  cv_ (fj_run d 1009 h [(4, x0)])
    (fun h1 =>
    if 0 ≤ x1 ∧ x1 < 65536 then
    nw_ h1 4 x1 x1 fun r4 h5 =>
    if 302 < x0 then
    if h5 114 x0.toNat 0 = 0 then
    lt_ (fi_upd h5 114 x0.toNat 0 r4) fun h6 =>
    if 0 ≤ x1 ∧ x1 < 65536 then
    nw_ h6 10 x1 x1 fun r7 h8 =>
    if 302 < x0 then
    if h8 115 x0.toNat 0 = 0 then
    lt_ (fi_upd h8 115 x0.toNat 0 r7) fun h9 =>
    if 0 ≤ x1 ∧ x1 < 65536 then
    nw_ h9 10 x1 x1 fun r10 h11 =>
    if 302 < x0 then
    if h11 116 x0.toNat 0 = 0 then
    lt_ (fi_upd h11 116 x0.toNat 0 r10) fun h12 =>
    if 0 ≤ x1 ∧ x1 < 65536 then
    nw_ h12 10 x1 x1 fun r13 h14 =>
    if 302 < x0 then
    if h14 117 x0.toNat 0 = 0 then
    lt_ (fi_upd h14 117 x0.toNat 0 r13) fun h15 =>
    if 0 ≤ x1 ∧ x1 < 65536 then
    nw_ h15 10 x1 x1 fun r16 h17 =>
    if 302 < x0 then
    if h17 118 x0.toNat 0 = 0 then
    lt_ (fi_upd h17 118 x0.toNat 0 r16) fun h18 =>
    if 0 ≤ x1 ∧ x1 < 65536 then
    nw_ h18 11 x1 x1 fun r19 h20 =>
    if 302 < x0 then
    if h20 119 x0.toNat 0 = 0 then
    lt_ (fi_upd h20 119 x0.toNat 0 r19) fun h21 =>
    if 0 ≤ x1 ∧ x1 < 65536 then
    nw_ h21 5 x1 x1 fun r22 h23 =>
    if 302 < x0 then
    if h23 120 x0.toNat 0 = 0 then
    lt_ (fi_upd h23 120 x0.toNat 0 r22) fun h24 =>
    if 0 ≤ x1 ∧ x1 < 65536 then
    nw_ h24 9 x1 x1 fun r25 h26 =>
    if 302 < x0 then
    if h26 121 x0.toNat 0 = 0 then
    lt_ (fi_upd h26 121 x0.toNat 0 r25) fun h27 =>
    c_96_60 d x0 x1 h27
    else none
    else none
    else none
    else none
    else none
    else none
    else none
    else none
    else none
    else none
    else none
    else none
    else none
    else none
    else none
    else none
    else none
    else none
    else none
    else none
    else none
    else none
    else none
    else none)
    (fun q3 h1 => tx_ q3 h1) := by
  rw [fj_run_eq d (by decide) h [(4, x0), (0, x1)] (Nat.le_of_ble_eq_true (by rw [nl_96]; rfl))]
  show gG (fj_run d) 96 0 [(0, (4, x0)), (1, (0, x1))] [] h = _
  exact
    have D : fk_D 96 [(0, none, .aload_n 0, 1, 0, 0, 0), (1, none, .invokespecial 1, 3, 0, 1009, 0), (4, none, .aload_n 0, 1, 0, 0, 0), (5, none, .iload_n 1, 1, 0, 0, 0), (6, none, .newarray .boolean, 2, 0, 0, 0), (8, none, .putfield 7, 3, 114, 119, 112), (11, none, .aload_n 0, 1, 0, 0, 0), (12, none, .iload_n 1, 1, 0, 0, 0), (13, none, .newarray .int, 2, 0, 0, 0), (15, none, .putfield 13, 3, 115, 119, 112), (18, none, .aload_n 0, 1, 0, 0, 0), (19, none, .iload_n 1, 1, 0, 0, 0), (20, none, .newarray .int, 2, 0, 0, 0), (22, none, .putfield 17, 3, 116, 119, 112), (25, none, .aload_n 0, 1, 0, 0, 0), (26, none, .iload_n 1, 1, 0, 0, 0), (27, none, .newarray .int, 2, 0, 0, 0), (29, none, .putfield 20, 3, 117, 119, 112), (32, none, .aload_n 0, 1, 0, 0, 0), (33, none, .iload_n 1, 1, 0, 0, 0)] := fq_of2 cd_96 ow_96 cl_96 rfl (pc := 0) (by decide +kernel)
    j_aldn (pc := 0) D rfl rfl rfl fun D =>
    j_spv (pc := 1) (m := 1009) (a := []) (rest := []) D rfl rfl rfl rfl (by rw [show h 0 x0.toNat 0 = 119 from hk]; decide) (nz_cls H.2.1 hk (by decide)) (fun h1 e1 D =>
      have T := fj_run_ok _ _ _ _ _ _ H.1 e1
      have hk := cls_st H.1 T.2 hk (by decide)
      have H := sh0_st H T
      j_aldn (pc := 4) D rfl rfl rfl fun D =>
      j_ildn (pc := 5) D rfl rfl rfl fun D =>
      j_na (pc := 6) (k := 4) (N := 65536) D rfl rfl rfl gn fun r4 h5 er eh5 S q D =>
      have gt_r4 := nw_gt H.1 er
      have kc_r4 := nw_cls H.1 er eh5
      have kl_r4 := nw_len H.1 er eh5
      have T := fj_hs_ok H.1 S
      have hk := cls_st H.1 T.2 hk (by decide)
      have H := sh0_st H T
      j_pfF (pc := 8) (a := x0.toNat) (ty := 12) D rfl rfl rfl hk ⟨rfl, rfl⟩ rfl gn (gy rfl) gn fun h6 eh6 S D =>
      have T := fj_hs_ok H.1 S
      have hk := cls_st H.1 T.2 hk (by decide)
      have H := sh0_st H T
      j_aldn (pc := 11) D rfl rfl rfl fun D =>
      j_ildn (pc := 12) D rfl rfl rfl fun D =>
      j_na (pc := 13) (k := 10) (N := 65536) D rfl rfl rfl gn fun r7 h8 er eh8 S q D =>
      have gt_r7 := nw_gt H.1 er
      have kc_r7 := nw_cls H.1 er eh8
      have kl_r7 := nw_len H.1 er eh8
      have T := fj_hs_ok H.1 S
      have hk := cls_st H.1 T.2 hk (by decide)
      have H := sh0_st H T
      j_pfF (pc := 15) (a := x0.toNat) (ty := 12) D rfl rfl rfl hk ⟨rfl, rfl⟩ rfl gn (gy rfl) gn fun h9 eh9 S D =>
      have T := fj_hs_ok H.1 S
      have hk := cls_st H.1 T.2 hk (by decide)
      have H := sh0_st H T
      j_aldn (pc := 18) D rfl rfl rfl fun D =>
      j_ildn (pc := 19) D rfl rfl rfl fun D =>
      j_na (pc := 20) (k := 10) (N := 65536) D rfl rfl rfl gn fun r10 h11 er eh11 S q D =>
      have gt_r10 := nw_gt H.1 er
      have kc_r10 := nw_cls H.1 er eh11
      have kl_r10 := nw_len H.1 er eh11
      have T := fj_hs_ok H.1 S
      have hk := cls_st H.1 T.2 hk (by decide)
      have H := sh0_st H T
      j_pfF (pc := 22) (a := x0.toNat) (ty := 12) D rfl rfl rfl hk ⟨rfl, rfl⟩ rfl gn (gy rfl) gn fun h12 eh12 S D =>
      have T := fj_hs_ok H.1 S
      have hk := cls_st H.1 T.2 hk (by decide)
      have H := sh0_st H T
      j_aldn (pc := 25) D rfl rfl rfl fun D =>
      j_ildn (pc := 26) D rfl rfl rfl fun D =>
      j_na (pc := 27) (k := 10) (N := 65536) D rfl rfl rfl gn fun r13 h14 er eh14 S q D =>
      have gt_r13 := nw_gt H.1 er
      have kc_r13 := nw_cls H.1 er eh14
      have kl_r13 := nw_len H.1 er eh14
      have T := fj_hs_ok H.1 S
      have hk := cls_st H.1 T.2 hk (by decide)
      have H := sh0_st H T
      j_pfF (pc := 29) (a := x0.toNat) (ty := 12) D rfl rfl rfl hk ⟨rfl, rfl⟩ rfl gn (gy rfl) gn fun h15 eh15 S D =>
      have T := fj_hs_ok H.1 S
      have hk := cls_st H.1 T.2 hk (by decide)
      have H := sh0_st H T
      j_aldn (pc := 32) D rfl rfl rfl fun D =>
      j_ildn (pc := 33) D rfl rfl rfl fun D =>
      have D : fk_D 96 [(34, none, .newarray .int, 2, 0, 0, 0), (36, none, .putfield 23, 3, 118, 119, 112), (39, none, .aload_n 0, 1, 0, 0, 0), (40, none, .iload_n 1, 1, 0, 0, 0), (41, none, .newarray .long, 2, 0, 0, 0), (43, none, .putfield 26, 3, 119, 119, 112), (46, none, .aload_n 0, 1, 0, 0, 0), (47, none, .iload_n 1, 1, 0, 0, 0), (48, none, .newarray .char, 2, 0, 0, 0), (50, none, .putfield 30, 3, 120, 119, 112), (53, none, .aload_n 0, 1, 0, 0, 0), (54, none, .iload_n 1, 1, 0, 0, 0), (55, none, .newarray .short, 2, 0, 0, 0), (57, none, .putfield 34, 3, 121, 119, 112)] := fq_of2 cd_96 ow_96 cl_96 rfl (pc := 34) (by decide +kernel)
      j_na (pc := 34) (k := 10) (N := 65536) D rfl rfl rfl gn fun r16 h17 er eh17 S q D =>
      have gt_r16 := nw_gt H.1 er
      have kc_r16 := nw_cls H.1 er eh17
      have kl_r16 := nw_len H.1 er eh17
      have T := fj_hs_ok H.1 S
      have hk := cls_st H.1 T.2 hk (by decide)
      have H := sh0_st H T
      j_pfF (pc := 36) (a := x0.toNat) (ty := 12) D rfl rfl rfl hk ⟨rfl, rfl⟩ rfl gn (gy rfl) gn fun h18 eh18 S D =>
      have T := fj_hs_ok H.1 S
      have hk := cls_st H.1 T.2 hk (by decide)
      have H := sh0_st H T
      j_aldn (pc := 39) D rfl rfl rfl fun D =>
      j_ildn (pc := 40) D rfl rfl rfl fun D =>
      j_na (pc := 41) (k := 11) (N := 65536) D rfl rfl rfl gn fun r19 h20 er eh20 S q D =>
      have gt_r19 := nw_gt H.1 er
      have kc_r19 := nw_cls H.1 er eh20
      have kl_r19 := nw_len H.1 er eh20
      have T := fj_hs_ok H.1 S
      have hk := cls_st H.1 T.2 hk (by decide)
      have H := sh0_st H T
      j_pfF (pc := 43) (a := x0.toNat) (ty := 12) D rfl rfl rfl hk ⟨rfl, rfl⟩ rfl gn (gy rfl) gn fun h21 eh21 S D =>
      have T := fj_hs_ok H.1 S
      have hk := cls_st H.1 T.2 hk (by decide)
      have H := sh0_st H T
      j_aldn (pc := 46) D rfl rfl rfl fun D =>
      j_ildn (pc := 47) D rfl rfl rfl fun D =>
      j_na (pc := 48) (k := 5) (N := 65536) D rfl rfl rfl gn fun r22 h23 er eh23 S q D =>
      have gt_r22 := nw_gt H.1 er
      have kc_r22 := nw_cls H.1 er eh23
      have kl_r22 := nw_len H.1 er eh23
      have T := fj_hs_ok H.1 S
      have hk := cls_st H.1 T.2 hk (by decide)
      have H := sh0_st H T
      j_pfF (pc := 50) (a := x0.toNat) (ty := 12) D rfl rfl rfl hk ⟨rfl, rfl⟩ rfl gn (gy rfl) gn fun h24 eh24 S D =>
      have T := fj_hs_ok H.1 S
      have hk := cls_st H.1 T.2 hk (by decide)
      have H := sh0_st H T
      j_aldn (pc := 53) D rfl rfl rfl fun D =>
      j_ildn (pc := 54) D rfl rfl rfl fun D =>
      j_na (pc := 55) (k := 9) (N := 65536) D rfl rfl rfl gn fun r25 h26 er eh26 S q D =>
      have gt_r25 := nw_gt H.1 er
      have kc_r25 := nw_cls H.1 er eh26
      have kl_r25 := nw_len H.1 er eh26
      have T := fj_hs_ok H.1 S
      have hk := cls_st H.1 T.2 hk (by decide)
      have H := sh0_st H T
      j_pfF (pc := 57) (a := x0.toNat) (ty := 12) D rfl rfl rfl hk ⟨rfl, rfl⟩ rfl gn (gy rfl) gn fun h27 eh27 S D =>
      have T := fj_hs_ok H.1 S
      have hk := cls_st H.1 T.2 hk (by decide)
      have H := sh0_st H T
      fk_jump cut_96_60 rfl rfl) (fun q3 h1 e1 =>
      j_tx (hx_96 _))
/-! 97 StatuteHouse$Records.<init>(LStatuteHouse;)V -/
theorem cd_97 : fi_code 97 = prog_54_method_1_code := rfl
theorem hx_97 : ∀ pc, fi_hat 97 pc = none := fun pc => by unfold fi_hat; rw [show fi_hh 97 = [] from rfl]; rfl
theorem rt_97 : fi_ret 97 = none := rfl
theorem nl_97 : fi_nl 97 = 3 := rfl
theorem ow_97 : fi_ow 97 = 16 := rfl
theorem cl_97 : fj_cutT.getD 97 [] = [(77, [0]), (88, [0, 2])] := rfl
theorem cut_97_77 : fj_cut 97 77 = some [0] := by decide +kernel
noncomputable def c_97_77 (d : Nat) (x0 : Int) (h : fi_H) : fk_R := gG (fj_run d) 97 77 [(0, (4, x0))] [] h
theorem cut_97_88 : fj_cut 97 88 = some [0, 2] := by decide +kernel
noncomputable def c_97_88 (d : Nat) (x0 x2 : Int) (h : fi_H) : fk_R := gG (fj_run d) 97 88 [(0, (4, x0)), (2, (0, x2))] [] h
theorem e_97_77 (d : Nat) (x0 : Int) {h : fi_H} (H : Sh0 h) (hk : h 0 x0.toNat 0 = 116) : c_97_77 d x0 h =
  nw_ h 8 1200 1200 fun r1 h2 =>
  if 302 < x0 then
  if h2 131 x0.toNat 0 = 0 then
  lt_ (fi_upd h2 131 x0.toNat 0 r1) fun h3 =>
  c_97_88 d x0 0 h3
  else none
  else none := by
  unfold c_97_77
  exact
    have D : fk_D 97 [(77, some [0], .aload_n 0, 1, 0, 0, 0), (78, none, .sipush 1200, 3, 0, 1200, 0), (81, none, .newarray .byte, 2, 0, 0, 0), (83, none, .putfield 45, 3, 131, 116, 112), (86, none, .iconst 0, 1, 0, 0, 0), (87, none, .istore_n 2, 1, 0, 0, 0)] := fq_of2 cd_97 ow_97 cl_97 rfl (pc := 77) (by decide +kernel)
    j_aldn (pc := 77) D rfl rfl rfl fun D =>
    j_sp (pc := 78) D rfl fun D =>
    j_na (pc := 81) (k := 8) (N := 65536) D rfl rfl rfl (gy (by decide)) fun r1 h2 er eh2 S q D =>
    have gt_r1 := nw_gt H.1 er
    have kc_r1 := nw_cls H.1 er eh2
    have kl_r1 := nw_len H.1 er eh2
    have T := fj_hs_ok H.1 S
    have hk := cls_st H.1 T.2 hk (by decide)
    have H := sh0_st H T
    j_pfF (pc := 83) (a := x0.toNat) (ty := 12) D rfl rfl rfl hk ⟨rfl, rfl⟩ rfl gn (gy rfl) gn fun h3 eh3 S D =>
    have T := fj_hs_ok H.1 S
    have hk := cls_st H.1 T.2 hk (by decide)
    have H := sh0_st H T
    j_ic (pc := 86) D rfl fun D =>
    j_istn (pc := 87) (L' := [(2, (0, 0)), (0, (4, x0))]) D rfl nl_97 rfl rfl fun D =>
    fk_jump cut_97_88 rfl rfl
theorem e_97_88 (d : Nat) (x0 x2 : Int) {h : fi_H} (H : Sh0 h) (hk : h 0 x0.toNat 0 = 116) : c_97_88 d x0 x2 h =
  if fk_isA (h 0 (h 130 x0.toNat 0).toNat 0) = true then
  if x2 < h 1 (h 130 x0.toNat 0).toNat 0 then
    if 302 < h 130 x0.toNat 0 ∧ h 0 (h 130 x0.toNat 0).toNat 0 = 9 then
    if 0 ≤ x2 ∧ x2 < h 1 (h 130 x0.toNat 0).toNat 0 then
    lt_ (fi_upd h 9 (h 130 x0.toNat 0).toNat x2.toNat (-1)) fun h1 =>
    c_97_88 d x0 (wI (x2 + 1)) h1
    else none
    else none
  else
    some (.inl none, h)
  else none := by
  unfold c_97_88
  exact
    have D : fk_D 97 [(88, some [0, 2], .iload_n 2, 1, 0, 0, 0), (89, none, .aload_n 0, 1, 0, 0, 0), (90, none, .getfield 42, 3, 130, 116, 12), (93, none, .arraylength, 1, 0, 0, 0), (94, none, .if_icmp .ge 16, 3, 110, 0, 0), (97, none, .aload_n 0, 1, 0, 0, 0), (98, none, .getfield 42, 3, 130, 116, 12), (101, none, .iload_n 2, 1, 0, 0, 0), (102, none, .iconst (-1), 1, 0, (-1), 0), (103, none, .sastore, 1, 0, 0, 0), (104, none, .iinc 2 1, 3, 0, 1, 0), (107, none, .goto (-19), 3, 88, 0, 0)] := fq_of2 cd_97 ow_97 cl_97 rfl (pc := 88) (by decide +kernel)
    j_ildn (pc := 88) D rfl rfl rfl fun D =>
    j_aldn (pc := 89) D rfl rfl rfl fun D =>
    j_gf (pc := 90) (a := x0.toNat) D rfl rfl (nz_cls H.2.1 hk (by decide)) rfl hk rfl fun D =>
    j_lenu (pc := 93) H.2.1 D rfl fun q D =>
    j_ige (pc := 94) D rfl (fun q D =>
      j_aldn (pc := 97) D rfl rfl rfl fun D =>
      j_gf (pc := 98) (a := x0.toNat) D rfl rfl (nz_cls H.2.1 hk (by decide)) rfl hk rfl fun D =>
      j_ildn (pc := 101) D rfl rfl rfl fun D =>
      j_ic (pc := 102) D rfl fun D =>
      j_asu (pc := 103) (e := 9) D rfl rfl ⟨rfl, rfl, rfl⟩ rfl gn gn (gy (by decide)) fun h1 eh1 S q q2 D =>
      have T := fj_hs_ok H.1 S
      have hk := cls_st H.1 T.2 hk (by decide)
      have H := sh0_st H T
      j_inc (pc := 104) (L' := [(2, (0, wI (x2 + 1))), (0, (4, x0))]) D rfl rfl rfl (by decide +kernel) rfl fun D =>
      j_goto (pc := 107) D rfl <|
      fk_jump cut_97_88 rfl rfl) (fun q =>
      have D : fk_D 97 [(110, none, .return_, 1, 0, 0, 0)] := fq_of2 cd_97 ow_97 cl_97 rfl (pc := 110) (by decide +kernel)
      j_vret D rt_97)
theorem m_97 (d : Nat) (x0 x1 : Int) {h : fi_H} (H : Sh0 h) (hk : h 0 x0.toNat 0 = 116) : fj_run (d + 1) 97 h [(4, x0), (4, x1)] =
  if 302 < x0 then
  if h 133 x0.toNat 0 = 0 then
  lt_ (fi_upd h 133 x0.toNat 0 x1) fun h1 =>
  cv_ (fj_run d 1009 h1 [(4, x0)])
    (fun h2 =>
    nw_ h2 119 10 0 fun r5 h6 =>
    cv_ (fj_run d 96 h6 [(4, r5), (0, 500)])
      (fun h7 =>
      if 302 < x0 then
      if h7 124 x0.toNat 0 = 0 then
      lt_ (fi_upd h7 124 x0.toNat 0 r5) fun h10 =>
      nw_ h10 4 500 500 fun r11 h12 =>
      if 302 < x0 then
      if h12 125 x0.toNat 0 = 0 then
      lt_ (fi_upd h12 125 x0.toNat 0 r11) fun h13 =>
      nw_ h13 5 500 500 fun r14 h15 =>
      if 302 < x0 then
      if h15 126 x0.toNat 0 = 0 then
      lt_ (fi_upd h15 126 x0.toNat 0 r14) fun h16 =>
      nw_ h16 5 500 500 fun r17 h18 =>
      if 302 < x0 then
      if h18 127 x0.toNat 0 = 0 then
      lt_ (fi_upd h18 127 x0.toNat 0 r17) fun h19 =>
      nw_ h19 5 500 500 fun r20 h21 =>
      if 302 < x0 then
      if h21 128 x0.toNat 0 = 0 then
      lt_ (fi_upd h21 128 x0.toNat 0 r20) fun h22 =>
      nw_ h22 9 500 500 fun r23 h24 =>
      if 302 < x0 then
      if h24 129 x0.toNat 0 = 0 then
      lt_ (fi_upd h24 129 x0.toNat 0 r23) fun h25 =>
      nw_ h25 9 1200 1200 fun r26 h27 =>
      if 302 < x0 then
      if h27 130 x0.toNat 0 = 0 then
      lt_ (fi_upd h27 130 x0.toNat 0 r26) fun h28 =>
      c_97_77 d x0 h28
      else none
      else none
      else none
      else none
      else none
      else none
      else none
      else none
      else none
      else none
      else none
      else none
      else none
      else none)
      (fun q9 h7 => tx_ q9 h7))
    (fun q4 h2 => tx_ q4 h2)
  else none
  else none := by
  rw [fj_run_eq d (by decide) h [(4, x0), (4, x1)] (Nat.le_of_ble_eq_true (by rw [nl_97]; rfl))]
  show gG (fj_run d) 97 0 [(0, (4, x0)), (1, (4, x1))] [] h = _
  exact
    have D : fk_D 97 [(0, none, .aload_n 0, 1, 0, 0, 0), (1, none, .aload_n 1, 1, 0, 0, 0), (2, none, .putfield 3, 3, 133, 116, 112), (5, none, .aload_n 0, 1, 0, 0, 0), (6, none, .invokespecial 9, 3, 0, 1009, 0), (9, none, .aload_n 0, 1, 0, 0, 0), (10, none, .new 15, 3, 119, 10, 0), (13, none, .dup, 1, 0, 0, 0), (14, none, .sipush 500, 3, 0, 500, 0), (17, none, .invokespecial 17, 3, 1, 96, 0), (20, none, .putfield 20, 3, 124, 116, 112), (23, none, .aload_n 0, 1, 0, 0, 0), (24, none, .sipush 500, 3, 0, 500, 0), (27, none, .newarray .boolean, 2, 0, 0, 0), (29, none, .putfield 24, 3, 125, 116, 112), (32, none, .aload_n 0, 1, 0, 0, 0), (33, none, .sipush 500, 3, 0, 500, 0), (36, none, .newarray .char, 2, 0, 0, 0), (38, none, .putfield 28, 3, 126, 116, 112), (41, none, .aload_n 0, 1, 0, 0, 0)] := fq_of2 cd_97 ow_97 cl_97 rfl (pc := 0) (by decide +kernel)
    j_aldn (pc := 0) D rfl rfl rfl fun D =>
    j_aldn (pc := 1) D rfl rfl rfl fun D =>
    j_pfF (pc := 2) (a := x0.toNat) (ty := 12) D rfl rfl rfl hk ⟨rfl, rfl⟩ rfl gn (gy rfl) gn fun h1 eh1 S D =>
    have T := fj_hs_ok H.1 S
    have hk := cls_st H.1 T.2 hk (by decide)
    have H := sh0_st H T
    j_aldn (pc := 5) D rfl rfl rfl fun D =>
    j_spv (pc := 6) (m := 1009) (a := []) (rest := []) D rfl rfl rfl rfl (by rw [show h1 0 x0.toNat 0 = 116 from hk]; decide) (nz_cls H.2.1 hk (by decide)) (fun h2 e1 D =>
      have T := fj_run_ok _ _ _ _ _ _ H.1 e1
      have hk := cls_st H.1 T.2 hk (by decide)
      have H := sh0_st H T
      j_aldn (pc := 9) D rfl rfl rfl fun D =>
      j_new (pc := 10) D rfl fun r5 h6 er eh6 S D =>
      have gt_r5 := nw_gt H.1 er
      have kc_r5 := nw_cls H.1 er eh6
      have T := fj_hs_ok H.1 S
      have hk := cls_st H.1 T.2 hk (by decide)
      have H := sh0_st H T
      j_sh (pc := 13) D rfl rfl rfl fun D =>
      j_sp (pc := 14) D rfl fun D =>
      j_spv (pc := 17) (m := 96) (a := [(0, 500)]) (rest := [(4, r5), (4, x0)]) D rfl rfl rfl rfl (by rw [show h6 0 r5.toNat 0 = 119 from kc_r5]; decide) (gt_nz gt_r5) (fun h7 e1 D =>
        have T := fj_run_ok _ _ _ _ _ _ H.1 e1
        have hk := cls_st H.1 T.2 hk (by decide)
        have kc_r5 := cls_st H.1 T.2 kc_r5 (by decide)
        have H := sh0_st H T
        j_pfF (pc := 20) (a := x0.toNat) (ty := 12) D rfl rfl rfl hk ⟨rfl, rfl⟩ rfl gn (gy rfl) gn fun h10 eh10 S D =>
        have T := fj_hs_ok H.1 S
        have hk := cls_st H.1 T.2 hk (by decide)
        have H := sh0_st H T
        j_aldn (pc := 23) D rfl rfl rfl fun D =>
        j_sp (pc := 24) D rfl fun D =>
        j_na (pc := 27) (k := 4) (N := 65536) D rfl rfl rfl (gy (by decide)) fun r11 h12 er eh12 S q D =>
        have gt_r11 := nw_gt H.1 er
        have kc_r11 := nw_cls H.1 er eh12
        have kl_r11 := nw_len H.1 er eh12
        have T := fj_hs_ok H.1 S
        have hk := cls_st H.1 T.2 hk (by decide)
        have H := sh0_st H T
        j_pfF (pc := 29) (a := x0.toNat) (ty := 12) D rfl rfl rfl hk ⟨rfl, rfl⟩ rfl gn (gy rfl) gn fun h13 eh13 S D =>
        have T := fj_hs_ok H.1 S
        have hk := cls_st H.1 T.2 hk (by decide)
        have H := sh0_st H T
        j_aldn (pc := 32) D rfl rfl rfl fun D =>
        j_sp (pc := 33) D rfl fun D =>
        j_na (pc := 36) (k := 5) (N := 65536) D rfl rfl rfl (gy (by decide)) fun r14 h15 er eh15 S q D =>
        have gt_r14 := nw_gt H.1 er
        have kc_r14 := nw_cls H.1 er eh15
        have kl_r14 := nw_len H.1 er eh15
        have T := fj_hs_ok H.1 S
        have hk := cls_st H.1 T.2 hk (by decide)
        have H := sh0_st H T
        j_pfF (pc := 38) (a := x0.toNat) (ty := 12) D rfl rfl rfl hk ⟨rfl, rfl⟩ rfl gn (gy rfl) gn fun h16 eh16 S D =>
        have T := fj_hs_ok H.1 S
        have hk := cls_st H.1 T.2 hk (by decide)
        have H := sh0_st H T
        j_aldn (pc := 41) D rfl rfl rfl fun D =>
        have D : fk_D 97 [(42, none, .sipush 500, 3, 0, 500, 0), (45, none, .newarray .char, 2, 0, 0, 0), (47, none, .putfield 32, 3, 127, 116, 112), (50, none, .aload_n 0, 1, 0, 0, 0), (51, none, .sipush 500, 3, 0, 500, 0), (54, none, .newarray .char, 2, 0, 0, 0), (56, none, .putfield 35, 3, 128, 116, 112), (59, none, .aload_n 0, 1, 0, 0, 0), (60, none, .sipush 500, 3, 0, 500, 0), (63, none, .newarray .short, 2, 0, 0, 0), (65, none, .putfield 38, 3, 129, 116, 112), (68, none, .aload_n 0, 1, 0, 0, 0), (69, none, .sipush 1200, 3, 0, 1200, 0), (72, none, .newarray .short, 2, 0, 0, 0), (74, none, .putfield 42, 3, 130, 116, 112)] := fq_of2 cd_97 ow_97 cl_97 rfl (pc := 42) (by decide +kernel)
        j_sp (pc := 42) D rfl fun D =>
        j_na (pc := 45) (k := 5) (N := 65536) D rfl rfl rfl (gy (by decide)) fun r17 h18 er eh18 S q D =>
        have gt_r17 := nw_gt H.1 er
        have kc_r17 := nw_cls H.1 er eh18
        have kl_r17 := nw_len H.1 er eh18
        have T := fj_hs_ok H.1 S
        have hk := cls_st H.1 T.2 hk (by decide)
        have H := sh0_st H T
        j_pfF (pc := 47) (a := x0.toNat) (ty := 12) D rfl rfl rfl hk ⟨rfl, rfl⟩ rfl gn (gy rfl) gn fun h19 eh19 S D =>
        have T := fj_hs_ok H.1 S
        have hk := cls_st H.1 T.2 hk (by decide)
        have H := sh0_st H T
        j_aldn (pc := 50) D rfl rfl rfl fun D =>
        j_sp (pc := 51) D rfl fun D =>
        j_na (pc := 54) (k := 5) (N := 65536) D rfl rfl rfl (gy (by decide)) fun r20 h21 er eh21 S q D =>
        have gt_r20 := nw_gt H.1 er
        have kc_r20 := nw_cls H.1 er eh21
        have kl_r20 := nw_len H.1 er eh21
        have T := fj_hs_ok H.1 S
        have hk := cls_st H.1 T.2 hk (by decide)
        have H := sh0_st H T
        j_pfF (pc := 56) (a := x0.toNat) (ty := 12) D rfl rfl rfl hk ⟨rfl, rfl⟩ rfl gn (gy rfl) gn fun h22 eh22 S D =>
        have T := fj_hs_ok H.1 S
        have hk := cls_st H.1 T.2 hk (by decide)
        have H := sh0_st H T
        j_aldn (pc := 59) D rfl rfl rfl fun D =>
        j_sp (pc := 60) D rfl fun D =>
        j_na (pc := 63) (k := 9) (N := 65536) D rfl rfl rfl (gy (by decide)) fun r23 h24 er eh24 S q D =>
        have gt_r23 := nw_gt H.1 er
        have kc_r23 := nw_cls H.1 er eh24
        have kl_r23 := nw_len H.1 er eh24
        have T := fj_hs_ok H.1 S
        have hk := cls_st H.1 T.2 hk (by decide)
        have H := sh0_st H T
        j_pfF (pc := 65) (a := x0.toNat) (ty := 12) D rfl rfl rfl hk ⟨rfl, rfl⟩ rfl gn (gy rfl) gn fun h25 eh25 S D =>
        have T := fj_hs_ok H.1 S
        have hk := cls_st H.1 T.2 hk (by decide)
        have H := sh0_st H T
        j_aldn (pc := 68) D rfl rfl rfl fun D =>
        j_sp (pc := 69) D rfl fun D =>
        j_na (pc := 72) (k := 9) (N := 65536) D rfl rfl rfl (gy (by decide)) fun r26 h27 er eh27 S q D =>
        have gt_r26 := nw_gt H.1 er
        have kc_r26 := nw_cls H.1 er eh27
        have kl_r26 := nw_len H.1 er eh27
        have T := fj_hs_ok H.1 S
        have hk := cls_st H.1 T.2 hk (by decide)
        have H := sh0_st H T
        j_pfF (pc := 74) (a := x0.toNat) (ty := 12) D rfl rfl rfl hk ⟨rfl, rfl⟩ rfl gn (gy rfl) gn fun h28 eh28 S D =>
        have T := fj_hs_ok H.1 S
        have hk := cls_st H.1 T.2 hk (by decide)
        have H := sh0_st H T
        fk_jump cut_97_77 rfl rfl) (fun q9 h7 e1 =>
        j_tx (hx_97 _))) (fun q4 h2 e1 =>
      j_tx (hx_97 _))
/-! 98 StatuteHouse$Rule.<init>(IIIIII)V -/
theorem cd_98 : fi_code 98 = prog_55_method_1_code := rfl
theorem hx_98 : ∀ pc, fi_hat 98 pc = none := fun pc => by unfold fi_hat; rw [show fi_hh 98 = [] from rfl]; rfl
theorem rt_98 : fi_ret 98 = none := rfl
theorem nl_98 : fi_nl 98 = 7 := rfl
theorem ow_98 : fi_ow 98 = 17 := rfl
theorem cl_98 : fj_cutT.getD 98 [] = [] := rfl
theorem m_98 (d : Nat) (x0 x1 x2 x3 x4 x5 x6 : Int) {h : fi_H} (H : Sh0 h) (hk : h 0 x0.toNat 0 = 117) : fj_run (d + 1) 98 h [(4, x0), (0, x1), (0, x2), (0, x3), (0, x4), (0, x5), (0, x6)] =
  cv_ (fj_run d 1009 h [(4, x0)])
    (fun h1 =>
    if 302 < x0 then
    if h1 134 x0.toNat 0 = 0 then
    lt_ (fi_upd h1 134 x0.toNat 0 x1) fun h4 =>
    if 302 < x0 then
    if h4 135 x0.toNat 0 = 0 then
    lt_ (fi_upd h4 135 x0.toNat 0 x2) fun h5 =>
    if 302 < x0 then
    if h5 136 x0.toNat 0 = 0 then
    lt_ (fi_upd h5 136 x0.toNat 0 x3) fun h6 =>
    if 302 < x0 then
    if h6 137 x0.toNat 0 = 0 then
    lt_ (fi_upd h6 137 x0.toNat 0 x4) fun h7 =>
    if 302 < x0 then
    if h7 138 x0.toNat 0 = 0 then
    lt_ (fi_upd h7 138 x0.toNat 0 x5) fun h8 =>
    if 302 < x0 then
    if h8 139 x0.toNat 0 = 0 then
    lt_ (fi_upd h8 139 x0.toNat 0 x6) fun h9 =>
    some (.inl none, h9)
    else none
    else none
    else none
    else none
    else none
    else none
    else none
    else none
    else none
    else none
    else none
    else none)
    (fun q3 h1 => tx_ q3 h1) := by
  rw [fj_run_eq d (by decide) h [(4, x0), (0, x1), (0, x2), (0, x3), (0, x4), (0, x5), (0, x6)] (Nat.le_of_ble_eq_true (by rw [nl_98]; rfl))]
  show gG (fj_run d) 98 0 [(0, (4, x0)), (1, (0, x1)), (2, (0, x2)), (3, (0, x3)), (4, (0, x4)), (5, (0, x5)), (6, (0, x6))] [] h = _
  exact
    have D : fk_D 98 [(0, none, .aload_n 0, 1, 0, 0, 0), (1, none, .invokespecial 3, 3, 0, 1009, 0), (4, none, .aload_n 0, 1, 0, 0, 0), (5, none, .iload_n 1, 1, 0, 0, 0), (6, none, .putfield 9, 3, 134, 117, 110), (9, none, .aload_n 0, 1, 0, 0, 0), (10, none, .iload_n 2, 1, 0, 0, 0), (11, none, .putfield 15, 3, 135, 117, 110), (14, none, .aload_n 0, 1, 0, 0, 0), (15, none, .iload_n 3, 1, 0, 0, 0), (16, none, .putfield 18, 3, 136, 117, 110), (19, none, .aload_n 0, 1, 0, 0, 0), (20, none, .iload 4, 2, 0, 0, 0), (22, none, .putfield 21, 3, 137, 117, 110), (25, none, .aload_n 0, 1, 0, 0, 0), (26, none, .iload 5, 2, 0, 0, 0), (28, none, .putfield 24, 3, 138, 117, 110), (31, none, .aload_n 0, 1, 0, 0, 0), (32, none, .iload 6, 2, 0, 0, 0), (34, none, .putfield 27, 3, 139, 117, 110)] := fq_of2 cd_98 ow_98 cl_98 rfl (pc := 0) (by decide +kernel)
    j_aldn (pc := 0) D rfl rfl rfl fun D =>
    j_spv (pc := 1) (m := 1009) (a := []) (rest := []) D rfl rfl rfl rfl (by rw [show h 0 x0.toNat 0 = 117 from hk]; decide) (nz_cls H.2.1 hk (by decide)) (fun h1 e1 D =>
      have T := fj_run_ok _ _ _ _ _ _ H.1 e1
      have hk := cls_st H.1 T.2 hk (by decide)
      have H := sh0_st H T
      j_aldn (pc := 4) D rfl rfl rfl fun D =>
      j_ildn (pc := 5) D rfl rfl rfl fun D =>
      j_pfF (pc := 6) (a := x0.toNat) (ty := 10) D rfl rfl rfl hk ⟨rfl, rfl⟩ rfl gn (gy rfl) gn fun h4 eh4 S D =>
      have T := fj_hs_ok H.1 S
      have hk := cls_st H.1 T.2 hk (by decide)
      have H := sh0_st H T
      j_aldn (pc := 9) D rfl rfl rfl fun D =>
      j_ildn (pc := 10) D rfl rfl rfl fun D =>
      j_pfF (pc := 11) (a := x0.toNat) (ty := 10) D rfl rfl rfl hk ⟨rfl, rfl⟩ rfl gn (gy rfl) gn fun h5 eh5 S D =>
      have T := fj_hs_ok H.1 S
      have hk := cls_st H.1 T.2 hk (by decide)
      have H := sh0_st H T
      j_aldn (pc := 14) D rfl rfl rfl fun D =>
      j_ildn (pc := 15) D rfl rfl rfl fun D =>
      j_pfF (pc := 16) (a := x0.toNat) (ty := 10) D rfl rfl rfl hk ⟨rfl, rfl⟩ rfl gn (gy rfl) gn fun h6 eh6 S D =>
      have T := fj_hs_ok H.1 S
      have hk := cls_st H.1 T.2 hk (by decide)
      have H := sh0_st H T
      j_aldn (pc := 19) D rfl rfl rfl fun D =>
      j_ild (pc := 20) D rfl rfl rfl fun D =>
      j_pfF (pc := 22) (a := x0.toNat) (ty := 10) D rfl rfl rfl hk ⟨rfl, rfl⟩ rfl gn (gy rfl) gn fun h7 eh7 S D =>
      have T := fj_hs_ok H.1 S
      have hk := cls_st H.1 T.2 hk (by decide)
      have H := sh0_st H T
      j_aldn (pc := 25) D rfl rfl rfl fun D =>
      j_ild (pc := 26) D rfl rfl rfl fun D =>
      j_pfF (pc := 28) (a := x0.toNat) (ty := 10) D rfl rfl rfl hk ⟨rfl, rfl⟩ rfl gn (gy rfl) gn fun h8 eh8 S D =>
      have T := fj_hs_ok H.1 S
      have hk := cls_st H.1 T.2 hk (by decide)
      have H := sh0_st H T
      j_aldn (pc := 31) D rfl rfl rfl fun D =>
      j_ild (pc := 32) D rfl rfl rfl fun D =>
      j_pfF (pc := 34) (a := x0.toNat) (ty := 10) D rfl rfl rfl hk ⟨rfl, rfl⟩ rfl gn (gy rfl) gn fun h9 eh9 S D =>
      have T := fj_hs_ok H.1 S
      have hk := cls_st H.1 T.2 hk (by decide)
      have H := sh0_st H T
      have D : fk_D 98 [(37, none, .return_, 1, 0, 0, 0)] := fq_of2 cd_98 ow_98 cl_98 rfl (pc := 37) (by decide +kernel)
      j_vret D rt_98) (fun q3 h1 e1 =>
      j_tx (hx_98 _))
/-! 99 StatuteHouse$Reader.<init>(LStatuteHouse;)V -/
theorem cd_99 : fi_code 99 = prog_53_method_1_code := rfl
theorem hx_99 : ∀ pc, fi_hat 99 pc = none := fun pc => by unfold fi_hat; rw [show fi_hh 99 = [] from rfl]; rfl
theorem rt_99 : fi_ret 99 = none := rfl
theorem nl_99 : fi_nl 99 = 2 := rfl
theorem ow_99 : fi_ow 99 = 15 := rfl
theorem cl_99 : fj_cutT.getD 99 [] = [(75, [0]), (147, [0])] := rfl
theorem cut_99_75 : fj_cut 99 75 = some [0] := by decide +kernel
noncomputable def c_99_75 (d : Nat) (x0 : Int) (h : fi_H) : fk_R := gG (fj_run d) 99 75 [(0, (4, x0))] [] h
theorem cut_99_147 : fj_cut 99 147 = some [0] := by decide +kernel
noncomputable def c_99_147 (d : Nat) (x0 : Int) (h : fi_H) : fk_R := gG (fj_run d) 99 147 [(0, (4, x0))] [] h
theorem e_99_75 (d : Nat) (x0 : Int) {h : fi_H} (H : Sh0 h) (hk : h 0 x0.toNat 0 = 115) : c_99_75 d x0 h =
  nw_ h 26 30 30 fun r1 h2 =>
  if 302 < x0 then
  if h2 165 x0.toNat 0 = 0 then
  lt_ (fi_upd h2 165 x0.toNat 0 r1) fun h3 =>
  nw_ h3 23 40 40 fun r4 h5 =>
  if 302 < x0 then
  if h5 166 x0.toNat 0 = 0 then
  lt_ (fi_upd h5 166 x0.toNat 0 r4) fun h6 =>
  nw_ h6 8 500 500 fun r7 h8 =>
  if 302 < x0 then
  if h8 170 x0.toNat 0 = 0 then
  lt_ (fi_upd h8 170 x0.toNat 0 r7) fun h9 =>
  nw_ h9 8 500 500 fun r10 h11 =>
  if 302 < x0 then
  if h11 171 x0.toNat 0 = 0 then
  lt_ (fi_upd h11 171 x0.toNat 0 r10) fun h12 =>
  nw_ h12 8 1200 1200 fun r13 h14 =>
  if 302 < x0 then
  if h14 172 x0.toNat 0 = 0 then
  lt_ (fi_upd h14 172 x0.toNat 0 r13) fun h15 =>
  nw_ h15 4 500 500 fun r16 h17 =>
  if 302 < x0 then
  if h17 173 x0.toNat 0 = 0 then
  lt_ (fi_upd h17 173 x0.toNat 0 r16) fun h18 =>
  nw_ h18 5 500 500 fun r19 h20 =>
  if 302 < x0 then
  if h20 174 x0.toNat 0 = 0 then
  lt_ (fi_upd h20 174 x0.toNat 0 r19) fun h21 =>
  nw_ h21 5 500 500 fun r22 h23 =>
  if 302 < x0 then
  if h23 175 x0.toNat 0 = 0 then
  lt_ (fi_upd h23 175 x0.toNat 0 r22) fun h24 =>
  c_99_147 d x0 h24
  else none
  else none
  else none
  else none
  else none
  else none
  else none
  else none
  else none
  else none
  else none
  else none
  else none
  else none
  else none
  else none := by
  unfold c_99_75
  exact
    have D : fk_D 99 [(75, some [0], .aload_n 0, 1, 0, 0, 0), (76, none, .bipush 30, 2, 0, 30, 0), (78, none, .anewarray 48, 3, 126, 26, 0), (81, none, .putfield 50, 3, 165, 115, 112), (84, none, .aload_n 0, 1, 0, 0, 0), (85, none, .bipush 40, 2, 0, 40, 0), (87, none, .anewarray 54, 3, 117, 23, 0), (90, none, .putfield 56, 3, 166, 115, 112), (93, none, .aload_n 0, 1, 0, 0, 0), (94, none, .sipush 500, 3, 0, 500, 0), (97, none, .newarray .byte, 2, 0, 0, 0), (99, none, .putfield 60, 3, 170, 115, 112), (102, none, .aload_n 0, 1, 0, 0, 0), (103, none, .sipush 500, 3, 0, 500, 0), (106, none, .newarray .byte, 2, 0, 0, 0), (108, none, .putfield 63, 3, 171, 115, 112), (111, none, .aload_n 0, 1, 0, 0, 0), (112, none, .sipush 1200, 3, 0, 1200, 0), (115, none, .newarray .byte, 2, 0, 0, 0), (117, none, .putfield 66, 3, 172, 115, 112)] := fq_of2 cd_99 ow_99 cl_99 rfl (pc := 75) (by decide +kernel)
    j_aldn (pc := 75) D rfl rfl rfl fun D =>
    j_bp (pc := 76) D rfl fun D =>
    j_ana (pc := 78) (N := 65536) D rfl rfl (gy (by decide)) fun r1 h2 er eh2 S q D =>
    have gt_r1 := nw_gt H.1 er
    have kc_r1 := nw_cls H.1 er eh2
    have kl_r1 := nw_len H.1 er eh2
    have T := fj_hs_ok H.1 S
    have hk := cls_st H.1 T.2 hk (by decide)
    have H := sh0_st H T
    j_pfF (pc := 81) (a := x0.toNat) (ty := 12) D rfl rfl rfl hk ⟨rfl, rfl⟩ rfl gn (gy rfl) gn fun h3 eh3 S D =>
    have T := fj_hs_ok H.1 S
    have hk := cls_st H.1 T.2 hk (by decide)
    have H := sh0_st H T
    j_aldn (pc := 84) D rfl rfl rfl fun D =>
    j_bp (pc := 85) D rfl fun D =>
    j_ana (pc := 87) (N := 65536) D rfl rfl (gy (by decide)) fun r4 h5 er eh5 S q D =>
    have gt_r4 := nw_gt H.1 er
    have kc_r4 := nw_cls H.1 er eh5
    have kl_r4 := nw_len H.1 er eh5
    have T := fj_hs_ok H.1 S
    have hk := cls_st H.1 T.2 hk (by decide)
    have H := sh0_st H T
    j_pfF (pc := 90) (a := x0.toNat) (ty := 12) D rfl rfl rfl hk ⟨rfl, rfl⟩ rfl gn (gy rfl) gn fun h6 eh6 S D =>
    have T := fj_hs_ok H.1 S
    have hk := cls_st H.1 T.2 hk (by decide)
    have H := sh0_st H T
    j_aldn (pc := 93) D rfl rfl rfl fun D =>
    j_sp (pc := 94) D rfl fun D =>
    j_na (pc := 97) (k := 8) (N := 65536) D rfl rfl rfl (gy (by decide)) fun r7 h8 er eh8 S q D =>
    have gt_r7 := nw_gt H.1 er
    have kc_r7 := nw_cls H.1 er eh8
    have kl_r7 := nw_len H.1 er eh8
    have T := fj_hs_ok H.1 S
    have hk := cls_st H.1 T.2 hk (by decide)
    have H := sh0_st H T
    j_pfF (pc := 99) (a := x0.toNat) (ty := 12) D rfl rfl rfl hk ⟨rfl, rfl⟩ rfl gn (gy rfl) gn fun h9 eh9 S D =>
    have T := fj_hs_ok H.1 S
    have hk := cls_st H.1 T.2 hk (by decide)
    have H := sh0_st H T
    j_aldn (pc := 102) D rfl rfl rfl fun D =>
    j_sp (pc := 103) D rfl fun D =>
    j_na (pc := 106) (k := 8) (N := 65536) D rfl rfl rfl (gy (by decide)) fun r10 h11 er eh11 S q D =>
    have gt_r10 := nw_gt H.1 er
    have kc_r10 := nw_cls H.1 er eh11
    have kl_r10 := nw_len H.1 er eh11
    have T := fj_hs_ok H.1 S
    have hk := cls_st H.1 T.2 hk (by decide)
    have H := sh0_st H T
    j_pfF (pc := 108) (a := x0.toNat) (ty := 12) D rfl rfl rfl hk ⟨rfl, rfl⟩ rfl gn (gy rfl) gn fun h12 eh12 S D =>
    have T := fj_hs_ok H.1 S
    have hk := cls_st H.1 T.2 hk (by decide)
    have H := sh0_st H T
    j_aldn (pc := 111) D rfl rfl rfl fun D =>
    j_sp (pc := 112) D rfl fun D =>
    j_na (pc := 115) (k := 8) (N := 65536) D rfl rfl rfl (gy (by decide)) fun r13 h14 er eh14 S q D =>
    have gt_r13 := nw_gt H.1 er
    have kc_r13 := nw_cls H.1 er eh14
    have kl_r13 := nw_len H.1 er eh14
    have T := fj_hs_ok H.1 S
    have hk := cls_st H.1 T.2 hk (by decide)
    have H := sh0_st H T
    j_pfF (pc := 117) (a := x0.toNat) (ty := 12) D rfl rfl rfl hk ⟨rfl, rfl⟩ rfl gn (gy rfl) gn fun h15 eh15 S D =>
    have T := fj_hs_ok H.1 S
    have hk := cls_st H.1 T.2 hk (by decide)
    have H := sh0_st H T
    have D : fk_D 99 [(120, none, .aload_n 0, 1, 0, 0, 0), (121, none, .sipush 500, 3, 0, 500, 0), (124, none, .newarray .boolean, 2, 0, 0, 0), (126, none, .putfield 69, 3, 173, 115, 112), (129, none, .aload_n 0, 1, 0, 0, 0), (130, none, .sipush 500, 3, 0, 500, 0), (133, none, .newarray .char, 2, 0, 0, 0), (135, none, .putfield 73, 3, 174, 115, 112), (138, none, .aload_n 0, 1, 0, 0, 0), (139, none, .sipush 500, 3, 0, 500, 0), (142, none, .newarray .char, 2, 0, 0, 0), (144, none, .putfield 76, 3, 175, 115, 112)] := fq_of2 cd_99 ow_99 cl_99 rfl (pc := 120) (by decide +kernel)
    j_aldn (pc := 120) D rfl rfl rfl fun D =>
    j_sp (pc := 121) D rfl fun D =>
    j_na (pc := 124) (k := 4) (N := 65536) D rfl rfl rfl (gy (by decide)) fun r16 h17 er eh17 S q D =>
    have gt_r16 := nw_gt H.1 er
    have kc_r16 := nw_cls H.1 er eh17
    have kl_r16 := nw_len H.1 er eh17
    have T := fj_hs_ok H.1 S
    have hk := cls_st H.1 T.2 hk (by decide)
    have H := sh0_st H T
    j_pfF (pc := 126) (a := x0.toNat) (ty := 12) D rfl rfl rfl hk ⟨rfl, rfl⟩ rfl gn (gy rfl) gn fun h18 eh18 S D =>
    have T := fj_hs_ok H.1 S
    have hk := cls_st H.1 T.2 hk (by decide)
    have H := sh0_st H T
    j_aldn (pc := 129) D rfl rfl rfl fun D =>
    j_sp (pc := 130) D rfl fun D =>
    j_na (pc := 133) (k := 5) (N := 65536) D rfl rfl rfl (gy (by decide)) fun r19 h20 er eh20 S q D =>
    have gt_r19 := nw_gt H.1 er
    have kc_r19 := nw_cls H.1 er eh20
    have kl_r19 := nw_len H.1 er eh20
    have T := fj_hs_ok H.1 S
    have hk := cls_st H.1 T.2 hk (by decide)
    have H := sh0_st H T
    j_pfF (pc := 135) (a := x0.toNat) (ty := 12) D rfl rfl rfl hk ⟨rfl, rfl⟩ rfl gn (gy rfl) gn fun h21 eh21 S D =>
    have T := fj_hs_ok H.1 S
    have hk := cls_st H.1 T.2 hk (by decide)
    have H := sh0_st H T
    j_aldn (pc := 138) D rfl rfl rfl fun D =>
    j_sp (pc := 139) D rfl fun D =>
    j_na (pc := 142) (k := 5) (N := 65536) D rfl rfl rfl (gy (by decide)) fun r22 h23 er eh23 S q D =>
    have gt_r22 := nw_gt H.1 er
    have kc_r22 := nw_cls H.1 er eh23
    have kl_r22 := nw_len H.1 er eh23
    have T := fj_hs_ok H.1 S
    have hk := cls_st H.1 T.2 hk (by decide)
    have H := sh0_st H T
    j_pfF (pc := 144) (a := x0.toNat) (ty := 12) D rfl rfl rfl hk ⟨rfl, rfl⟩ rfl gn (gy rfl) gn fun h24 eh24 S D =>
    have T := fj_hs_ok H.1 S
    have hk := cls_st H.1 T.2 hk (by decide)
    have H := sh0_st H T
    fk_jump cut_99_147 rfl rfl
theorem e_99_147 (d : Nat) (x0 : Int) {h : fi_H} (H : Sh0 h) (hk : h 0 x0.toNat 0 = 115) : c_99_147 d x0 h =
  nw_ h 11 500 500 fun r1 h2 =>
  if 302 < x0 then
  if h2 176 x0.toNat 0 = 0 then
  lt_ (fi_upd h2 176 x0.toNat 0 r1) fun h3 =>
  nw_ h3 11 500 500 fun r4 h5 =>
  if 302 < x0 then
  if h5 177 x0.toNat 0 = 0 then
  lt_ (fi_upd h5 177 x0.toNat 0 r4) fun h6 =>
  nw_ h6 10 20 20 fun r7 h8 =>
  if 302 < x0 then
  if h8 179 x0.toNat 0 = 0 then
  lt_ (fi_upd h8 179 x0.toNat 0 r7) fun h9 =>
  nw_ h9 10 20 20 fun r10 h11 =>
  if 302 < x0 then
  if h11 180 x0.toNat 0 = 0 then
  lt_ (fi_upd h11 180 x0.toNat 0 r10) fun h12 =>
  nw_ h12 10 20 20 fun r13 h14 =>
  if 302 < x0 then
  if h14 181 x0.toNat 0 = 0 then
  lt_ (fi_upd h14 181 x0.toNat 0 r13) fun h15 =>
  some (.inl none, h15)
  else none
  else none
  else none
  else none
  else none
  else none
  else none
  else none
  else none
  else none := by
  unfold c_99_147
  exact
    have D : fk_D 99 [(147, some [0], .aload_n 0, 1, 0, 0, 0), (148, none, .sipush 500, 3, 0, 500, 0), (151, none, .newarray .long, 2, 0, 0, 0), (153, none, .putfield 79, 3, 176, 115, 112), (156, none, .aload_n 0, 1, 0, 0, 0), (157, none, .sipush 500, 3, 0, 500, 0), (160, none, .newarray .long, 2, 0, 0, 0), (162, none, .putfield 82, 3, 177, 115, 112), (165, none, .aload_n 0, 1, 0, 0, 0), (166, none, .bipush 20, 2, 0, 20, 0), (168, none, .newarray .int, 2, 0, 0, 0), (170, none, .putfield 85, 3, 179, 115, 112), (173, none, .aload_n 0, 1, 0, 0, 0), (174, none, .bipush 20, 2, 0, 20, 0), (176, none, .newarray .int, 2, 0, 0, 0), (178, none, .putfield 88, 3, 180, 115, 112), (181, none, .aload_n 0, 1, 0, 0, 0), (182, none, .bipush 20, 2, 0, 20, 0), (184, none, .newarray .int, 2, 0, 0, 0), (186, none, .putfield 91, 3, 181, 115, 112)] := fq_of2 cd_99 ow_99 cl_99 rfl (pc := 147) (by decide +kernel)
    j_aldn (pc := 147) D rfl rfl rfl fun D =>
    j_sp (pc := 148) D rfl fun D =>
    j_na (pc := 151) (k := 11) (N := 65536) D rfl rfl rfl (gy (by decide)) fun r1 h2 er eh2 S q D =>
    have gt_r1 := nw_gt H.1 er
    have kc_r1 := nw_cls H.1 er eh2
    have kl_r1 := nw_len H.1 er eh2
    have T := fj_hs_ok H.1 S
    have hk := cls_st H.1 T.2 hk (by decide)
    have H := sh0_st H T
    j_pfF (pc := 153) (a := x0.toNat) (ty := 12) D rfl rfl rfl hk ⟨rfl, rfl⟩ rfl gn (gy rfl) gn fun h3 eh3 S D =>
    have T := fj_hs_ok H.1 S
    have hk := cls_st H.1 T.2 hk (by decide)
    have H := sh0_st H T
    j_aldn (pc := 156) D rfl rfl rfl fun D =>
    j_sp (pc := 157) D rfl fun D =>
    j_na (pc := 160) (k := 11) (N := 65536) D rfl rfl rfl (gy (by decide)) fun r4 h5 er eh5 S q D =>
    have gt_r4 := nw_gt H.1 er
    have kc_r4 := nw_cls H.1 er eh5
    have kl_r4 := nw_len H.1 er eh5
    have T := fj_hs_ok H.1 S
    have hk := cls_st H.1 T.2 hk (by decide)
    have H := sh0_st H T
    j_pfF (pc := 162) (a := x0.toNat) (ty := 12) D rfl rfl rfl hk ⟨rfl, rfl⟩ rfl gn (gy rfl) gn fun h6 eh6 S D =>
    have T := fj_hs_ok H.1 S
    have hk := cls_st H.1 T.2 hk (by decide)
    have H := sh0_st H T
    j_aldn (pc := 165) D rfl rfl rfl fun D =>
    j_bp (pc := 166) D rfl fun D =>
    j_na (pc := 168) (k := 10) (N := 65536) D rfl rfl rfl (gy (by decide)) fun r7 h8 er eh8 S q D =>
    have gt_r7 := nw_gt H.1 er
    have kc_r7 := nw_cls H.1 er eh8
    have kl_r7 := nw_len H.1 er eh8
    have T := fj_hs_ok H.1 S
    have hk := cls_st H.1 T.2 hk (by decide)
    have H := sh0_st H T
    j_pfF (pc := 170) (a := x0.toNat) (ty := 12) D rfl rfl rfl hk ⟨rfl, rfl⟩ rfl gn (gy rfl) gn fun h9 eh9 S D =>
    have T := fj_hs_ok H.1 S
    have hk := cls_st H.1 T.2 hk (by decide)
    have H := sh0_st H T
    j_aldn (pc := 173) D rfl rfl rfl fun D =>
    j_bp (pc := 174) D rfl fun D =>
    j_na (pc := 176) (k := 10) (N := 65536) D rfl rfl rfl (gy (by decide)) fun r10 h11 er eh11 S q D =>
    have gt_r10 := nw_gt H.1 er
    have kc_r10 := nw_cls H.1 er eh11
    have kl_r10 := nw_len H.1 er eh11
    have T := fj_hs_ok H.1 S
    have hk := cls_st H.1 T.2 hk (by decide)
    have H := sh0_st H T
    j_pfF (pc := 178) (a := x0.toNat) (ty := 12) D rfl rfl rfl hk ⟨rfl, rfl⟩ rfl gn (gy rfl) gn fun h12 eh12 S D =>
    have T := fj_hs_ok H.1 S
    have hk := cls_st H.1 T.2 hk (by decide)
    have H := sh0_st H T
    j_aldn (pc := 181) D rfl rfl rfl fun D =>
    j_bp (pc := 182) D rfl fun D =>
    j_na (pc := 184) (k := 10) (N := 65536) D rfl rfl rfl (gy (by decide)) fun r13 h14 er eh14 S q D =>
    have gt_r13 := nw_gt H.1 er
    have kc_r13 := nw_cls H.1 er eh14
    have kl_r13 := nw_len H.1 er eh14
    have T := fj_hs_ok H.1 S
    have hk := cls_st H.1 T.2 hk (by decide)
    have H := sh0_st H T
    j_pfF (pc := 186) (a := x0.toNat) (ty := 12) D rfl rfl rfl hk ⟨rfl, rfl⟩ rfl gn (gy rfl) gn fun h15 eh15 S D =>
    have T := fj_hs_ok H.1 S
    have hk := cls_st H.1 T.2 hk (by decide)
    have H := sh0_st H T
    have D : fk_D 99 [(189, none, .return_, 1, 0, 0, 0)] := fq_of2 cd_99 ow_99 cl_99 rfl (pc := 189) (by decide +kernel)
    j_vret D rt_99
theorem m_99 (d : Nat) (x0 x1 : Int) {h : fi_H} (H : Sh0 h) (hk : h 0 x0.toNat 0 = 115) : fj_run (d + 1) 99 h [(4, x0), (4, x1)] =
  if 302 < x0 then
  if h 182 x0.toNat 0 = 0 then
  lt_ (fi_upd h 182 x0.toNat 0 x1) fun h1 =>
  cv_ (fj_run d 1009 h1 [(4, x0)])
    (fun h2 =>
    nw_ h2 8 1202 1202 fun r5 h6 =>
    if 302 < x0 then
    if h6 149 x0.toNat 0 = 0 then
    lt_ (fi_upd h6 149 x0.toNat 0 r5) fun h7 =>
    nw_ h7 9 1202 1202 fun r8 h9 =>
    if 302 < x0 then
    if h9 150 x0.toNat 0 = 0 then
    lt_ (fi_upd h9 150 x0.toNat 0 r8) fun h10 =>
    nw_ h10 10 1202 1202 fun r11 h12 =>
    if 302 < x0 then
    if h12 151 x0.toNat 0 = 0 then
    lt_ (fi_upd h12 151 x0.toNat 0 r11) fun h13 =>
    nw_ h13 11 1202 1202 fun r14 h15 =>
    if 302 < x0 then
    if h15 152 x0.toNat 0 = 0 then
    lt_ (fi_upd h15 152 x0.toNat 0 r14) fun h16 =>
    nw_ h16 5 1202 1202 fun r17 h18 =>
    if 302 < x0 then
    if h18 153 x0.toNat 0 = 0 then
    lt_ (fi_upd h18 153 x0.toNat 0 r17) fun h19 =>
    nw_ h19 25 1202 1202 fun r20 h21 =>
    if 302 < x0 then
    if h21 154 x0.toNat 0 = 0 then
    lt_ (fi_upd h21 154 x0.toNat 0 r20) fun h22 =>
    nw_ h22 132 4 0 fun r23 h24 =>
    cv_ (fj_run d 100 h24 [(4, r23)])
      (fun h25 =>
      if 302 < x0 then
      if h25 155 x0.toNat 0 = 0 then
      lt_ (fi_upd h25 155 x0.toNat 0 r23) fun h28 =>
      c_99_75 d x0 h28
      else none
      else none)
      (fun q27 h25 => tx_ q27 h25)
    else none
    else none
    else none
    else none
    else none
    else none
    else none
    else none
    else none
    else none
    else none
    else none)
    (fun q4 h2 => tx_ q4 h2)
  else none
  else none := by
  rw [fj_run_eq d (by decide) h [(4, x0), (4, x1)] (Nat.le_of_ble_eq_true (by rw [nl_99]; rfl))]
  show gG (fj_run d) 99 0 [(0, (4, x0)), (1, (4, x1))] [] h = _
  exact
    have D : fk_D 99 [(0, none, .aload_n 0, 1, 0, 0, 0), (1, none, .aload_n 1, 1, 0, 0, 0), (2, none, .putfield 3, 3, 182, 115, 112), (5, none, .aload_n 0, 1, 0, 0, 0), (6, none, .invokespecial 9, 3, 0, 1009, 0), (9, none, .aload_n 0, 1, 0, 0, 0), (10, none, .sipush 1202, 3, 0, 1202, 0), (13, none, .newarray .byte, 2, 0, 0, 0), (15, none, .putfield 15, 3, 149, 115, 112), (18, none, .aload_n 0, 1, 0, 0, 0), (19, none, .sipush 1202, 3, 0, 1202, 0), (22, none, .newarray .short, 2, 0, 0, 0), (24, none, .putfield 19, 3, 150, 115, 112), (27, none, .aload_n 0, 1, 0, 0, 0), (28, none, .sipush 1202, 3, 0, 1202, 0), (31, none, .newarray .int, 2, 0, 0, 0), (33, none, .putfield 23, 3, 151, 115, 112), (36, none, .aload_n 0, 1, 0, 0, 0), (37, none, .sipush 1202, 3, 0, 1202, 0), (40, none, .newarray .long, 2, 0, 0, 0)] := fq_of2 cd_99 ow_99 cl_99 rfl (pc := 0) (by decide +kernel)
    j_aldn (pc := 0) D rfl rfl rfl fun D =>
    j_aldn (pc := 1) D rfl rfl rfl fun D =>
    j_pfF (pc := 2) (a := x0.toNat) (ty := 12) D rfl rfl rfl hk ⟨rfl, rfl⟩ rfl gn (gy rfl) gn fun h1 eh1 S D =>
    have T := fj_hs_ok H.1 S
    have hk := cls_st H.1 T.2 hk (by decide)
    have H := sh0_st H T
    j_aldn (pc := 5) D rfl rfl rfl fun D =>
    j_spv (pc := 6) (m := 1009) (a := []) (rest := []) D rfl rfl rfl rfl (by rw [show h1 0 x0.toNat 0 = 115 from hk]; decide) (nz_cls H.2.1 hk (by decide)) (fun h2 e1 D =>
      have T := fj_run_ok _ _ _ _ _ _ H.1 e1
      have hk := cls_st H.1 T.2 hk (by decide)
      have H := sh0_st H T
      j_aldn (pc := 9) D rfl rfl rfl fun D =>
      j_sp (pc := 10) D rfl fun D =>
      j_na (pc := 13) (k := 8) (N := 65536) D rfl rfl rfl (gy (by decide)) fun r5 h6 er eh6 S q D =>
      have gt_r5 := nw_gt H.1 er
      have kc_r5 := nw_cls H.1 er eh6
      have kl_r5 := nw_len H.1 er eh6
      have T := fj_hs_ok H.1 S
      have hk := cls_st H.1 T.2 hk (by decide)
      have H := sh0_st H T
      j_pfF (pc := 15) (a := x0.toNat) (ty := 12) D rfl rfl rfl hk ⟨rfl, rfl⟩ rfl gn (gy rfl) gn fun h7 eh7 S D =>
      have T := fj_hs_ok H.1 S
      have hk := cls_st H.1 T.2 hk (by decide)
      have H := sh0_st H T
      j_aldn (pc := 18) D rfl rfl rfl fun D =>
      j_sp (pc := 19) D rfl fun D =>
      j_na (pc := 22) (k := 9) (N := 65536) D rfl rfl rfl (gy (by decide)) fun r8 h9 er eh9 S q D =>
      have gt_r8 := nw_gt H.1 er
      have kc_r8 := nw_cls H.1 er eh9
      have kl_r8 := nw_len H.1 er eh9
      have T := fj_hs_ok H.1 S
      have hk := cls_st H.1 T.2 hk (by decide)
      have H := sh0_st H T
      j_pfF (pc := 24) (a := x0.toNat) (ty := 12) D rfl rfl rfl hk ⟨rfl, rfl⟩ rfl gn (gy rfl) gn fun h10 eh10 S D =>
      have T := fj_hs_ok H.1 S
      have hk := cls_st H.1 T.2 hk (by decide)
      have H := sh0_st H T
      j_aldn (pc := 27) D rfl rfl rfl fun D =>
      j_sp (pc := 28) D rfl fun D =>
      j_na (pc := 31) (k := 10) (N := 65536) D rfl rfl rfl (gy (by decide)) fun r11 h12 er eh12 S q D =>
      have gt_r11 := nw_gt H.1 er
      have kc_r11 := nw_cls H.1 er eh12
      have kl_r11 := nw_len H.1 er eh12
      have T := fj_hs_ok H.1 S
      have hk := cls_st H.1 T.2 hk (by decide)
      have H := sh0_st H T
      j_pfF (pc := 33) (a := x0.toNat) (ty := 12) D rfl rfl rfl hk ⟨rfl, rfl⟩ rfl gn (gy rfl) gn fun h13 eh13 S D =>
      have T := fj_hs_ok H.1 S
      have hk := cls_st H.1 T.2 hk (by decide)
      have H := sh0_st H T
      j_aldn (pc := 36) D rfl rfl rfl fun D =>
      j_sp (pc := 37) D rfl fun D =>
      j_na (pc := 40) (k := 11) (N := 65536) D rfl rfl rfl (gy (by decide)) fun r14 h15 er eh15 S q D =>
      have gt_r14 := nw_gt H.1 er
      have kc_r14 := nw_cls H.1 er eh15
      have kl_r14 := nw_len H.1 er eh15
      have T := fj_hs_ok H.1 S
      have hk := cls_st H.1 T.2 hk (by decide)
      have H := sh0_st H T
      have D : fk_D 99 [(42, none, .putfield 27, 3, 152, 115, 112), (45, none, .aload_n 0, 1, 0, 0, 0), (46, none, .sipush 1202, 3, 0, 1202, 0), (49, none, .newarray .char, 2, 0, 0, 0), (51, none, .putfield 31, 3, 153, 115, 112), (54, none, .aload_n 0, 1, 0, 0, 0), (55, none, .sipush 1202, 3, 0, 1202, 0), (58, none, .anewarray 35, 3, 131, 25, 0), (61, none, .putfield 37, 3, 154, 115, 112), (64, none, .aload_n 0, 1, 0, 0, 0), (65, none, .new 41, 3, 132, 4, 0), (68, none, .dup, 1, 0, 0, 0), (69, none, .invokespecial 43, 3, 0, 100, 0), (72, none, .putfield 44, 3, 155, 115, 112)] := fq_of2 cd_99 ow_99 cl_99 rfl (pc := 42) (by decide +kernel)
      j_pfF (pc := 42) (a := x0.toNat) (ty := 12) D rfl rfl rfl hk ⟨rfl, rfl⟩ rfl gn (gy rfl) gn fun h16 eh16 S D =>
      have T := fj_hs_ok H.1 S
      have hk := cls_st H.1 T.2 hk (by decide)
      have H := sh0_st H T
      j_aldn (pc := 45) D rfl rfl rfl fun D =>
      j_sp (pc := 46) D rfl fun D =>
      j_na (pc := 49) (k := 5) (N := 65536) D rfl rfl rfl (gy (by decide)) fun r17 h18 er eh18 S q D =>
      have gt_r17 := nw_gt H.1 er
      have kc_r17 := nw_cls H.1 er eh18
      have kl_r17 := nw_len H.1 er eh18
      have T := fj_hs_ok H.1 S
      have hk := cls_st H.1 T.2 hk (by decide)
      have H := sh0_st H T
      j_pfF (pc := 51) (a := x0.toNat) (ty := 12) D rfl rfl rfl hk ⟨rfl, rfl⟩ rfl gn (gy rfl) gn fun h19 eh19 S D =>
      have T := fj_hs_ok H.1 S
      have hk := cls_st H.1 T.2 hk (by decide)
      have H := sh0_st H T
      j_aldn (pc := 54) D rfl rfl rfl fun D =>
      j_sp (pc := 55) D rfl fun D =>
      j_ana (pc := 58) (N := 65536) D rfl rfl (gy (by decide)) fun r20 h21 er eh21 S q D =>
      have gt_r20 := nw_gt H.1 er
      have kc_r20 := nw_cls H.1 er eh21
      have kl_r20 := nw_len H.1 er eh21
      have T := fj_hs_ok H.1 S
      have hk := cls_st H.1 T.2 hk (by decide)
      have H := sh0_st H T
      j_pfF (pc := 61) (a := x0.toNat) (ty := 12) D rfl rfl rfl hk ⟨rfl, rfl⟩ rfl gn (gy rfl) gn fun h22 eh22 S D =>
      have T := fj_hs_ok H.1 S
      have hk := cls_st H.1 T.2 hk (by decide)
      have H := sh0_st H T
      j_aldn (pc := 64) D rfl rfl rfl fun D =>
      j_new (pc := 65) D rfl fun r23 h24 er eh24 S D =>
      have gt_r23 := nw_gt H.1 er
      have kc_r23 := nw_cls H.1 er eh24
      have T := fj_hs_ok H.1 S
      have hk := cls_st H.1 T.2 hk (by decide)
      have H := sh0_st H T
      j_sh (pc := 68) D rfl rfl rfl fun D =>
      j_spv (pc := 69) (m := 100) (a := []) (rest := [(4, r23), (4, x0)]) D rfl rfl rfl rfl (by rw [show h24 0 r23.toNat 0 = 132 from kc_r23]; decide) (gt_nz gt_r23) (fun h25 e1 D =>
        have T := fj_run_ok _ _ _ _ _ _ H.1 e1
        have hk := cls_st H.1 T.2 hk (by decide)
        have kc_r23 := cls_st H.1 T.2 kc_r23 (by decide)
        have H := sh0_st H T
        j_pfF (pc := 72) (a := x0.toNat) (ty := 12) D rfl rfl rfl hk ⟨rfl, rfl⟩ rfl gn (gy rfl) gn fun h28 eh28 S D =>
        have T := fj_hs_ok H.1 S
        have hk := cls_st H.1 T.2 hk (by decide)
        have H := sh0_st H T
        fk_jump cut_99_75 rfl rfl) (fun q27 h25 e1 =>
        j_tx (hx_99 _))) (fun q4 h2 e1 =>
      j_tx (hx_99 _))
/-! 100 java/lang/StringBuilder.<init>()V -/
theorem cd_100 : fi_code 100 = prog_87_method_1_code := rfl
theorem hx_100 : ∀ pc, fi_hat 100 pc = none := fun pc => by unfold fi_hat; rw [show fi_hh 100 = [] from rfl]; rfl
theorem rt_100 : fi_ret 100 = none := rfl
theorem nl_100 : fi_nl 100 = 1 := rfl
theorem ow_100 : fi_ow 100 = 32 := rfl
theorem cl_100 : fj_cutT.getD 100 [] = [] := rfl
theorem m_100 (d : Nat) (x0 : Int) {h : fi_H} (H : Sh0 h) (hk : h 0 x0.toNat 0 = 132) : fj_run (d + 1) 100 h [(4, x0)] =
  cv_ (fj_run d 101 h [(4, x0), (0, 16)])
    (fun h1 =>
    some (.inl none, h1))
    (fun q3 h1 => tx_ q3 h1) := by
  rw [fj_run_eq d (by decide) h [(4, x0)] (Nat.le_of_ble_eq_true (by rw [nl_100]; rfl))]
  show gG (fj_run d) 100 0 [(0, (4, x0))] [] h = _
  exact
    have D : fk_D 100 [(0, none, .aload_n 0, 1, 0, 0, 0), (1, none, .bipush 16, 2, 0, 16, 0), (3, none, .invokespecial 1, 3, 1, 101, 0), (6, none, .return_, 1, 0, 0, 0)] := fq_of2 cd_100 ow_100 cl_100 rfl (pc := 0) (by decide +kernel)
    j_aldn (pc := 0) D rfl rfl rfl fun D =>
    j_bp (pc := 1) D rfl fun D =>
    j_spv (pc := 3) (m := 101) (a := [(0, 16)]) (rest := []) D rfl rfl rfl rfl (by rw [show h 0 x0.toNat 0 = 132 from hk]; decide) (nz_cls H.2.1 hk (by decide)) (fun h1 e1 D =>
      have T := fj_run_ok _ _ _ _ _ _ H.1 e1
      have hk := cls_st H.1 T.2 hk (by decide)
      have H := sh0_st H T
      j_vret D rt_100) (fun q3 h1 e1 =>
      j_tx (hx_100 _))
/-! 101 java/lang/AbstractStringBuilder.<init>(I)V -/
theorem cd_101 : fi_code 101 = prog_72_method_2_code := rfl
theorem hx_101 : ∀ pc, fi_hat 101 pc = none := fun pc => by unfold fi_hat; rw [show fi_hh 101 = [] from rfl]; rfl
theorem rt_101 : fi_ret 101 = none := rfl
theorem nl_101 : fi_nl 101 = 2 := rfl
theorem ow_101 : fi_ow 101 = 68 := rfl
theorem cl_101 : fj_cutT.getD 101 [] = [] := rfl
theorem m_101 (d : Nat) (x0 x1 : Int) {h : fi_H} {k0 : Int} (H : Sh0 h) (hk : h 0 x0.toNat 0 = k0) (hk0 : k0 ≠ 0) : fj_run (d + 1) 101 h [(4, x0), (0, x1)] =
  if 100 ≤ h 0 x0.toNat 0 ∧ h 0 x0.toNat 0 < 134 then
  cv_ (fj_run d 1009 h [(4, x0)])
    (fun h1 =>
    if 0 ≤ x1 ∧ x1 < 65536 then
    nw_ h1 8 x1 x1 fun r4 h5 =>
    if h5 0 x0.toNat 0 = 132 then
    if 302 < x0 then
    lt_ (fi_upd h5 145 x0.toNat 0 r4) fun h6 =>
    if 302 < x0 then
    lt_ (fi_upd h6 146 x0.toNat 0 0) fun h8 =>
    some (.inl none, h8)
    else none
    else none
    else none
    else none)
    (fun q3 h1 => tx_ q3 h1)
  else none := by
  rw [fj_run_eq d (by decide) h [(4, x0), (0, x1)] (Nat.le_of_ble_eq_true (by rw [nl_101]; rfl))]
  show gG (fj_run d) 101 0 [(0, (4, x0)), (1, (0, x1))] [] h = _
  exact
    have D : fk_D 101 [(0, none, .aload_n 0, 1, 0, 0, 0), (1, none, .invokespecial 3, 3, 0, 1009, 0), (4, none, .getstatic 18, 3, 0, 1, 0), (7, none, .ifCond .eq 18, 3, 25, 0, 0)] := fq_of2 cd_101 ow_101 cl_101 rfl (pc := 0) (by decide +kernel)
    j_aldn (pc := 0) D rfl rfl rfl fun D =>
    j_spuv (pc := 1) (m := 1009) (a := []) (rest := []) H.2.1 D rfl rfl rfl rfl (fun h1 e1 D =>
      have T := fj_run_ok _ _ _ _ _ _ H.1 e1
      have hk := cls_st H.1 T.2 hk hk0
      have H := sh0_st H T
      j_gs (pc := 4) D rfl fun D =>
      j_known (pc := 7) D rfl rfl (pc' := 10) (st' := []) (by rfl) <|
      have D : fk_D 101 [(10, none, .aload_n 0, 1, 0, 0, 0), (11, none, .iload_n 1, 1, 0, 0, 0), (12, none, .newarray .byte, 2, 0, 0, 0), (14, none, .putfield 15, 3, 145, (-132), 12), (17, none, .aload_n 0, 1, 0, 0, 0), (18, none, .iconst 0, 1, 0, 0, 0), (19, none, .putfield 22, 3, 146, 132, 8), (22, none, .goto 16, 3, 38, 0, 0)] := fq_of2 cd_101 ow_101 cl_101 rfl (pc := 10) (by decide +kernel)
      j_aldn (pc := 10) D rfl rfl rfl fun D =>
      j_ildn (pc := 11) D rfl rfl rfl fun D =>
      j_na (pc := 12) (k := 8) (N := 65536) D rfl rfl rfl gn fun r4 h5 er eh5 S q D =>
      have gt_r4 := nw_gt H.1 er
      have kc_r4 := nw_cls H.1 er eh5
      have kl_r4 := nw_len H.1 er eh5
      have T := fj_hs_ok H.1 S
      have hk := cls_st H.1 T.2 hk hk0
      have H := sh0_st H T
      j_pfo (pc := 14) D rfl rfl rfl rfl rfl gn gn (gy rfl) fun h6 eh6 S kc7 D =>
      have T := fj_hs_ok H.1 S
      have kc7 := cls_st H.1 T.2 kc7 (by decide)
      have H := sh0_st H T
      j_aldn (pc := 17) D rfl rfl rfl fun D =>
      j_ic (pc := 18) D rfl fun D =>
      j_pf (pc := 19) (a := x0.toNat) D rfl rfl rfl kc7 rfl rfl gn (gy (by decide)) fun h8 eh8 S D =>
      have T := fj_hs_ok H.1 S
      have kc7 := cls_st H.1 T.2 kc7 (by decide)
      have H := sh0_st H T
      j_goto (pc := 22) D rfl <|
      have D : fk_D 101 [(38, none, .return_, 1, 0, 0, 0)] := fq_of2 cd_101 ow_101 cl_101 rfl (pc := 38) (by decide +kernel)
      j_vret D rt_101) (fun q3 h1 e1 =>
      j_tx (hx_101 _))
/-! 102 java/lang/StringUTF16.newBytesFor(I)[B -/
theorem cd_102 : fi_code 102 = prog_89_method_2_code := rfl
theorem hx_102 : ∀ pc, fi_hat 102 pc = none := fun pc => by unfold fi_hat; rw [show fi_hh 102 = [] from rfl]; rfl
theorem rt_102 : fj_ft (fi_ret 102) = 5 := rfl
theorem nl_102 : fi_nl 102 = 1 := rfl
theorem ow_102 : fi_ow 102 = 80 := rfl
theorem cl_102 : fj_cutT.getD 102 [] = [] := rfl
theorem m_102 (d : Nat) (x0 : Int) {h : fi_H} (H : Shp h) : fj_run (d + 1) 102 h [(0, x0)] =
  ca_ (fj_run d 103 h [(0, x0)]) 0
    (fun v2 h1 =>
    if 0 ≤ v2 ∧ v2 < 65536 then
    nw_ h1 8 v2 v2 fun r4 h5 =>
    some (.inl (some (4, r4)), h5)
    else none)
    (fun q3 h1 => tx_ q3 h1) := by
  rw [fj_run_eq d (by decide) h [(0, x0)] (Nat.le_of_ble_eq_true (by rw [nl_102]; rfl))]
  show gG (fj_run d) 102 0 [(0, (0, x0))] [] h = _
  exact
    have D : fk_D 102 [(0, none, .iload_n 0, 1, 0, 0, 0), (1, none, .invokestatic 11, 3, 1, 103, 1), (4, none, .newarray .byte, 2, 0, 0, 0), (6, none, .areturn, 1, 0, 0, 0)] := fq_of2 cd_102 ow_102 cl_102 rfl (pc := 0) (by decide +kernel)
    j_ildn (pc := 0) D rfl rfl rfl fun D =>
    j_is (pc := 1) (m := 103) (a := [(0, x0)]) (rest := []) D rfl rfl rfl rfl (fun v2 h1 e1 D =>
      have T := fj_run_ok _ _ _ _ _ _ H.1 e1
      have H := shp_st H T
      j_na (pc := 4) (k := 8) (N := 65536) D rfl rfl rfl gn fun r4 h5 er eh5 S q D =>
      have gt_r4 := nw_gt H.1 er
      have kc_r4 := nw_cls H.1 er eh5
      have kl_r4 := nw_len H.1 er eh5
      have T := fj_hs_ok H.1 S
      have H := shp_st H T
      j_aret D rt_102) (fun q3 h1 e1 =>
      j_tx (hx_102 _))
/-! 103 java/lang/StringUTF16.newBytesLength(I)I -/
theorem cd_103 : fi_code 103 = prog_89_method_3_code := rfl
theorem hx_103 : ∀ pc, fi_hat 103 pc = none := fun pc => by unfold fi_hat; rw [show fi_hh 103 = [] from rfl]; rfl
theorem rt_103 : fi_ret 103 = some .int := rfl
theorem nl_103 : fi_nl 103 = 1 := rfl
theorem ow_103 : fi_ow 103 = 80 := rfl
theorem cl_103 : fj_cutT.getD 103 [] = [] := rfl
theorem m_103 (d : Nat) (x0 : Int) {h : fi_H} (H : Shp h) : fj_run (d + 1) 103 h [(0, x0)] =
  if x0 < 0 then
    none
  else
    if x0 < 1073741823 then
      some (.inl (some (0, sl_ x0 1)), h)
    else
      none := by
  rw [fj_run_eq d (by decide) h [(0, x0)] (Nat.le_of_ble_eq_true (by rw [nl_103]; rfl))]
  show gG (fj_run d) 103 0 [(0, (0, x0))] [] h = _
  exact
    have D : fk_D 103 [(0, none, .iload_n 0, 1, 0, 0, 0), (1, none, .ifCond .ge 11, 3, 12, 0, 0)] := fq_of2 cd_103 ow_103 cl_103 rfl (pc := 0) (by decide +kernel)
    j_ildn (pc := 0) D rfl rfl rfl fun D =>
    j_ifge (pc := 1) D rfl (fun q D =>
      j_dead (ins := .new 17) (len := 3) (by decide +kernel : fk_dec prog_89_method_3_code 4 (.new 17) 3 = true) cd_103 rfl rfl (fun L => ⟨fk_dN (by decide +kernel) L, fun q => by cases q⟩)) (fun q =>
      have D : fk_D 103 [(12, none, .iload_n 0, 1, 0, 0, 0), (13, none, .ldc 20, 2, 0, 1073741823, 0), (15, none, .if_icmp .lt 40, 3, 55, 0, 0)] := fq_of2 cd_103 ow_103 cl_103 rfl (pc := 12) (by decide +kernel)
      j_ildn (pc := 12) D rfl rfl rfl fun D =>
      j_ldc (pc := 13) D rfl fun D =>
      j_ilt (pc := 15) D rfl (fun q =>
        have D : fk_D 103 [(55, none, .iload_n 0, 1, 0, 0, 0), (56, none, .iconst 1, 1, 0, 1, 0), (57, none, .ishl, 1, 0, 0, 0), (58, none, .ireturn, 1, 0, 0, 0)] := fq_of2 cd_103 ow_103 cl_103 rfl (pc := 55) (by decide +kernel)
        j_ildn (pc := 55) D rfl rfl rfl fun D =>
        j_ic (pc := 56) D rfl fun D =>
        j_ishl (pc := 57) D rfl fun D =>
        j_iret D rt_103) (fun q D =>
        j_dead (ins := .new 21) (len := 3) (by decide +kernel : fk_dec prog_89_method_3_code 18 (.new 21) 3 = true) cd_103 rfl rfl (fun L => ⟨fk_dN (by decide +kernel) L, fun q => by cases q⟩)))
/-! 104 StatuteHouse$Pen.<init>()V -/
theorem cd_104 : fi_code 104 = prog_51_method_1_code := rfl
theorem hx_104 : ∀ pc, fi_hat 104 pc = none := fun pc => by unfold fi_hat; rw [show fi_hh 104 = [] from rfl]; rfl
theorem rt_104 : fi_ret 104 = none := rfl
theorem nl_104 : fi_nl 104 = 1 := rfl
theorem ow_104 : fi_ow 104 = 13 := rfl
theorem cl_104 : fj_cutT.getD 104 [] = [] := rfl
theorem m_104 (d : Nat) (x0 : Int) {h : fi_H} (H : Sh0 h) (hk : h 0 x0.toNat 0 = 113) : fj_run (d + 1) 104 h [(4, x0)] =
  cv_ (fj_run d 1009 h [(4, x0)])
    (fun h1 =>
    nw_ h1 8 12000 12000 fun r4 h5 =>
    if 302 < x0 then
    if h5 183 x0.toNat 0 = 0 then
    lt_ (fi_upd h5 183 x0.toNat 0 r4) fun h6 =>
    nw_ h6 101 3 0 fun r7 h8 =>
    cv_ (fj_run d 95 h8 [(4, r7)])
      (fun h9 =>
      if 302 < x0 then
      if h9 184 x0.toNat 0 = 0 then
      lt_ (fi_upd h9 184 x0.toNat 0 r7) fun h12 =>
      some (.inl none, h12)
      else none
      else none)
      (fun q11 h9 => tx_ q11 h9)
    else none
    else none)
    (fun q3 h1 => tx_ q3 h1) := by
  rw [fj_run_eq d (by decide) h [(4, x0)] (Nat.le_of_ble_eq_true (by rw [nl_104]; rfl))]
  show gG (fj_run d) 104 0 [(0, (4, x0))] [] h = _
  exact
    have D : fk_D 104 [(0, none, .aload_n 0, 1, 0, 0, 0), (1, none, .invokespecial 3, 3, 0, 1009, 0), (4, none, .aload_n 0, 1, 0, 0, 0), (5, none, .sipush 12000, 3, 0, 12000, 0), (8, none, .newarray .byte, 2, 0, 0, 0), (10, none, .putfield 9, 3, 183, 113, 112), (13, none, .aload_n 0, 1, 0, 0, 0), (14, none, .new 15, 3, 101, 3, 0), (17, none, .dup, 1, 0, 0, 0), (18, none, .invokespecial 17, 3, 0, 95, 0), (21, none, .putfield 18, 3, 184, 113, 112), (24, none, .return_, 1, 0, 0, 0)] := fq_of2 cd_104 ow_104 cl_104 rfl (pc := 0) (by decide +kernel)
    j_aldn (pc := 0) D rfl rfl rfl fun D =>
    j_spv (pc := 1) (m := 1009) (a := []) (rest := []) D rfl rfl rfl rfl (by rw [show h 0 x0.toNat 0 = 113 from hk]; decide) (nz_cls H.2.1 hk (by decide)) (fun h1 e1 D =>
      have T := fj_run_ok _ _ _ _ _ _ H.1 e1
      have hk := cls_st H.1 T.2 hk (by decide)
      have H := sh0_st H T
      j_aldn (pc := 4) D rfl rfl rfl fun D =>
      j_sp (pc := 5) D rfl fun D =>
      j_na (pc := 8) (k := 8) (N := 65536) D rfl rfl rfl (gy (by decide)) fun r4 h5 er eh5 S q D =>
      have gt_r4 := nw_gt H.1 er
      have kc_r4 := nw_cls H.1 er eh5
      have kl_r4 := nw_len H.1 er eh5
      have T := fj_hs_ok H.1 S
      have hk := cls_st H.1 T.2 hk (by decide)
      have H := sh0_st H T
      j_pfF (pc := 10) (a := x0.toNat) (ty := 12) D rfl rfl rfl hk ⟨rfl, rfl⟩ rfl gn (gy rfl) gn fun h6 eh6 S D =>
      have T := fj_hs_ok H.1 S
      have hk := cls_st H.1 T.2 hk (by decide)
      have H := sh0_st H T
      j_aldn (pc := 13) D rfl rfl rfl fun D =>
      j_new (pc := 14) D rfl fun r7 h8 er eh8 S D =>
      have gt_r7 := nw_gt H.1 er
      have kc_r7 := nw_cls H.1 er eh8
      have T := fj_hs_ok H.1 S
      have hk := cls_st H.1 T.2 hk (by decide)
      have H := sh0_st H T
      j_sh (pc := 17) D rfl rfl rfl fun D =>
      j_spv (pc := 18) (m := 95) (a := []) (rest := [(4, r7), (4, x0)]) D rfl rfl rfl rfl (by rw [show h8 0 r7.toNat 0 = 101 from kc_r7]; decide) (gt_nz gt_r7) (fun h9 e1 D =>
        have T := fj_run_ok _ _ _ _ _ _ H.1 e1
        have hk := cls_st H.1 T.2 hk (by decide)
        have kc_r7 := cls_st H.1 T.2 kc_r7 (by decide)
        have H := sh0_st H T
        j_pfF (pc := 21) (a := x0.toNat) (ty := 12) D rfl rfl rfl hk ⟨rfl, rfl⟩ rfl gn (gy rfl) gn fun h12 eh12 S D =>
        have T := fj_hs_ok H.1 S
        have hk := cls_st H.1 T.2 hk (by decide)
        have H := sh0_st H T
        j_vret D rt_104) (fun q11 h9 e1 =>
        j_tx (hx_104 _))) (fun q3 h1 e1 =>
      j_tx (hx_104 _))
/-! 105 StatuteHouse$Law.<init>()V -/
theorem cd_105 : fi_code 105 = prog_40_method_1_code := rfl
theorem hx_105 : ∀ pc, fi_hat 105 pc = none := fun pc => by unfold fi_hat; rw [show fi_hh 105 = [] from rfl]; rfl
theorem rt_105 : fi_ret 105 = none := rfl
theorem nl_105 : fi_nl 105 = 1 := rfl
theorem ow_105 : fi_ow 105 = 10 := rfl
theorem cl_105 : fj_cutT.getD 105 [] = [] := rfl
theorem m_105 (d : Nat) (x0 : Int) {h : fi_H} (H : Sh0 h) (hk : h 0 x0.toNat 0 = 110) : fj_run (d + 1) 105 h [(4, x0)] =
  cv_ (fj_run d 1009 h [(4, x0)])
    (fun h1 =>
    nw_ h1 26 200 200 fun r4 h5 =>
    if 302 < x0 then
    if h5 187 x0.toNat 0 = 0 then
    lt_ (fi_upd h5 187 x0.toNat 0 r4) fun h6 =>
    nw_ h6 5 200 200 fun r7 h8 =>
    if 302 < x0 then
    if h8 188 x0.toNat 0 = 0 then
    lt_ (fi_upd h8 188 x0.toNat 0 r7) fun h9 =>
    nw_ h9 9 200 200 fun r10 h11 =>
    if 302 < x0 then
    if h11 189 x0.toNat 0 = 0 then
    lt_ (fi_upd h11 189 x0.toNat 0 r10) fun h12 =>
    some (.inl none, h12)
    else none
    else none
    else none
    else none
    else none
    else none)
    (fun q3 h1 => tx_ q3 h1) := by
  rw [fj_run_eq d (by decide) h [(4, x0)] (Nat.le_of_ble_eq_true (by rw [nl_105]; rfl))]
  show gG (fj_run d) 105 0 [(0, (4, x0))] [] h = _
  exact
    have D : fk_D 105 [(0, none, .aload_n 0, 1, 0, 0, 0), (1, none, .invokespecial 3, 3, 0, 1009, 0), (4, none, .aload_n 0, 1, 0, 0, 0), (5, none, .sipush 200, 3, 0, 200, 0), (8, none, .anewarray 9, 3, 126, 26, 0), (11, none, .putfield 11, 3, 187, 110, 112), (14, none, .aload_n 0, 1, 0, 0, 0), (15, none, .sipush 200, 3, 0, 200, 0), (18, none, .newarray .char, 2, 0, 0, 0), (20, none, .putfield 17, 3, 188, 110, 112), (23, none, .aload_n 0, 1, 0, 0, 0), (24, none, .sipush 200, 3, 0, 200, 0), (27, none, .newarray .short, 2, 0, 0, 0), (29, none, .putfield 21, 3, 189, 110, 112), (32, none, .return_, 1, 0, 0, 0)] := fq_of2 cd_105 ow_105 cl_105 rfl (pc := 0) (by decide +kernel)
    j_aldn (pc := 0) D rfl rfl rfl fun D =>
    j_spv (pc := 1) (m := 1009) (a := []) (rest := []) D rfl rfl rfl rfl (by rw [show h 0 x0.toNat 0 = 110 from hk]; decide) (nz_cls H.2.1 hk (by decide)) (fun h1 e1 D =>
      have T := fj_run_ok _ _ _ _ _ _ H.1 e1
      have hk := cls_st H.1 T.2 hk (by decide)
      have H := sh0_st H T
      j_aldn (pc := 4) D rfl rfl rfl fun D =>
      j_sp (pc := 5) D rfl fun D =>
      j_ana (pc := 8) (N := 65536) D rfl rfl (gy (by decide)) fun r4 h5 er eh5 S q D =>
      have gt_r4 := nw_gt H.1 er
      have kc_r4 := nw_cls H.1 er eh5
      have kl_r4 := nw_len H.1 er eh5
      have T := fj_hs_ok H.1 S
      have hk := cls_st H.1 T.2 hk (by decide)
      have H := sh0_st H T
      j_pfF (pc := 11) (a := x0.toNat) (ty := 12) D rfl rfl rfl hk ⟨rfl, rfl⟩ rfl gn (gy rfl) gn fun h6 eh6 S D =>
      have T := fj_hs_ok H.1 S
      have hk := cls_st H.1 T.2 hk (by decide)
      have H := sh0_st H T
      j_aldn (pc := 14) D rfl rfl rfl fun D =>
      j_sp (pc := 15) D rfl fun D =>
      j_na (pc := 18) (k := 5) (N := 65536) D rfl rfl rfl (gy (by decide)) fun r7 h8 er eh8 S q D =>
      have gt_r7 := nw_gt H.1 er
      have kc_r7 := nw_cls H.1 er eh8
      have kl_r7 := nw_len H.1 er eh8
      have T := fj_hs_ok H.1 S
      have hk := cls_st H.1 T.2 hk (by decide)
      have H := sh0_st H T
      j_pfF (pc := 20) (a := x0.toNat) (ty := 12) D rfl rfl rfl hk ⟨rfl, rfl⟩ rfl gn (gy rfl) gn fun h9 eh9 S D =>
      have T := fj_hs_ok H.1 S
      have hk := cls_st H.1 T.2 hk (by decide)
      have H := sh0_st H T
      j_aldn (pc := 23) D rfl rfl rfl fun D =>
      j_sp (pc := 24) D rfl fun D =>
      j_na (pc := 27) (k := 9) (N := 65536) D rfl rfl rfl (gy (by decide)) fun r10 h11 er eh11 S q D =>
      have gt_r10 := nw_gt H.1 er
      have kc_r10 := nw_cls H.1 er eh11
      have kl_r10 := nw_len H.1 er eh11
      have T := fj_hs_ok H.1 S
      have hk := cls_st H.1 T.2 hk (by decide)
      have H := sh0_st H T
      j_pfF (pc := 29) (a := x0.toNat) (ty := 12) D rfl rfl rfl hk ⟨rfl, rfl⟩ rfl gn (gy rfl) gn fun h12 eh12 S D =>
      have T := fj_hs_ok H.1 S
      have hk := cls_st H.1 T.2 hk (by decide)
      have H := sh0_st H T
      j_vret D rt_105) (fun q3 h1 e1 =>
      j_tx (hx_105 _))
/-! 106 StatuteHouse$Sight.<init>(LStatuteHouse;)V -/
theorem cd_106 : fi_code 106 = prog_58_method_1_code := rfl
theorem hx_106 : ∀ pc, fi_hat 106 pc = none := fun pc => by unfold fi_hat; rw [show fi_hh 106 = [] from rfl]; rfl
theorem rt_106 : fi_ret 106 = none := rfl
theorem nl_106 : fi_nl 106 = 2 := rfl
theorem ow_106 : fi_ow 106 = 20 := rfl
theorem cl_106 : fj_cutT.getD 106 [] = [(66, [0])] := rfl
theorem cut_106_66 : fj_cut 106 66 = some [0] := by decide +kernel
noncomputable def c_106_66 (d : Nat) (x0 : Int) (h : fi_H) : fk_R := gG (fj_run d) 106 66 [(0, (4, x0))] [] h
theorem e_106_66 (d : Nat) (x0 : Int) {h : fi_H} (H : Sh0 h) (hk : h 0 x0.toNat 0 = 120) : c_106_66 d x0 h =
  nw_ h 9 500 500 fun r1 h2 =>
  if 302 < x0 then
  if h2 205 x0.toNat 0 = 0 then
  lt_ (fi_upd h2 205 x0.toNat 0 r1) fun h3 =>
  some (.inl none, h3)
  else none
  else none := by
  unfold c_106_66
  exact
    have D : fk_D 106 [(66, some [0], .aload_n 0, 1, 0, 0, 0), (67, none, .sipush 500, 3, 0, 500, 0), (70, none, .newarray .short, 2, 0, 0, 0), (72, none, .putfield 41, 3, 205, 120, 112), (75, none, .return_, 1, 0, 0, 0)] := fq_of2 cd_106 ow_106 cl_106 rfl (pc := 66) (by decide +kernel)
    j_aldn (pc := 66) D rfl rfl rfl fun D =>
    j_sp (pc := 67) D rfl fun D =>
    j_na (pc := 70) (k := 9) (N := 65536) D rfl rfl rfl (gy (by decide)) fun r1 h2 er eh2 S q D =>
    have gt_r1 := nw_gt H.1 er
    have kc_r1 := nw_cls H.1 er eh2
    have kl_r1 := nw_len H.1 er eh2
    have T := fj_hs_ok H.1 S
    have hk := cls_st H.1 T.2 hk (by decide)
    have H := sh0_st H T
    j_pfF (pc := 72) (a := x0.toNat) (ty := 12) D rfl rfl rfl hk ⟨rfl, rfl⟩ rfl gn (gy rfl) gn fun h3 eh3 S D =>
    have T := fj_hs_ok H.1 S
    have hk := cls_st H.1 T.2 hk (by decide)
    have H := sh0_st H T
    j_vret D rt_106
theorem m_106 (d : Nat) (x0 x1 : Int) {h : fi_H} (H : Sh0 h) (hk : h 0 x0.toNat 0 = 120) : fj_run (d + 1) 106 h [(4, x0), (4, x1)] =
  if 302 < x0 then
  if h 206 x0.toNat 0 = 0 then
  lt_ (fi_upd h 206 x0.toNat 0 x1) fun h1 =>
  cv_ (fj_run d 1009 h1 [(4, x0)])
    (fun h2 =>
    if 302 < x0 then
    lt_ (fi_upd h2 197 x0.toNat 0 (-1)) fun h5 =>
    nw_ h5 26 200 200 fun r6 h7 =>
    if 302 < x0 then
    if h7 199 x0.toNat 0 = 0 then
    lt_ (fi_upd h7 199 x0.toNat 0 r6) fun h8 =>
    nw_ h8 9 40 40 fun r9 h10 =>
    if 302 < x0 then
    if h10 200 x0.toNat 0 = 0 then
    lt_ (fi_upd h10 200 x0.toNat 0 r9) fun h11 =>
    nw_ h11 9 40 40 fun r12 h13 =>
    if 302 < x0 then
    if h13 201 x0.toNat 0 = 0 then
    lt_ (fi_upd h13 201 x0.toNat 0 r12) fun h14 =>
    nw_ h14 9 40 40 fun r15 h16 =>
    if 302 < x0 then
    if h16 202 x0.toNat 0 = 0 then
    lt_ (fi_upd h16 202 x0.toNat 0 r15) fun h17 =>
    nw_ h17 9 500 500 fun r18 h19 =>
    if 302 < x0 then
    if h19 203 x0.toNat 0 = 0 then
    lt_ (fi_upd h19 203 x0.toNat 0 r18) fun h20 =>
    nw_ h20 9 500 500 fun r21 h22 =>
    if 302 < x0 then
    if h22 204 x0.toNat 0 = 0 then
    lt_ (fi_upd h22 204 x0.toNat 0 r21) fun h23 =>
    c_106_66 d x0 h23
    else none
    else none
    else none
    else none
    else none
    else none
    else none
    else none
    else none
    else none
    else none
    else none
    else none)
    (fun q4 h2 => tx_ q4 h2)
  else none
  else none := by
  rw [fj_run_eq d (by decide) h [(4, x0), (4, x1)] (Nat.le_of_ble_eq_true (by rw [nl_106]; rfl))]
  show gG (fj_run d) 106 0 [(0, (4, x0)), (1, (4, x1))] [] h = _
  exact
    have D : fk_D 106 [(0, none, .aload_n 0, 1, 0, 0, 0), (1, none, .aload_n 1, 1, 0, 0, 0), (2, none, .putfield 3, 3, 206, 120, 112), (5, none, .aload_n 0, 1, 0, 0, 0), (6, none, .invokespecial 9, 3, 0, 1009, 0), (9, none, .aload_n 0, 1, 0, 0, 0), (10, none, .iconst (-1), 1, 0, (-1), 0), (11, none, .putfield 15, 3, 197, 120, 10), (14, none, .aload_n 0, 1, 0, 0, 0), (15, none, .sipush 200, 3, 0, 200, 0), (18, none, .anewarray 19, 3, 126, 26, 0), (21, none, .putfield 21, 3, 199, 120, 112), (24, none, .aload_n 0, 1, 0, 0, 0), (25, none, .bipush 40, 2, 0, 40, 0), (27, none, .newarray .short, 2, 0, 0, 0), (29, none, .putfield 25, 3, 200, 120, 112), (32, none, .aload_n 0, 1, 0, 0, 0), (33, none, .bipush 40, 2, 0, 40, 0), (35, none, .newarray .short, 2, 0, 0, 0), (37, none, .putfield 29, 3, 201, 120, 112)] := fq_of2 cd_106 ow_106 cl_106 rfl (pc := 0) (by decide +kernel)
    j_aldn (pc := 0) D rfl rfl rfl fun D =>
    j_aldn (pc := 1) D rfl rfl rfl fun D =>
    j_pfF (pc := 2) (a := x0.toNat) (ty := 12) D rfl rfl rfl hk ⟨rfl, rfl⟩ rfl gn (gy rfl) gn fun h1 eh1 S D =>
    have T := fj_hs_ok H.1 S
    have hk := cls_st H.1 T.2 hk (by decide)
    have H := sh0_st H T
    j_aldn (pc := 5) D rfl rfl rfl fun D =>
    j_spv (pc := 6) (m := 1009) (a := []) (rest := []) D rfl rfl rfl rfl (by rw [show h1 0 x0.toNat 0 = 120 from hk]; decide) (nz_cls H.2.1 hk (by decide)) (fun h2 e1 D =>
      have T := fj_run_ok _ _ _ _ _ _ H.1 e1
      have hk := cls_st H.1 T.2 hk (by decide)
      have H := sh0_st H T
      j_aldn (pc := 9) D rfl rfl rfl fun D =>
      j_ic (pc := 10) D rfl fun D =>
      j_pf (pc := 11) (a := x0.toNat) D rfl rfl rfl hk rfl rfl gn (gy rfl) fun h5 eh5 S D =>
      have T := fj_hs_ok H.1 S
      have hk := cls_st H.1 T.2 hk (by decide)
      have H := sh0_st H T
      j_aldn (pc := 14) D rfl rfl rfl fun D =>
      j_sp (pc := 15) D rfl fun D =>
      j_ana (pc := 18) (N := 65536) D rfl rfl (gy (by decide)) fun r6 h7 er eh7 S q D =>
      have gt_r6 := nw_gt H.1 er
      have kc_r6 := nw_cls H.1 er eh7
      have kl_r6 := nw_len H.1 er eh7
      have T := fj_hs_ok H.1 S
      have hk := cls_st H.1 T.2 hk (by decide)
      have H := sh0_st H T
      j_pfF (pc := 21) (a := x0.toNat) (ty := 12) D rfl rfl rfl hk ⟨rfl, rfl⟩ rfl gn (gy rfl) gn fun h8 eh8 S D =>
      have T := fj_hs_ok H.1 S
      have hk := cls_st H.1 T.2 hk (by decide)
      have H := sh0_st H T
      j_aldn (pc := 24) D rfl rfl rfl fun D =>
      j_bp (pc := 25) D rfl fun D =>
      j_na (pc := 27) (k := 9) (N := 65536) D rfl rfl rfl (gy (by decide)) fun r9 h10 er eh10 S q D =>
      have gt_r9 := nw_gt H.1 er
      have kc_r9 := nw_cls H.1 er eh10
      have kl_r9 := nw_len H.1 er eh10
      have T := fj_hs_ok H.1 S
      have hk := cls_st H.1 T.2 hk (by decide)
      have H := sh0_st H T
      j_pfF (pc := 29) (a := x0.toNat) (ty := 12) D rfl rfl rfl hk ⟨rfl, rfl⟩ rfl gn (gy rfl) gn fun h11 eh11 S D =>
      have T := fj_hs_ok H.1 S
      have hk := cls_st H.1 T.2 hk (by decide)
      have H := sh0_st H T
      j_aldn (pc := 32) D rfl rfl rfl fun D =>
      j_bp (pc := 33) D rfl fun D =>
      j_na (pc := 35) (k := 9) (N := 65536) D rfl rfl rfl (gy (by decide)) fun r12 h13 er eh13 S q D =>
      have gt_r12 := nw_gt H.1 er
      have kc_r12 := nw_cls H.1 er eh13
      have kl_r12 := nw_len H.1 er eh13
      have T := fj_hs_ok H.1 S
      have hk := cls_st H.1 T.2 hk (by decide)
      have H := sh0_st H T
      j_pfF (pc := 37) (a := x0.toNat) (ty := 12) D rfl rfl rfl hk ⟨rfl, rfl⟩ rfl gn (gy rfl) gn fun h14 eh14 S D =>
      have T := fj_hs_ok H.1 S
      have hk := cls_st H.1 T.2 hk (by decide)
      have H := sh0_st H T
      have D : fk_D 106 [(40, none, .aload_n 0, 1, 0, 0, 0), (41, none, .bipush 40, 2, 0, 40, 0), (43, none, .newarray .short, 2, 0, 0, 0), (45, none, .putfield 32, 3, 202, 120, 112), (48, none, .aload_n 0, 1, 0, 0, 0), (49, none, .sipush 500, 3, 0, 500, 0), (52, none, .newarray .short, 2, 0, 0, 0), (54, none, .putfield 35, 3, 203, 120, 112), (57, none, .aload_n 0, 1, 0, 0, 0), (58, none, .sipush 500, 3, 0, 500, 0), (61, none, .newarray .short, 2, 0, 0, 0), (63, none, .putfield 38, 3, 204, 120, 112)] := fq_of2 cd_106 ow_106 cl_106 rfl (pc := 40) (by decide +kernel)
      j_aldn (pc := 40) D rfl rfl rfl fun D =>
      j_bp (pc := 41) D rfl fun D =>
      j_na (pc := 43) (k := 9) (N := 65536) D rfl rfl rfl (gy (by decide)) fun r15 h16 er eh16 S q D =>
      have gt_r15 := nw_gt H.1 er
      have kc_r15 := nw_cls H.1 er eh16
      have kl_r15 := nw_len H.1 er eh16
      have T := fj_hs_ok H.1 S
      have hk := cls_st H.1 T.2 hk (by decide)
      have H := sh0_st H T
      j_pfF (pc := 45) (a := x0.toNat) (ty := 12) D rfl rfl rfl hk ⟨rfl, rfl⟩ rfl gn (gy rfl) gn fun h17 eh17 S D =>
      have T := fj_hs_ok H.1 S
      have hk := cls_st H.1 T.2 hk (by decide)
      have H := sh0_st H T
      j_aldn (pc := 48) D rfl rfl rfl fun D =>
      j_sp (pc := 49) D rfl fun D =>
      j_na (pc := 52) (k := 9) (N := 65536) D rfl rfl rfl (gy (by decide)) fun r18 h19 er eh19 S q D =>
      have gt_r18 := nw_gt H.1 er
      have kc_r18 := nw_cls H.1 er eh19
      have kl_r18 := nw_len H.1 er eh19
      have T := fj_hs_ok H.1 S
      have hk := cls_st H.1 T.2 hk (by decide)
      have H := sh0_st H T
      j_pfF (pc := 54) (a := x0.toNat) (ty := 12) D rfl rfl rfl hk ⟨rfl, rfl⟩ rfl gn (gy rfl) gn fun h20 eh20 S D =>
      have T := fj_hs_ok H.1 S
      have hk := cls_st H.1 T.2 hk (by decide)
      have H := sh0_st H T
      j_aldn (pc := 57) D rfl rfl rfl fun D =>
      j_sp (pc := 58) D rfl fun D =>
      j_na (pc := 61) (k := 9) (N := 65536) D rfl rfl rfl (gy (by decide)) fun r21 h22 er eh22 S q D =>
      have gt_r21 := nw_gt H.1 er
      have kc_r21 := nw_cls H.1 er eh22
      have kl_r21 := nw_len H.1 er eh22
      have T := fj_hs_ok H.1 S
      have hk := cls_st H.1 T.2 hk (by decide)
      have H := sh0_st H T
      j_pfF (pc := 63) (a := x0.toNat) (ty := 12) D rfl rfl rfl hk ⟨rfl, rfl⟩ rfl gn (gy rfl) gn fun h23 eh23 S D =>
      have T := fj_hs_ok H.1 S
      have hk := cls_st H.1 T.2 hk (by decide)
      have H := sh0_st H T
      fk_jump cut_106_66 rfl rfl) (fun q4 h2 e1 =>
      j_tx (hx_106 _))
/-! 107 StatuteHouse.feed(IIIII)I -/
theorem cd_107 : fi_code 107 = prog_1_method_56_code := rfl
theorem hx_107 : ∀ pc, fi_hat 107 pc = none := fun pc => by unfold fi_hat; rw [show fi_hh 107 = [] from rfl]; rfl
theorem rt_107 : fi_ret 107 = some .int := rfl
theorem nl_107 : fi_nl 107 = 6 := rfl
theorem ow_107 : fi_ow 107 = 0 := rfl
theorem cl_107 : fj_cutT.getD 107 [] = [] := rfl
theorem m_107 (d : Nat) (x1 x2 x3 x4 x5 : Int) {h : fi_H} (H : Shp h) : fj_run (d + 1) 107 h [(4, 303), (0, x1), (0, x2), (0, x3), (0, x4), (0, x5)] =
  if 4000 < wI ((h 266 303 0) + 20) then
    some (.inl (some (0, (-4))), h)
  else
    cv_ (fj_run d 108 h [(4, 303), (0, x1)])
      (fun h1 =>
      cv_ (fj_run d 108 h1 [(4, 303), (0, x2)])
        (fun h4 =>
        cv_ (fj_run d 108 h4 [(4, 303), (0, x3)])
          (fun h7 =>
          cv_ (fj_run d 108 h7 [(4, 303), (0, x4)])
            (fun h10 =>
            cv_ (fj_run d 108 h10 [(4, 303), (0, x5)])
              (fun h13 =>
              some (.inl (some (0, h13 266 303 0)), h13))
              (fun q15 h13 => tx_ q15 h13))
            (fun q12 h10 => tx_ q12 h10))
          (fun q9 h7 => tx_ q9 h7))
        (fun q6 h4 => tx_ q6 h4))
      (fun q3 h1 => tx_ q3 h1) := by
  rw [fj_run_eq d (by decide) h [(4, 303), (0, x1), (0, x2), (0, x3), (0, x4), (0, x5)] (Nat.le_of_ble_eq_true (by rw [nl_107]; rfl))]
  show gG (fj_run d) 107 0 [(0, (4, 303)), (1, (0, x1)), (2, (0, x2)), (3, (0, x3)), (4, (0, x4)), (5, (0, x5))] [] h = _
  exact
    have D : fk_D 107 [(0, none, .aload_n 0, 1, 0, 0, 0), (1, none, .getfield 784, 3, 266, 100, 10), (4, none, .bipush 20, 2, 0, 20, 0), (6, none, .iadd, 1, 0, 0, 0), (7, none, .sipush 4000, 3, 0, 4000, 0), (10, none, .if_icmp .le 6, 3, 16, 0, 0), (13, none, .bipush (-4), 2, 0, (-4), 0), (15, none, .ireturn, 1, 0, 0, 0)] := fq_of2 cd_107 ow_107 cl_107 rfl (pc := 0) (by decide +kernel)
    j_aldn (pc := 0) D rfl rfl rfl fun D =>
    j_gf (pc := 1) (a := 303) D rfl rfl (by decide) rfl (s0_303 H) rfl fun D =>
    j_bp (pc := 4) D rfl fun D =>
    j_iadd (pc := 6) D rfl fun D =>
    j_sp (pc := 7) D rfl fun D =>
    j_ile (pc := 10) D rfl (fun q D =>
      j_bp (pc := 13) D rfl fun D =>
      j_iret D rt_107) (fun q =>
      have D : fk_D 107 [(16, none, .aload_n 0, 1, 0, 0, 0), (17, none, .iload_n 1, 1, 0, 0, 0), (18, none, .invokevirtual 787, 3, 1, 158, 0), (21, none, .aload_n 0, 1, 0, 0, 0), (22, none, .iload_n 2, 1, 0, 0, 0), (23, none, .invokevirtual 787, 3, 1, 158, 0), (26, none, .aload_n 0, 1, 0, 0, 0), (27, none, .iload_n 3, 1, 0, 0, 0), (28, none, .invokevirtual 787, 3, 1, 158, 0), (31, none, .aload_n 0, 1, 0, 0, 0), (32, none, .iload 4, 2, 0, 0, 0), (34, none, .invokevirtual 787, 3, 1, 158, 0), (37, none, .aload_n 0, 1, 0, 0, 0), (38, none, .iload 5, 2, 0, 0, 0), (40, none, .invokevirtual 787, 3, 1, 158, 0), (43, none, .aload_n 0, 1, 0, 0, 0), (44, none, .getfield 784, 3, 266, 100, 10), (47, none, .ireturn, 1, 0, 0, 0)] := fq_of2 cd_107 ow_107 cl_107 rfl (pc := 16) (by decide +kernel)
      j_aldn (pc := 16) D rfl rfl rfl fun D =>
      j_ildn (pc := 17) D rfl rfl rfl fun D =>
      j_ivv (pc := 18) (m := 108) (dd := 158) (a := [(0, x1)]) (rest := []) D rfl rfl rfl rfl rfl (by decide) (s0_303 H) (by decide +kernel) (fun h1 e1 D =>
        have T := fj_run_ok _ _ _ _ _ _ H.1 e1
        have H := shp_st H T
        j_aldn (pc := 21) D rfl rfl rfl fun D =>
        j_ildn (pc := 22) D rfl rfl rfl fun D =>
        j_ivv (pc := 23) (m := 108) (dd := 158) (a := [(0, x2)]) (rest := []) D rfl rfl rfl rfl rfl (by decide) (s0_303 H) (by decide +kernel) (fun h4 e1 D =>
          have T := fj_run_ok _ _ _ _ _ _ H.1 e1
          have H := shp_st H T
          j_aldn (pc := 26) D rfl rfl rfl fun D =>
          j_ildn (pc := 27) D rfl rfl rfl fun D =>
          j_ivv (pc := 28) (m := 108) (dd := 158) (a := [(0, x3)]) (rest := []) D rfl rfl rfl rfl rfl (by decide) (s0_303 H) (by decide +kernel) (fun h7 e1 D =>
            have T := fj_run_ok _ _ _ _ _ _ H.1 e1
            have H := shp_st H T
            j_aldn (pc := 31) D rfl rfl rfl fun D =>
            j_ild (pc := 32) D rfl rfl rfl fun D =>
            j_ivv (pc := 34) (m := 108) (dd := 158) (a := [(0, x4)]) (rest := []) D rfl rfl rfl rfl rfl (by decide) (s0_303 H) (by decide +kernel) (fun h10 e1 D =>
              have T := fj_run_ok _ _ _ _ _ _ H.1 e1
              have H := shp_st H T
              j_aldn (pc := 37) D rfl rfl rfl fun D =>
              j_ild (pc := 38) D rfl rfl rfl fun D =>
              j_ivv (pc := 40) (m := 108) (dd := 158) (a := [(0, x5)]) (rest := []) D rfl rfl rfl rfl rfl (by decide) (s0_303 H) (by decide +kernel) (fun h13 e1 D =>
                have T := fj_run_ok _ _ _ _ _ _ H.1 e1
                have H := shp_st H T
                j_aldn (pc := 43) D rfl rfl rfl fun D =>
                j_gf (pc := 44) (a := 303) D rfl rfl (by decide) rfl (s0_303 H) rfl fun D =>
                j_iret D rt_107) (fun q15 h13 e1 =>
                j_tx (hx_107 _))) (fun q12 h10 e1 =>
              j_tx (hx_107 _))) (fun q9 h7 e1 =>
            j_tx (hx_107 _))) (fun q6 h4 e1 =>
          j_tx (hx_107 _))) (fun q3 h1 e1 =>
        j_tx (hx_107 _)))
/-! 108 StatuteHouse.lay(I)V -/
theorem cd_108 : fi_code 108 = prog_1_method_57_code := rfl
theorem hx_108 : ∀ pc, fi_hat 108 pc = none := fun pc => by unfold fi_hat; rw [show fi_hh 108 = [] from rfl]; rfl
theorem rt_108 : fi_ret 108 = none := rfl
theorem nl_108 : fi_nl 108 = 3 := rfl
theorem ow_108 : fi_ow 108 = 0 := rfl
theorem cl_108 : fj_cutT.getD 108 [] = [(3, [0, 1, 2])] := rfl
theorem cut_108_3 : fj_cut 108 3 = some [0, 1, 2] := by decide +kernel
noncomputable def c_108_3 (d : Nat) (x1 x2 : Int) (h : fi_H) : fk_R := gG (fj_run d) 108 3 [(0, (4, 303)), (1, (0, x1)), (2, (0, x2))] [] h
theorem e_108_3 (d : Nat) (x1 x2 : Int) {h : fi_H} (H : Shp h) : c_108_3 d x1 x2 h =
  if x2 < 0 then
    some (.inl none, h)
  else
    if 0 ≤ h 266 303 0 ∧ h 266 303 0 < 4000 then
    lt_ (fi_upd h 8 376 (h 266 303 0).toNat (wB (sr_ x1 x2))) fun h1 =>
    lt_ (fi_upd h1 266 303 0 (wI ((h1 266 303 0) + 1))) fun h3 =>
    c_108_3 d x1 (wI (x2 + (-8))) h3
    else none := by
  unfold c_108_3
  exact
    have D : fk_D 108 [(3, some [0, 1, 2], .iload_n 2, 1, 0, 0, 0), (4, none, .ifCond .lt 32, 3, 36, 0, 0), (7, none, .aload_n 0, 1, 0, 0, 0), (8, none, .getfield 674, 3, 265, 100, 12), (11, none, .aload_n 0, 1, 0, 0, 0), (12, none, .getfield 784, 3, 266, 100, 10), (15, none, .iload_n 1, 1, 0, 0, 0), (16, none, .iload_n 2, 1, 0, 0, 0), (17, none, .ishr, 1, 0, 0, 0), (18, none, .i2b, 1, 0, 0, 0), (19, none, .bastore, 1, 0, 0, 0), (20, none, .aload_n 0, 1, 0, 0, 0), (21, none, .dup, 1, 0, 0, 0), (22, none, .getfield 784, 3, 266, 100, 10), (25, none, .iconst 1, 1, 0, 1, 0), (26, none, .iadd, 1, 0, 0, 0), (27, none, .putfield 784, 3, 266, 100, 10), (30, none, .iinc 2 (-8), 3, 0, (-8), 0), (33, none, .goto (-30), 3, 3, 0, 0)] := fq_of2 cd_108 ow_108 cl_108 rfl (pc := 3) (by decide +kernel)
    j_ildn (pc := 3) D rfl rfl rfl fun D =>
    j_iflt (pc := 4) D rfl (fun q =>
      have D : fk_D 108 [(36, none, .return_, 1, 0, 0, 0)] := fq_of2 cd_108 ow_108 cl_108 rfl (pc := 36) (by decide +kernel)
      j_vret D rt_108) (fun q D =>
      j_aldn (pc := 7) D rfl rfl rfl fun D =>
      j_gfc (pc := 8) (a := 303) D rfl rfl (by decide) rfl (s0_303 H) rfl (sf_265_303 H) fun D =>
      j_aldn (pc := 11) D rfl rfl rfl fun D =>
      j_gf (pc := 12) (a := 303) D rfl rfl (by decide) rfl (s0_303 H) rfl fun D =>
      j_ildn (pc := 15) D rfl rfl rfl fun D =>
      j_ildn (pc := 16) D rfl rfl rfl fun D =>
      j_ishr (pc := 17) D rfl fun D =>
      j_i2b (pc := 18) D rfl fun D =>
      j_as (pc := 19) (a := 376) (e := 8) D rfl ⟨rfl, rfl⟩ rfl (by decide) (s0_376 H) (s1_376 H) ⟨rfl, rfl, rfl⟩ rfl gn (gy (fk_rgB _)) fun h1 eh1 S qb2 D =>
      have T := fj_hs_ok H.1 S
      have H := shp_st H T
      j_aldn (pc := 20) D rfl rfl rfl fun D =>
      j_sh (pc := 21) D rfl rfl rfl fun D =>
      j_gf (pc := 22) (a := 303) D rfl rfl (by decide) rfl (s0_303 H) rfl fun D =>
      j_ic (pc := 25) D rfl fun D =>
      j_iadd (pc := 26) D rfl fun D =>
      j_pf (pc := 27) (a := 303) D rfl rfl rfl (s0_303 H) rfl rfl (gy (by decide)) (gy rfl) fun h3 eh3 S D =>
      have T := fj_hs_ok H.1 S
      have H := shp_st H T
      j_inc (pc := 30) (L' := [(2, (0, wI (x2 + (-8)))), (0, (4, 303)), (1, (0, x1))]) D rfl rfl rfl (by decide +kernel) rfl fun D =>
      j_goto (pc := 33) D rfl <|
      fk_jump cut_108_3 rfl rfl)
theorem m_108 (d : Nat) (x1 : Int) {h : fi_H} (H : Shp h) : fj_run (d + 1) 108 h [(4, 303), (0, x1)] =
  c_108_3 d x1 24 h := by
  rw [fj_run_eq d (by decide) h [(4, 303), (0, x1)] (Nat.le_of_ble_eq_true (by rw [nl_108]; rfl))]
  show gG (fj_run d) 108 0 [(0, (4, 303)), (1, (0, x1))] [] h = _
  exact
    have D : fk_D 108 [(0, none, .bipush 24, 2, 0, 24, 0), (2, none, .istore_n 2, 1, 0, 0, 0)] := fq_of2 cd_108 ow_108 cl_108 rfl (pc := 0) (by decide +kernel)
    j_bp (pc := 0) D rfl fun D =>
    j_istn (pc := 2) (L' := [(2, (0, 24)), (0, (4, 303)), (1, (0, x1))]) D rfl nl_108 rfl rfl fun D =>
    fk_jump cut_108_3 rfl rfl
/-! 109 StatuteHouse.end(I)I -/
theorem cd_109 : fi_code 109 = prog_1_method_58_code := rfl
theorem hx_109 : ∀ pc, fi_hat 109 pc = none := fun pc => by unfold fi_hat; rw [show fi_hh 109 = [] from rfl]; rfl
theorem rt_109 : fi_ret 109 = some .int := rfl
theorem nl_109 : fi_nl 109 = 2 := rfl
theorem ow_109 : fi_ow 109 = 0 := rfl
theorem cl_109 : fj_cutT.getD 109 [] = [] := rfl
theorem m_109 (d : Nat) (x1 : Int) {h : fi_H} (H : Shp h) : fj_run (d + 1) 109 h [(4, 303), (0, x1)] =
  ca_ (fj_run d 3 h [(1, wI x1), (1, 0), (1, wI (h 266 303 0))]) 0
    (fun v2 h1 =>
    if v2 = 0 then
      some (.inl (some (0, (-1))), h1)
    else
      lt_ (fi_upd h1 266 303 0 x1) fun h4 =>
      some (.inl (some (0, x1)), h4))
    (fun q3 h1 => tx_ q3 h1) := by
  rw [fj_run_eq d (by decide) h [(4, 303), (0, x1)] (Nat.le_of_ble_eq_true (by rw [nl_109]; rfl))]
  show gG (fj_run d) 109 0 [(0, (4, 303)), (1, (0, x1))] [] h = _
  exact
    have D : fk_D 109 [(0, none, .iload_n 1, 1, 0, 0, 0), (1, none, .i2l, 1, 0, 0, 0), (2, none, .lconst 0, 1, 0, 0, 0), (3, none, .aload_n 0, 1, 0, 0, 0), (4, none, .getfield 784, 3, 266, 100, 10), (7, none, .i2l, 1, 0, 0, 0), (8, none, .invokestatic 46, 3, 3, 3, 1), (11, none, .ifCond .ne 5, 3, 16, 0, 0), (14, none, .iconst (-1), 1, 0, (-1), 0), (15, none, .ireturn, 1, 0, 0, 0)] := fq_of2 cd_109 ow_109 cl_109 rfl (pc := 0) (by decide +kernel)
    j_ildn (pc := 0) D rfl rfl rfl fun D =>
    j_i2l (pc := 1) D rfl fun D =>
    j_c0 (pc := 2) (v := (1, 0)) D rfl rfl (by decide +kernel) fun D =>
    j_aldn (pc := 3) D rfl rfl rfl fun D =>
    j_gf (pc := 4) (a := 303) D rfl rfl (by decide) rfl (s0_303 H) rfl fun D =>
    j_i2l (pc := 7) D rfl fun D =>
    j_is (pc := 8) (m := 3) (a := [(1, wI x1), (1, 0), (1, wI (h 266 303 0))]) (rest := []) D rfl rfl rfl rfl (fun v2 h1 e1 D =>
      have T := fj_run_ok _ _ _ _ _ _ H.1 e1
      have H := shp_st H T
      j_ifne (pc := 11) D rfl (fun q D =>
        j_ic (pc := 14) D rfl fun D =>
        j_iret D rt_109) (fun q =>
        have D : fk_D 109 [(16, none, .aload_n 0, 1, 0, 0, 0), (17, none, .iload_n 1, 1, 0, 0, 0), (18, none, .putfield 784, 3, 266, 100, 10), (21, none, .iload_n 1, 1, 0, 0, 0), (22, none, .ireturn, 1, 0, 0, 0)] := fq_of2 cd_109 ow_109 cl_109 rfl (pc := 16) (by decide +kernel)
        j_aldn (pc := 16) D rfl rfl rfl fun D =>
        j_ildn (pc := 17) D rfl rfl rfl fun D =>
        j_pf (pc := 18) (a := 303) D rfl rfl rfl (s0_303 H) rfl rfl (gy (by decide)) (gy rfl) fun h4 eh4 S D =>
        have T := fj_hs_ok H.1 S
        have H := shp_st H T
        j_ildn (pc := 21) D rfl rfl rfl fun D =>
        j_iret D rt_109)) (fun q3 h1 e1 =>
      j_tx (hx_109 _))
/-! 110 StatuteHouse.names()I -/
theorem cd_110 : fi_code 110 = prog_1_method_59_code := rfl
theorem rt_110 : fi_ret 110 = some .int := rfl
theorem nl_110 : fi_nl 110 = 2 := rfl
theorem ow_110 : fi_ow 110 = 0 := rfl
theorem cl_110 : fj_cutT.getD 110 [] = [(17, [0])] := rfl
theorem cut_110_17 : fj_cut 110 17 = some [0] := by decide +kernel
noncomputable def c_110_17 (d : Nat) (s0 : Int) (h : fi_H) : fk_R := gG (fj_run d) 110 17 [(0, (4, 303))] [(4, s0)] h
theorem e_110_17 (d : Nat) (s0 : Int) {h : fi_H} (H : Shp h) : c_110_17 d s0 h =
  if h 0 s0.toNat 0 = 128 then
  cv_ (fj_run d 196 h [(4, 303), (0, h 107 s0.toNat 0), (0, h 108 s0.toNat 0)])
    (fun h2 =>
    some (.inl (some (0, (-1))), h2))
    (fun q4 h2 => tx_ q4 h2)
  else none := by
  unfold c_110_17
  exact
    have D : fk_D 110 [(17, some [0], .astore_n 1, 1, 0, 0, 0), (18, none, .aload_n 0, 1, 0, 0, 0), (19, none, .aload_n 1, 1, 0, 0, 0), (20, none, .getfield 7, 3, 107, (-128), 10), (23, none, .aload_n 1, 1, 0, 0, 0), (24, none, .getfield 13, 3, 108, 128, 10), (27, none, .invokevirtual 793, 3, 2, 161, 0), (30, none, .iconst (-1), 1, 0, (-1), 0), (31, none, .ireturn, 1, 0, 0, 0)] := fq_of2 cd_110 ow_110 cl_110 rfl (pc := 17) (by decide +kernel)
    j_astn (pc := 17) (L' := [(1, (4, s0)), (0, (4, 303))]) D rfl nl_110 rfl rfl fun D =>
    j_aldn (pc := 18) D rfl rfl rfl fun D =>
    j_aldn (pc := 19) D rfl rfl rfl fun D =>
    j_gfo (pc := 20) H.2.1 D rfl rfl rfl rfl fun kc1 D =>
    j_aldn (pc := 23) D rfl rfl rfl fun D =>
    j_gf (pc := 24) (a := s0.toNat) D rfl rfl (nz_cls H.2.1 kc1 (by decide)) rfl kc1 rfl fun D =>
    j_ivv (pc := 27) (m := 196) (dd := 161) (a := [(0, h 107 s0.toNat 0), (0, h 108 s0.toNat 0)]) (rest := []) D rfl rfl rfl rfl rfl (by decide) (s0_303 H) (by decide +kernel) (fun h2 e1 D =>
      have T := fj_run_ok _ _ _ _ _ _ H.1 e1
      have kc1 := cls_st H.1 T.2 kc1 (by decide)
      have H := shp_st H T
      j_ic (pc := 30) D rfl fun D =>
      j_iret D rt_110) (fun q4 h2 e1 =>
      j_tx (by decide +kernel))
theorem m_110 (d : Nat) {h : fi_H} (H : Shp h) : fj_run (d + 1) 110 h [(4, 303)] =
  cv_ (fj_run d 111 h [(4, 377)])
    (fun h1 =>
    cv_ (fj_run d 160 h1 [(4, 377)])
      (fun h4 =>
      cv_ (fj_run d 196 h4 [(4, 303), (0, 0), (0, (-1))])
        (fun h7 =>
        lt_ (fi_upd h7 215 303 0 (wI ((h7 215 303 0) + (h7 160 377 0)))) fun h10 =>
        some (.inl (some (0, h10 160 377 0)), h10))
        (fun q9 h7 => tx_ q9 h7))
      (fun q6 h4 => tc_ 128 q6 h4 (c_110_17 d (q6 : Int) h4)))
    (fun q3 h1 => tx_ q3 h1) := by
  rw [fj_run_eq d (by decide) h [(4, 303)] (Nat.le_of_ble_eq_true (by rw [nl_110]; rfl))]
  show gG (fj_run d) 110 0 [(0, (4, 303))] [] h = _
  exact
    have D : fk_D 110 [(0, none, .aload_n 0, 1, 0, 0, 0), (1, none, .getfield 680, 3, 269, 100, 12), (4, none, .invokevirtual 790, 3, 0, 159, 0), (7, none, .aload_n 0, 1, 0, 0, 0), (8, none, .getfield 680, 3, 269, 100, 12), (11, none, .invokevirtual 791, 3, 0, 160, 0), (14, none, .goto 18, 3, 32, 0, 0)] := fq_of2 cd_110 ow_110 cl_110 rfl (pc := 0) (by decide +kernel)
    j_aldn (pc := 0) D rfl rfl rfl fun D =>
    j_gfc (pc := 1) (a := 303) D rfl rfl (by decide) rfl (s0_303 H) rfl (sf_269_303 H) fun D =>
    j_ivv (pc := 4) (m := 111) (dd := 159) (a := []) (rest := []) D rfl rfl rfl rfl rfl (by decide) (s0_377 H) (by decide +kernel) (fun h1 e1 D =>
      have T := fj_run_ok _ _ _ _ _ _ H.1 e1
      have H := shp_st H T
      j_aldn (pc := 7) D rfl rfl rfl fun D =>
      j_gfc (pc := 8) (a := 303) D rfl rfl (by decide) rfl (s0_303 H) rfl (sf_269_303 H) fun D =>
      j_ivv (pc := 11) (m := 160) (dd := 160) (a := []) (rest := []) D rfl rfl rfl rfl rfl (by decide) (s0_377 H) (by decide +kernel) (fun h4 e1 D =>
        have T := fj_run_ok _ _ _ _ _ _ H.1 e1
        have H := shp_st H T
        j_goto (pc := 14) D rfl <|
        have D : fk_D 110 [(32, none, .aload_n 0, 1, 0, 0, 0), (33, none, .iconst 0, 1, 0, 0, 0), (34, none, .iconst (-1), 1, 0, (-1), 0), (35, none, .invokevirtual 793, 3, 2, 161, 0), (38, none, .aload_n 0, 1, 0, 0, 0), (39, none, .dup, 1, 0, 0, 0), (40, none, .getfield 252, 3, 215, 100, 10), (43, none, .aload_n 0, 1, 0, 0, 0), (44, none, .getfield 680, 3, 269, 100, 12), (47, none, .getfield 796, 3, 160, 115, 10), (50, none, .iadd, 1, 0, 0, 0), (51, none, .putfield 252, 3, 215, 100, 10), (54, none, .aload_n 0, 1, 0, 0, 0), (55, none, .getfield 680, 3, 269, 100, 12), (58, none, .getfield 796, 3, 160, 115, 10), (61, none, .ireturn, 1, 0, 0, 0)] := fq_of2 cd_110 ow_110 cl_110 rfl (pc := 32) (by decide +kernel)
        j_aldn (pc := 32) D rfl rfl rfl fun D =>
        j_ic (pc := 33) D rfl fun D =>
        j_ic (pc := 34) D rfl fun D =>
        j_ivv (pc := 35) (m := 196) (dd := 161) (a := [(0, 0), (0, (-1))]) (rest := []) D rfl rfl rfl rfl rfl (by decide) (s0_303 H) (by decide +kernel) (fun h7 e1 D =>
          have T := fj_run_ok _ _ _ _ _ _ H.1 e1
          have H := shp_st H T
          j_aldn (pc := 38) D rfl rfl rfl fun D =>
          j_sh (pc := 39) D rfl rfl rfl fun D =>
          j_gf (pc := 40) (a := 303) D rfl rfl (by decide) rfl (s0_303 H) rfl fun D =>
          j_aldn (pc := 43) D rfl rfl rfl fun D =>
          j_gfc (pc := 44) (a := 303) D rfl rfl (by decide) rfl (s0_303 H) rfl (sf_269_303 H) fun D =>
          j_gf (pc := 47) (a := 377) D rfl rfl (by decide) rfl (s0_377 H) rfl fun D =>
          j_iadd (pc := 50) D rfl fun D =>
          j_pf (pc := 51) (a := 303) D rfl rfl rfl (s0_303 H) rfl rfl (gy (by decide)) (gy rfl) fun h10 eh10 S D =>
          have T := fj_hs_ok H.1 S
          have H := shp_st H T
          j_aldn (pc := 54) D rfl rfl rfl fun D =>
          j_gfc (pc := 55) (a := 303) D rfl rfl (by decide) rfl (s0_303 H) rfl (sf_269_303 H) fun D =>
          j_gf (pc := 58) (a := 377) D rfl rfl (by decide) rfl (s0_377 H) rfl fun D =>
          j_iret D rt_110) (fun q9 h7 e1 =>
          j_tx (by decide +kernel))) (fun q6 h4 e1 =>
        j_tc_ (n := 128) (fk_at (cu := none) (by decide +kernel) rfl) (s := 7) (e := 14) (hp := 17) (ct := 8) (by decide +kernel) rfl (by decide +kernel) <|
        fk_jump cut_110_17 rfl rfl)) (fun q3 h1 e1 =>
      j_tx (by decide +kernel))
/-! 111 StatuteHouse$Reader.begin()V -/
theorem cd_111 : fi_code 111 = prog_53_method_5_code := rfl
theorem hx_111 : ∀ pc, fi_hat 111 pc = none := fun pc => by unfold fi_hat; rw [show fi_hh 111 = [] from rfl]; rfl
theorem rt_111 : fi_ret 111 = none := rfl
theorem nl_111 : fi_nl 111 = 3 := rfl
theorem ow_111 : fi_ow 111 = 15 := rfl
theorem cl_111 : fj_cutT.getD 111 [] = [(59, [0]), (63, [0, 1, 2]), (140, [0, 1]), (141, [0, 1]), (142, [0, 1, 2])] := rfl
theorem cut_111_59 : fj_cut 111 59 = some [0] := by decide +kernel
noncomputable def c_111_59 (d : Nat) (h : fi_H) : fk_R := gG (fj_run d) 111 59 [(0, (4, 377))] [] h
theorem cut_111_63 : fj_cut 111 63 = some [0, 1, 2] := by decide +kernel
noncomputable def c_111_63 (d : Nat) (x1 x2 : Int) (h : fi_H) : fk_R := gG (fj_run d) 111 63 [(0, (4, 377)), (1, (0, x1)), (2, (0, x2))] [] h
theorem cut_111_140 : fj_cut 111 140 = some [0, 1] := by decide +kernel
noncomputable def c_111_140 (d : Nat) (x1 : Int) (h : fi_H) : fk_R := gG (fj_run d) 111 140 [(0, (4, 377)), (1, (0, x1))] [] h
theorem cut_111_141 : fj_cut 111 141 = some [0, 1] := by decide +kernel
noncomputable def c_111_141 (d : Nat) (x1 s0 : Int) (h : fi_H) : fk_R := gG (fj_run d) 111 141 [(0, (4, 377)), (1, (0, x1))] [(0, s0)] h
theorem cut_111_142 : fj_cut 111 142 = some [0, 1, 2] := by decide +kernel
noncomputable def c_111_142 (d : Nat) (x1 x2 : Int) (h : fi_H) : fk_R := gG (fj_run d) 111 142 [(0, (4, 377)), (1, (0, x1)), (2, (0, x2))] [] h
theorem e_111_59 (d : Nat) {h : fi_H} (H : Shp h) : c_111_59 d h =
  c_111_63 d 0 1 h := by
  unfold c_111_59
  exact
    have D : fk_D 111 [(59, some [0], .iconst 0, 1, 0, 0, 0), (60, none, .istore_n 1, 1, 0, 0, 0), (61, none, .iconst 1, 1, 0, 1, 0), (62, none, .istore_n 2, 1, 0, 0, 0)] := fq_of2 cd_111 ow_111 cl_111 rfl (pc := 59) (by decide +kernel)
    j_ic (pc := 59) D rfl fun D =>
    j_istn (pc := 60) (L' := [(1, (0, 0)), (0, (4, 377))]) D rfl nl_111 rfl rfl fun D =>
    j_ic (pc := 61) D rfl fun D =>
    j_istn (pc := 62) (L' := [(2, (0, 1)), (1, (0, 0)), (0, (4, 377))]) D rfl nl_111 rfl rfl fun D =>
    fk_jump cut_111_63 rfl rfl
theorem e_111_63 (d : Nat) (x1 x2 : Int) {h : fi_H} (H : Shp h) : c_111_63 d x1 x2 h =
  if x2 = 0 then
    some (.inl none, h)
  else
    ca_ (fj_run d 112 h [(4, 377), (0, x1)]) 0
      (fun v2 h1 =>
      if 0 ≤ h1 157 377 0 ∧ h1 157 377 0 < 1202 then
      lt_ (fi_upd h1 9 379 (h1 157 377 0).toNat (wS v2)) fun h4 =>
      if v2 = h4 156 377 0 then
        if 0 ≤ h4 157 377 0 ∧ h4 157 377 0 < 1202 then
        lt_ (fi_upd h4 8 378 (h4 157 377 0).toNat 0) fun h6 =>
        c_111_142 d v2 0 h6
        else none
      else
        ca_ (fj_run d 113 h4 [(4, 377), (0, v2)]) 0
          (fun v9 h8 =>
          if 0 ≤ h8 157 377 0 ∧ h8 157 377 0 < 1202 then
          if h8 8 378 (h8 157 377 0).toNat = 1 then
            c_111_140 d v9 h8
          else
            if 1200 < h8 157 377 0 then
              c_111_140 d v9 h8
            else
              c_111_141 d v9 1 h8
          else none)
          (fun q10 h8 => tx_ q10 h8)
      else none)
      (fun q3 h1 => tx_ q3 h1) := by
  unfold c_111_63
  exact
    have D : fk_D 111 [(63, some [0, 1, 2], .iload_n 2, 1, 0, 0, 0), (64, none, .ifCond .eq 91, 3, 155, 0, 0), (67, none, .aload_n 0, 1, 0, 0, 0), (68, none, .iload_n 1, 1, 0, 0, 0), (69, none, .invokevirtual 128, 3, 1, 246, 1), (72, none, .istore_n 1, 1, 0, 0, 0), (73, none, .aload_n 0, 1, 0, 0, 0), (74, none, .getfield 19, 3, 150, 115, 12), (77, none, .aload_n 0, 1, 0, 0, 0), (78, none, .getfield 107, 3, 157, 115, 10), (81, none, .iload_n 1, 1, 0, 0, 0), (82, none, .i2s, 1, 0, 0, 0), (83, none, .sastore, 1, 0, 0, 0), (84, none, .iload_n 1, 1, 0, 0, 0), (85, none, .aload_n 0, 1, 0, 0, 0), (86, none, .getfield 94, 3, 156, 115, 10), (89, none, .if_icmp .ne 18, 3, 107, 0, 0), (92, none, .aload_n 0, 1, 0, 0, 0), (93, none, .getfield 15, 3, 149, 115, 12), (96, none, .aload_n 0, 1, 0, 0, 0)] := fq_of2 cd_111 ow_111 cl_111 rfl (pc := 63) (by decide +kernel)
    j_ildn (pc := 63) D rfl rfl rfl fun D =>
    j_ifeq (pc := 64) D rfl (fun q =>
      have D : fk_D 111 [(155, none, .return_, 1, 0, 0, 0)] := fq_of2 cd_111 ow_111 cl_111 rfl (pc := 155) (by decide +kernel)
      j_vret D rt_111) (fun q D =>
      j_aldn (pc := 67) D rfl rfl rfl fun D =>
      j_ildn (pc := 68) D rfl rfl rfl fun D =>
      j_iv (pc := 69) (m := 112) (dd := 246) (a := [(0, x1)]) (rest := []) D rfl rfl rfl rfl rfl (by decide) (s0_377 H) (by decide +kernel) (fun v2 h1 e1 D =>
        have T := fj_run_ok _ _ _ _ _ _ H.1 e1
        have H := shp_st H T
        j_istn (pc := 72) (L' := [(1, (0, v2)), (0, (4, 377)), (2, (0, x2))]) D rfl nl_111 rfl rfl fun D =>
        j_aldn (pc := 73) D rfl rfl rfl fun D =>
        j_gfc (pc := 74) (a := 377) D rfl rfl (by decide) rfl (s0_377 H) rfl (sf_150_377 H) fun D =>
        j_aldn (pc := 77) D rfl rfl rfl fun D =>
        j_gf (pc := 78) (a := 377) D rfl rfl (by decide) rfl (s0_377 H) rfl fun D =>
        j_ildn (pc := 81) D rfl rfl rfl fun D =>
        j_i2s (pc := 82) D rfl fun D =>
        j_as (pc := 83) (a := 379) (e := 9) D rfl ⟨rfl, rfl⟩ rfl (by decide) (s0_379 H) (s1_379 H) ⟨rfl, rfl, rfl⟩ rfl gn (gy (fk_rgS _)) fun h4 eh4 S qb5 D =>
        have T := fj_hs_ok H.1 S
        have H := shp_st H T
        j_ildn (pc := 84) D rfl rfl rfl fun D =>
        j_aldn (pc := 85) D rfl rfl rfl fun D =>
        j_gf (pc := 86) (a := 377) D rfl rfl (by decide) rfl (s0_377 H) rfl fun D =>
        j_ine (pc := 89) D rfl (fun q D =>
          j_aldn (pc := 92) D rfl rfl rfl fun D =>
          j_gfc (pc := 93) (a := 377) D rfl rfl (by decide) rfl (s0_377 H) rfl (sf_149_377 H) fun D =>
          j_aldn (pc := 96) D rfl rfl rfl fun D =>
          have D : fk_D 111 [(97, none, .getfield 107, 3, 157, 115, 10), (100, none, .iconst 0, 1, 0, 0, 0), (101, none, .bastore, 1, 0, 0, 0), (102, none, .iconst 0, 1, 0, 0, 0), (103, none, .istore_n 2, 1, 0, 0, 0), (104, none, .goto 38, 3, 142, 0, 0)] := fq_of2 cd_111 ow_111 cl_111 rfl (pc := 97) (by decide +kernel)
          j_gf (pc := 97) (a := 377) D rfl rfl (by decide) rfl (s0_377 H) rfl fun D =>
          j_ic (pc := 100) D rfl fun D =>
          j_as (pc := 101) (a := 378) (e := 8) D rfl ⟨rfl, rfl⟩ rfl (by decide) (s0_378 H) (s1_378 H) ⟨rfl, rfl, rfl⟩ rfl gn (gy (by decide)) fun h6 eh6 S qb7 D =>
          have T := fj_hs_ok H.1 S
          have H := shp_st H T
          j_ic (pc := 102) D rfl fun D =>
          j_istn (pc := 103) (L' := [(2, (0, 0)), (1, (0, v2)), (0, (4, 377))]) D rfl nl_111 rfl rfl fun D =>
          j_goto (pc := 104) D rfl <|
          fk_jump cut_111_142 rfl rfl) (fun q =>
          have D : fk_D 111 [(107, none, .aload_n 0, 1, 0, 0, 0), (108, none, .iload_n 1, 1, 0, 0, 0), (109, none, .invokevirtual 132, 3, 1, 247, 1), (112, none, .istore_n 1, 1, 0, 0, 0), (113, none, .aload_n 0, 1, 0, 0, 0), (114, none, .getfield 15, 3, 149, 115, 12), (117, none, .aload_n 0, 1, 0, 0, 0), (118, none, .getfield 107, 3, 157, 115, 10), (121, none, .baload, 1, 0, 0, 0), (122, none, .iconst 1, 1, 0, 1, 0), (123, none, .if_icmp .eq 17, 3, 140, 0, 0), (126, none, .aload_n 0, 1, 0, 0, 0), (127, none, .getfield 107, 3, 157, 115, 10), (130, none, .sipush 1200, 3, 0, 1200, 0), (133, none, .if_icmp .gt 7, 3, 140, 0, 0), (136, none, .iconst 1, 1, 0, 1, 0), (137, none, .goto 4, 3, 141, 0, 0)] := fq_of2 cd_111 ow_111 cl_111 rfl (pc := 107) (by decide +kernel)
          j_aldn (pc := 107) D rfl rfl rfl fun D =>
          j_ildn (pc := 108) D rfl rfl rfl fun D =>
          j_iv (pc := 109) (m := 113) (dd := 247) (a := [(0, v2)]) (rest := []) D rfl rfl rfl rfl rfl (by decide) (s0_377 H) (by decide +kernel) (fun v9 h8 e1 D =>
            have T := fj_run_ok _ _ _ _ _ _ H.1 e1
            have H := shp_st H T
            j_istn (pc := 112) (L' := [(1, (0, v9)), (0, (4, 377)), (2, (0, x2))]) D rfl nl_111 rfl rfl fun D =>
            j_aldn (pc := 113) D rfl rfl rfl fun D =>
            j_gfc (pc := 114) (a := 377) D rfl rfl (by decide) rfl (s0_377 H) rfl (sf_149_377 H) fun D =>
            j_aldn (pc := 117) D rfl rfl rfl fun D =>
            j_gf (pc := 118) (a := 377) D rfl rfl (by decide) rfl (s0_377 H) rfl fun D =>
            j_al (pc := 121) (a := 378) (e := 8) D rfl rfl rfl (by decide) (s0_378 H) (s1_378 H) ⟨rfl, rfl, rfl⟩ rfl gn fun qb11 D =>
            j_ic (pc := 122) D rfl fun D =>
            j_ieq (pc := 123) D rfl (fun q =>
              fk_jump cut_111_140 rfl rfl) (fun q D =>
              j_aldn (pc := 126) D rfl rfl rfl fun D =>
              j_gf (pc := 127) (a := 377) D rfl rfl (by decide) rfl (s0_377 H) rfl fun D =>
              j_sp (pc := 130) D rfl fun D =>
              j_igt (pc := 133) D rfl (fun q =>
                fk_jump cut_111_140 rfl rfl) (fun q D =>
                j_ic (pc := 136) D rfl fun D =>
                j_goto (pc := 137) D rfl <|
                fk_jump cut_111_141 rfl rfl))) (fun q10 h8 e1 =>
            j_tx (hx_111 _)))) (fun q3 h1 e1 =>
        j_tx (hx_111 _)))
theorem e_111_140 (d : Nat) (x1 : Int) {h : fi_H} (H : Shp h) : c_111_140 d x1 h =
  c_111_141 d x1 0 h := by
  unfold c_111_140
  exact
    have D : fk_D 111 [(140, some [0, 1], .iconst 0, 1, 0, 0, 0)] := fq_of2 cd_111 ow_111 cl_111 rfl (pc := 140) (by decide +kernel)
    j_ic (pc := 140) D rfl fun D =>
    fk_jump cut_111_141 rfl rfl
theorem e_111_141 (d : Nat) (x1 s0 : Int) {h : fi_H} (H : Shp h) : c_111_141 d x1 s0 h =
  c_111_142 d x1 s0 h := by
  unfold c_111_141
  exact
    have D : fk_D 111 [(141, some [0, 1], .istore_n 2, 1, 0, 0, 0)] := fq_of2 cd_111 ow_111 cl_111 rfl (pc := 141) (by decide +kernel)
    j_istn (pc := 141) (L' := [(2, (0, s0)), (0, (4, 377)), (1, (0, x1))]) D rfl nl_111 rfl rfl fun D =>
    fk_jump cut_111_142 rfl rfl
theorem e_111_142 (d : Nat) (x1 x2 : Int) {h : fi_H} (H : Shp h) : c_111_142 d x1 x2 h =
  lt_ (fi_upd h 157 377 0 (wI ((h 157 377 0) + 1))) fun h1 =>
  c_111_63 d x1 x2 h1 := by
  unfold c_111_142
  exact
    have D : fk_D 111 [(142, some [0, 1, 2], .aload_n 0, 1, 0, 0, 0), (143, none, .dup, 1, 0, 0, 0), (144, none, .getfield 107, 3, 157, 115, 10), (147, none, .iconst 1, 1, 0, 1, 0), (148, none, .iadd, 1, 0, 0, 0), (149, none, .putfield 107, 3, 157, 115, 10), (152, none, .goto (-89), 3, 63, 0, 0)] := fq_of2 cd_111 ow_111 cl_111 rfl (pc := 142) (by decide +kernel)
    j_aldn (pc := 142) D rfl rfl rfl fun D =>
    j_sh (pc := 143) D rfl rfl rfl fun D =>
    j_gf (pc := 144) (a := 377) D rfl rfl (by decide) rfl (s0_377 H) rfl fun D =>
    j_ic (pc := 147) D rfl fun D =>
    j_iadd (pc := 148) D rfl fun D =>
    j_pf (pc := 149) (a := 377) D rfl rfl rfl (s0_377 H) rfl rfl (gy (by decide)) (gy rfl) fun h1 eh1 S D =>
    have T := fj_hs_ok H.1 S
    have H := shp_st H T
    j_goto (pc := 152) D rfl <|
    fk_jump cut_111_63 rfl rfl
theorem m_111 (d : Nat) {h : fi_H} (H : Shp h) : fj_run (d + 1) 111 h [(4, 377)] =
  lt_ (fi_upd h 156 377 0 (h 266 303 0)) fun h1 =>
  lt_ (fi_upd h1 266 303 0 0) fun h2 =>
  lt_ (fi_upd h2 158 377 0 0) fun h3 =>
  lt_ (fi_upd h3 157 377 0 0) fun h4 =>
  lt_ (fi_upd h4 159 377 0 0) fun h5 =>
  lt_ (fi_upd h5 160 377 0 0) fun h6 =>
  lt_ (fi_upd h6 161 377 0 0) fun h7 =>
  lt_ (fi_upd h7 162 377 0 0) fun h8 =>
  lt_ (fi_upd h8 163 377 0 0) fun h9 =>
  lt_ (fi_upd h9 164 377 0 0) fun h10 =>
  c_111_59 d h10 := by
  rw [fj_run_eq d (by decide) h [(4, 377)] (Nat.le_of_ble_eq_true (by rw [nl_111]; rfl))]
  show gG (fj_run d) 111 0 [(0, (4, 377))] [] h = _
  exact
    have D : fk_D 111 [(0, none, .aload_n 0, 1, 0, 0, 0), (1, none, .aload_n 0, 1, 0, 0, 0), (2, none, .getfield 3, 3, 182, 115, 12), (5, none, .getfield 101, 3, 266, 100, 10), (8, none, .putfield 94, 3, 156, 115, 10), (11, none, .aload_n 0, 1, 0, 0, 0), (12, none, .getfield 3, 3, 182, 115, 12), (15, none, .iconst 0, 1, 0, 0, 0), (16, none, .putfield 101, 3, 266, 100, 10), (19, none, .aload_n 0, 1, 0, 0, 0), (20, none, .iconst 0, 1, 0, 0, 0), (21, none, .putfield 104, 3, 158, 115, 10), (24, none, .aload_n 0, 1, 0, 0, 0), (25, none, .iconst 0, 1, 0, 0, 0), (26, none, .putfield 107, 3, 157, 115, 10), (29, none, .aload_n 0, 1, 0, 0, 0), (30, none, .iconst 0, 1, 0, 0, 0), (31, none, .putfield 110, 3, 159, 115, 10), (34, none, .aload_n 0, 1, 0, 0, 0), (35, none, .iconst 0, 1, 0, 0, 0)] := fq_of2 cd_111 ow_111 cl_111 rfl (pc := 0) (by decide +kernel)
    j_aldn (pc := 0) D rfl rfl rfl fun D =>
    j_aldn (pc := 1) D rfl rfl rfl fun D =>
    j_gfc (pc := 2) (a := 377) D rfl rfl (by decide) rfl (s0_377 H) rfl (sf_182_377 H) fun D =>
    j_gf (pc := 5) (a := 303) D rfl rfl (by decide) rfl (s0_303 H) rfl fun D =>
    j_pf (pc := 8) (a := 377) D rfl rfl rfl (s0_377 H) rfl rfl (gy (by decide)) (gy rfl) fun h1 eh1 S D =>
    have T := fj_hs_ok H.1 S
    have H := shp_st H T
    j_aldn (pc := 11) D rfl rfl rfl fun D =>
    j_gfc (pc := 12) (a := 377) D rfl rfl (by decide) rfl (s0_377 H) rfl (sf_182_377 H) fun D =>
    j_ic (pc := 15) D rfl fun D =>
    j_pf (pc := 16) (a := 303) D rfl rfl rfl (s0_303 H) rfl rfl (gy (by decide)) (gy rfl) fun h2 eh2 S D =>
    have T := fj_hs_ok H.1 S
    have H := shp_st H T
    j_aldn (pc := 19) D rfl rfl rfl fun D =>
    j_ic (pc := 20) D rfl fun D =>
    j_pf (pc := 21) (a := 377) D rfl rfl rfl (s0_377 H) rfl rfl (gy (by decide)) (gy rfl) fun h3 eh3 S D =>
    have T := fj_hs_ok H.1 S
    have H := shp_st H T
    j_aldn (pc := 24) D rfl rfl rfl fun D =>
    j_ic (pc := 25) D rfl fun D =>
    j_pf (pc := 26) (a := 377) D rfl rfl rfl (s0_377 H) rfl rfl (gy (by decide)) (gy rfl) fun h4 eh4 S D =>
    have T := fj_hs_ok H.1 S
    have H := shp_st H T
    j_aldn (pc := 29) D rfl rfl rfl fun D =>
    j_ic (pc := 30) D rfl fun D =>
    j_pf (pc := 31) (a := 377) D rfl rfl rfl (s0_377 H) rfl rfl (gy (by decide)) (gy rfl) fun h5 eh5 S D =>
    have T := fj_hs_ok H.1 S
    have H := shp_st H T
    j_aldn (pc := 34) D rfl rfl rfl fun D =>
    j_ic (pc := 35) D rfl fun D =>
    have D : fk_D 111 [(36, none, .putfield 113, 3, 160, 115, 10), (39, none, .aload_n 0, 1, 0, 0, 0), (40, none, .iconst 0, 1, 0, 0, 0), (41, none, .putfield 116, 3, 161, 115, 10), (44, none, .aload_n 0, 1, 0, 0, 0), (45, none, .iconst 0, 1, 0, 0, 0), (46, none, .putfield 119, 3, 162, 115, 10), (49, none, .aload_n 0, 1, 0, 0, 0), (50, none, .iconst 0, 1, 0, 0, 0), (51, none, .putfield 122, 3, 163, 115, 10), (54, none, .aload_n 0, 1, 0, 0, 0), (55, none, .iconst 0, 1, 0, 0, 0), (56, none, .putfield 125, 3, 164, 115, 10)] := fq_of2 cd_111 ow_111 cl_111 rfl (pc := 36) (by decide +kernel)
    j_pf (pc := 36) (a := 377) D rfl rfl rfl (s0_377 H) rfl rfl (gy (by decide)) (gy rfl) fun h6 eh6 S D =>
    have T := fj_hs_ok H.1 S
    have H := shp_st H T
    j_aldn (pc := 39) D rfl rfl rfl fun D =>
    j_ic (pc := 40) D rfl fun D =>
    j_pf (pc := 41) (a := 377) D rfl rfl rfl (s0_377 H) rfl rfl (gy (by decide)) (gy rfl) fun h7 eh7 S D =>
    have T := fj_hs_ok H.1 S
    have H := shp_st H T
    j_aldn (pc := 44) D rfl rfl rfl fun D =>
    j_ic (pc := 45) D rfl fun D =>
    j_pf (pc := 46) (a := 377) D rfl rfl rfl (s0_377 H) rfl rfl (gy (by decide)) (gy rfl) fun h8 eh8 S D =>
    have T := fj_hs_ok H.1 S
    have H := shp_st H T
    j_aldn (pc := 49) D rfl rfl rfl fun D =>
    j_ic (pc := 50) D rfl fun D =>
    j_pf (pc := 51) (a := 377) D rfl rfl rfl (s0_377 H) rfl rfl (gy (by decide)) (gy rfl) fun h9 eh9 S D =>
    have T := fj_hs_ok H.1 S
    have H := shp_st H T
    j_aldn (pc := 54) D rfl rfl rfl fun D =>
    j_ic (pc := 55) D rfl fun D =>
    j_pf (pc := 56) (a := 377) D rfl rfl rfl (s0_377 H) rfl rfl (gy (by decide)) (gy rfl) fun h10 eh10 S D =>
    have T := fj_hs_ok H.1 S
    have H := shp_st H T
    fk_jump cut_111_59 rfl rfl
/-! 112 StatuteHouse$Reader.blanks(I)I -/
theorem cd_112 : fi_code 112 = prog_53_method_6_code := rfl
theorem hx_112 : ∀ pc, fi_hat 112 pc = none := fun pc => by unfold fi_hat; rw [show fi_hh 112 = [] from rfl]; rfl
theorem rt_112 : fi_ret 112 = some .int := rfl
theorem nl_112 : fi_nl 112 = 3 := rfl
theorem ow_112 : fi_ow 112 = 15 := rfl
theorem cl_112 : fj_cutT.getD 112 [] = [(2, [0, 2]), (52, [0, 2]), (66, [0, 2])] := rfl
theorem cut_112_2 : fj_cut 112 2 = some [0, 2] := by decide +kernel
noncomputable def c_112_2 (d : Nat) (x2 : Int) (h : fi_H) : fk_R := gG (fj_run d) 112 2 [(0, (4, 377)), (2, (0, x2))] [] h
theorem cut_112_52 : fj_cut 112 52 = some [0, 2] := by decide +kernel
noncomputable def c_112_52 (d : Nat) (x2 : Int) (h : fi_H) : fk_R := gG (fj_run d) 112 52 [(0, (4, 377)), (2, (0, x2))] [] h
theorem cut_112_66 : fj_cut 112 66 = some [0, 2] := by decide +kernel
noncomputable def c_112_66 (d : Nat) (x2 : Int) (h : fi_H) : fk_R := gG (fj_run d) 112 66 [(0, (4, 377)), (2, (0, x2))] [] h
theorem e_112_2 (d : Nat) (x2 : Int) {h : fi_H} (H : Shp h) : c_112_2 d x2 h =
  if x2 < h 156 377 0 then
    if 0 ≤ x2 ∧ x2 < 4000 then
    if h 8 376 x2.toNat = 32 then
      c_112_52 d x2 h
    else
      if h 8 376 x2.toNat = 10 then
        c_112_52 d x2 h
      else
        if h 8 376 x2.toNat = 39 then
          c_112_52 d x2 h
        else
          some (.inl (some (0, x2)), h)
    else none
  else
    some (.inl (some (0, x2)), h) := by
  unfold c_112_2
  exact
    have D : fk_D 112 [(2, some [0, 2], .iload_n 2, 1, 0, 0, 0), (3, none, .aload_n 0, 1, 0, 0, 0), (4, none, .getfield 94, 3, 156, 115, 10), (7, none, .if_icmp .ge 93, 3, 100, 0, 0), (10, none, .aload_n 0, 1, 0, 0, 0), (11, none, .getfield 3, 3, 182, 115, 12), (14, none, .getfield 98, 3, 265, 100, 12), (17, none, .iload_n 2, 1, 0, 0, 0), (18, none, .baload, 1, 0, 0, 0), (19, none, .bipush 32, 2, 0, 32, 0), (21, none, .if_icmp .eq 31, 3, 52, 0, 0), (24, none, .aload_n 0, 1, 0, 0, 0), (25, none, .getfield 3, 3, 182, 115, 12), (28, none, .getfield 98, 3, 265, 100, 12), (31, none, .iload_n 2, 1, 0, 0, 0), (32, none, .baload, 1, 0, 0, 0), (33, none, .bipush 10, 2, 0, 10, 0), (35, none, .if_icmp .eq 17, 3, 52, 0, 0), (38, none, .aload_n 0, 1, 0, 0, 0), (39, none, .getfield 3, 3, 182, 115, 12)] := fq_of2 cd_112 ow_112 cl_112 rfl (pc := 2) (by decide +kernel)
    j_ildn (pc := 2) D rfl rfl rfl fun D =>
    j_aldn (pc := 3) D rfl rfl rfl fun D =>
    j_gf (pc := 4) (a := 377) D rfl rfl (by decide) rfl (s0_377 H) rfl fun D =>
    j_ige (pc := 7) D rfl (fun q D =>
      j_aldn (pc := 10) D rfl rfl rfl fun D =>
      j_gfc (pc := 11) (a := 377) D rfl rfl (by decide) rfl (s0_377 H) rfl (sf_182_377 H) fun D =>
      j_gfc (pc := 14) (a := 303) D rfl rfl (by decide) rfl (s0_303 H) rfl (sf_265_303 H) fun D =>
      j_ildn (pc := 17) D rfl rfl rfl fun D =>
      j_al (pc := 18) (a := 376) (e := 8) D rfl rfl rfl (by decide) (s0_376 H) (s1_376 H) ⟨rfl, rfl, rfl⟩ rfl gn fun qb1 D =>
      j_bp (pc := 19) D rfl fun D =>
      j_ieq (pc := 21) D rfl (fun q =>
        fk_jump cut_112_52 rfl rfl) (fun q D =>
        j_aldn (pc := 24) D rfl rfl rfl fun D =>
        j_gfc (pc := 25) (a := 377) D rfl rfl (by decide) rfl (s0_377 H) rfl (sf_182_377 H) fun D =>
        j_gfc (pc := 28) (a := 303) D rfl rfl (by decide) rfl (s0_303 H) rfl (sf_265_303 H) fun D =>
        j_ildn (pc := 31) D rfl rfl rfl fun D =>
        j_al (pc := 32) (a := 376) (e := 8) D rfl rfl rfl (by decide) (s0_376 H) (s1_376 H) ⟨rfl, rfl, rfl⟩ rfl (gy qb1) fun q D =>
        j_bp (pc := 33) D rfl fun D =>
        j_ieq (pc := 35) D rfl (fun q =>
          fk_jump cut_112_52 rfl rfl) (fun q D =>
          j_aldn (pc := 38) D rfl rfl rfl fun D =>
          j_gfc (pc := 39) (a := 377) D rfl rfl (by decide) rfl (s0_377 H) rfl (sf_182_377 H) fun D =>
          have D : fk_D 112 [(42, none, .getfield 98, 3, 265, 100, 12), (45, none, .iload_n 2, 1, 0, 0, 0), (46, none, .baload, 1, 0, 0, 0), (47, none, .bipush 39, 2, 0, 39, 0), (49, none, .if_icmp .ne 51, 3, 100, 0, 0)] := fq_of2 cd_112 ow_112 cl_112 rfl (pc := 42) (by decide +kernel)
          j_gfc (pc := 42) (a := 303) D rfl rfl (by decide) rfl (s0_303 H) rfl (sf_265_303 H) fun D =>
          j_ildn (pc := 45) D rfl rfl rfl fun D =>
          j_al (pc := 46) (a := 376) (e := 8) D rfl rfl rfl (by decide) (s0_376 H) (s1_376 H) ⟨rfl, rfl, rfl⟩ rfl (gy qb1) fun q D =>
          j_bp (pc := 47) D rfl fun D =>
          j_ine (pc := 49) D rfl (fun q D =>
            fk_jump cut_112_52 rfl rfl) (fun q =>
            have D : fk_D 112 [(100, none, .iload_n 2, 1, 0, 0, 0), (101, none, .ireturn, 1, 0, 0, 0)] := fq_of2 cd_112 ow_112 cl_112 rfl (pc := 100) (by decide +kernel)
            j_ildn (pc := 100) D rfl rfl rfl fun D =>
            j_iret D rt_112)))) (fun q =>
      have D : fk_D 112 [(100, none, .iload_n 2, 1, 0, 0, 0), (101, none, .ireturn, 1, 0, 0, 0)] := fq_of2 cd_112 ow_112 cl_112 rfl (pc := 100) (by decide +kernel)
      j_ildn (pc := 100) D rfl rfl rfl fun D =>
      j_iret D rt_112)
theorem e_112_52 (d : Nat) (x2 : Int) {h : fi_H} (H : Shp h) : c_112_52 d x2 h =
  if 0 ≤ x2 ∧ x2 < 4000 then
  if h 8 376 x2.toNat = 39 then
    c_112_66 d x2 h
  else
    c_112_2 d (wI (x2 + 1)) h
  else none := by
  unfold c_112_52
  exact
    have D : fk_D 112 [(52, some [0, 2], .aload_n 0, 1, 0, 0, 0), (53, none, .getfield 3, 3, 182, 115, 12), (56, none, .getfield 98, 3, 265, 100, 12), (59, none, .iload_n 2, 1, 0, 0, 0), (60, none, .baload, 1, 0, 0, 0), (61, none, .bipush 39, 2, 0, 39, 0), (63, none, .if_icmp .ne 31, 3, 94, 0, 0)] := fq_of2 cd_112 ow_112 cl_112 rfl (pc := 52) (by decide +kernel)
    j_aldn (pc := 52) D rfl rfl rfl fun D =>
    j_gfc (pc := 53) (a := 377) D rfl rfl (by decide) rfl (s0_377 H) rfl (sf_182_377 H) fun D =>
    j_gfc (pc := 56) (a := 303) D rfl rfl (by decide) rfl (s0_303 H) rfl (sf_265_303 H) fun D =>
    j_ildn (pc := 59) D rfl rfl rfl fun D =>
    j_al (pc := 60) (a := 376) (e := 8) D rfl rfl rfl (by decide) (s0_376 H) (s1_376 H) ⟨rfl, rfl, rfl⟩ rfl gn fun qb1 D =>
    j_bp (pc := 61) D rfl fun D =>
    j_ine (pc := 63) D rfl (fun q D =>
      fk_jump cut_112_66 rfl rfl) (fun q =>
      have D : fk_D 112 [(94, none, .iinc 2 1, 3, 0, 1, 0), (97, none, .goto (-95), 3, 2, 0, 0)] := fq_of2 cd_112 ow_112 cl_112 rfl (pc := 94) (by decide +kernel)
      j_inc (pc := 94) (L' := [(2, (0, wI (x2 + 1))), (0, (4, 377))]) D rfl rfl rfl (by decide +kernel) rfl fun D =>
      j_goto (pc := 97) D rfl <|
      fk_jump cut_112_2 rfl rfl)
theorem e_112_66 (d : Nat) (x2 : Int) {h : fi_H} (H : Shp h) : c_112_66 d x2 h =
  if x2 < h 156 377 0 then
    if 0 ≤ x2 ∧ x2 < 4000 then
    if h 8 376 x2.toNat = 10 then
      c_112_2 d x2 h
    else
      c_112_66 d (wI (x2 + 1)) h
    else none
  else
    c_112_2 d x2 h := by
  unfold c_112_66
  exact
    have D : fk_D 112 [(66, some [0, 2], .iload_n 2, 1, 0, 0, 0), (67, none, .aload_n 0, 1, 0, 0, 0), (68, none, .getfield 94, 3, 156, 115, 10), (71, none, .if_icmp .ge (-69), 3, 2, 0, 0), (74, none, .aload_n 0, 1, 0, 0, 0), (75, none, .getfield 3, 3, 182, 115, 12), (78, none, .getfield 98, 3, 265, 100, 12), (81, none, .iload_n 2, 1, 0, 0, 0), (82, none, .baload, 1, 0, 0, 0), (83, none, .bipush 10, 2, 0, 10, 0), (85, none, .if_icmp .eq (-83), 3, 2, 0, 0), (88, none, .iinc 2 1, 3, 0, 1, 0), (91, none, .goto (-25), 3, 66, 0, 0)] := fq_of2 cd_112 ow_112 cl_112 rfl (pc := 66) (by decide +kernel)
    j_ildn (pc := 66) D rfl rfl rfl fun D =>
    j_aldn (pc := 67) D rfl rfl rfl fun D =>
    j_gf (pc := 68) (a := 377) D rfl rfl (by decide) rfl (s0_377 H) rfl fun D =>
    j_ige (pc := 71) D rfl (fun q D =>
      j_aldn (pc := 74) D rfl rfl rfl fun D =>
      j_gfc (pc := 75) (a := 377) D rfl rfl (by decide) rfl (s0_377 H) rfl (sf_182_377 H) fun D =>
      j_gfc (pc := 78) (a := 303) D rfl rfl (by decide) rfl (s0_303 H) rfl (sf_265_303 H) fun D =>
      j_ildn (pc := 81) D rfl rfl rfl fun D =>
      j_al (pc := 82) (a := 376) (e := 8) D rfl rfl rfl (by decide) (s0_376 H) (s1_376 H) ⟨rfl, rfl, rfl⟩ rfl gn fun qb1 D =>
      j_bp (pc := 83) D rfl fun D =>
      j_ieq (pc := 85) D rfl (fun q =>
        fk_jump cut_112_2 rfl rfl) (fun q D =>
        j_inc (pc := 88) (L' := [(2, (0, wI (x2 + 1))), (0, (4, 377))]) D rfl rfl rfl (by decide +kernel) rfl fun D =>
        j_goto (pc := 91) D rfl <|
        fk_jump cut_112_66 rfl rfl)) (fun q =>
      fk_jump cut_112_2 rfl rfl)
theorem m_112 (d : Nat) (x1 : Int) {h : fi_H} (H : Shp h) : fj_run (d + 1) 112 h [(4, 377), (0, x1)] =
  c_112_2 d x1 h := by
  rw [fj_run_eq d (by decide) h [(4, 377), (0, x1)] (Nat.le_of_ble_eq_true (by rw [nl_112]; rfl))]
  show gG (fj_run d) 112 0 [(0, (4, 377)), (1, (0, x1))] [] h = _
  exact
    have D : fk_D 112 [(0, none, .iload_n 1, 1, 0, 0, 0), (1, none, .istore_n 2, 1, 0, 0, 0)] := fq_of2 cd_112 ow_112 cl_112 rfl (pc := 0) (by decide +kernel)
    j_ildn (pc := 0) D rfl rfl rfl fun D =>
    j_istn (pc := 1) (L' := [(2, (0, x1)), (0, (4, 377)), (1, (0, x1))]) D rfl nl_112 rfl rfl fun D =>
    fk_jump cut_112_2 rfl rfl
/-! 113 StatuteHouse$Reader.token(I)I -/
theorem cd_113 : fi_code 113 = prog_53_method_7_code := rfl
theorem hx_113 : ∀ pc, fi_hat 113 pc = none := fun pc => by unfold fi_hat; rw [show fi_hh 113 = [] from rfl]; rfl
theorem rt_113 : fi_ret 113 = some .int := rfl
theorem nl_113 : fi_nl 113 = 4 := rfl
theorem ow_113 : fi_ow 113 = 15 := rfl
theorem cl_113 : fj_cutT.getD 113 [] = [(24, [0, 1, 3]), (58, [0, 1, 3]), (99, [0, 3]), (349, [3])] := rfl
theorem cut_113_24 : fj_cut 113 24 = some [0, 1, 3] := by decide +kernel
noncomputable def c_113_24 (d : Nat) (x1 x3 : Int) (h : fi_H) : fk_R := gG (fj_run d) 113 24 [(0, (4, 377)), (1, (0, x1)), (3, (0, x3))] [] h
theorem cut_113_58 : fj_cut 113 58 = some [0, 1, 3] := by decide +kernel
noncomputable def c_113_58 (d : Nat) (x1 x3 : Int) (h : fi_H) : fk_R := gG (fj_run d) 113 58 [(0, (4, 377)), (1, (0, x1)), (3, (0, x3))] [] h
theorem cut_113_99 : fj_cut 113 99 = some [0, 3] := by decide +kernel
noncomputable def c_113_99 (d : Nat) (x3 s0 s1 s2 : Int) (h : fi_H) : fk_R := gG (fj_run d) 113 99 [(0, (4, 377)), (3, (0, x3))] [(0, s2), (0, s1), (4, s0)] h
theorem cut_113_349 : fj_cut 113 349 = some [3] := by decide +kernel
noncomputable def c_113_349 (d : Nat) (x3 s0 s1 s2 : Int) (h : fi_H) : fk_R := gG (fj_run d) 113 349 [(3, (0, x3))] [(0, s2), (0, s1), (4, s0)] h
theorem e_113_24 (d : Nat) (x1 x3 : Int) {h : fi_H} (H : Shp h) : c_113_24 d x1 x3 h =
  ca_ (fj_run d 114 h [(4, 377), (0, x3)]) 0
    (fun v2 h1 =>
    ca_ (fj_run d 115 h1 [(4, 377), (0, v2)]) 0
      (fun v5 h4 =>
      if v5 = 0 then
        ca_ (fj_run d 114 h4 [(4, 377), (0, x3)]) 0
          (fun v8 h7 =>
          ca_ (fj_run d 128 h7 [(4, 377), (0, v8)]) 0
            (fun v11 h10 =>
            if v11 = 0 then
              ca_ (fj_run d 114 h10 [(4, 377), (0, x3)]) 0
                (fun v14 h13 =>
                if v14 = 95 then
                  c_113_58 d x1 x3 h13
                else
                  if 12 < wI (x3 - x1) then
                    c_113_99 d x3 378 (h13 157 377 0) 1 h13
                  else
                    c_113_99 d x3 378 (h13 157 377 0) 2 h13)
                (fun q15 h13 => tx_ q15 h13)
            else
              c_113_58 d x1 x3 h10)
            (fun q12 h10 => tx_ q12 h10))
          (fun q9 h7 => tx_ q9 h7)
      else
        c_113_58 d x1 x3 h4)
      (fun q6 h4 => tx_ q6 h4))
    (fun q3 h1 => tx_ q3 h1) := by
  unfold c_113_24
  exact
    have D : fk_D 113 [(24, some [0, 1, 3], .aload_n 0, 1, 0, 0, 0), (25, none, .aload_n 0, 1, 0, 0, 0), (26, none, .iload_n 3, 1, 0, 0, 0), (27, none, .invokevirtual 135, 3, 1, 248, 1), (30, none, .invokevirtual 138, 3, 1, 249, 1), (33, none, .ifCond .ne 25, 3, 58, 0, 0), (36, none, .aload_n 0, 1, 0, 0, 0), (37, none, .aload_n 0, 1, 0, 0, 0), (38, none, .iload_n 3, 1, 0, 0, 0), (39, none, .invokevirtual 135, 3, 1, 248, 1), (42, none, .invokevirtual 146, 3, 1, 251, 1), (45, none, .ifCond .ne 13, 3, 58, 0, 0), (48, none, .aload_n 0, 1, 0, 0, 0), (49, none, .iload_n 3, 1, 0, 0, 0), (50, none, .invokevirtual 135, 3, 1, 248, 1), (53, none, .bipush 95, 2, 0, 95, 0), (55, none, .if_icmp .ne 23, 3, 78, 0, 0)] := fq_of2 cd_113 ow_113 cl_113 rfl (pc := 24) (by decide +kernel)
    j_aldn (pc := 24) D rfl rfl rfl fun D =>
    j_aldn (pc := 25) D rfl rfl rfl fun D =>
    j_ildn (pc := 26) D rfl rfl rfl fun D =>
    j_iv (pc := 27) (m := 114) (dd := 248) (a := [(0, x3)]) (rest := [(4, 377)]) D rfl rfl rfl rfl rfl (by decide) (s0_377 H) (by decide +kernel) (fun v2 h1 e1 D =>
      have T := fj_run_ok _ _ _ _ _ _ H.1 e1
      have H := shp_st H T
      j_iv (pc := 30) (m := 115) (dd := 249) (a := [(0, v2)]) (rest := []) D rfl rfl rfl rfl rfl (by decide) (s0_377 H) (by decide +kernel) (fun v5 h4 e1 D =>
        have T := fj_run_ok _ _ _ _ _ _ H.1 e1
        have H := shp_st H T
        j_ifne (pc := 33) D rfl (fun q D =>
          j_aldn (pc := 36) D rfl rfl rfl fun D =>
          j_aldn (pc := 37) D rfl rfl rfl fun D =>
          j_ildn (pc := 38) D rfl rfl rfl fun D =>
          j_iv (pc := 39) (m := 114) (dd := 248) (a := [(0, x3)]) (rest := [(4, 377)]) D rfl rfl rfl rfl rfl (by decide) (s0_377 H) (by decide +kernel) (fun v8 h7 e1 D =>
            have T := fj_run_ok _ _ _ _ _ _ H.1 e1
            have H := shp_st H T
            j_iv (pc := 42) (m := 128) (dd := 251) (a := [(0, v8)]) (rest := []) D rfl rfl rfl rfl rfl (by decide) (s0_377 H) (by decide +kernel) (fun v11 h10 e1 D =>
              have T := fj_run_ok _ _ _ _ _ _ H.1 e1
              have H := shp_st H T
              j_ifne (pc := 45) D rfl (fun q D =>
                j_aldn (pc := 48) D rfl rfl rfl fun D =>
                j_ildn (pc := 49) D rfl rfl rfl fun D =>
                j_iv (pc := 50) (m := 114) (dd := 248) (a := [(0, x3)]) (rest := []) D rfl rfl rfl rfl rfl (by decide) (s0_377 H) (by decide +kernel) (fun v14 h13 e1 D =>
                  have T := fj_run_ok _ _ _ _ _ _ H.1 e1
                  have H := shp_st H T
                  j_bp (pc := 53) D rfl fun D =>
                  j_ine (pc := 55) D rfl (fun q D =>
                    fk_jump cut_113_58 rfl rfl) (fun q =>
                    have D : fk_D 113 [(78, none, .aload_n 0, 1, 0, 0, 0), (79, none, .getfield 15, 3, 149, 115, 12), (82, none, .aload_n 0, 1, 0, 0, 0), (83, none, .getfield 107, 3, 157, 115, 10), (86, none, .iload_n 3, 1, 0, 0, 0), (87, none, .iload_n 1, 1, 0, 0, 0), (88, none, .isub, 1, 0, 0, 0), (89, none, .bipush 12, 2, 0, 12, 0), (91, none, .if_icmp .le 7, 3, 98, 0, 0), (94, none, .iconst 1, 1, 0, 1, 0), (95, none, .goto 4, 3, 99, 0, 0)] := fq_of2 cd_113 ow_113 cl_113 rfl (pc := 78) (by decide +kernel)
                    j_aldn (pc := 78) D rfl rfl rfl fun D =>
                    j_gfc (pc := 79) (a := 377) D rfl rfl (by decide) rfl (s0_377 H) rfl (sf_149_377 H) fun D =>
                    j_aldn (pc := 82) D rfl rfl rfl fun D =>
                    j_gf (pc := 83) (a := 377) D rfl rfl (by decide) rfl (s0_377 H) rfl fun D =>
                    j_ildn (pc := 86) D rfl rfl rfl fun D =>
                    j_ildn (pc := 87) D rfl rfl rfl fun D =>
                    j_isub (pc := 88) D rfl fun D =>
                    j_bp (pc := 89) D rfl fun D =>
                    j_ile (pc := 91) D rfl (fun q D =>
                      j_ic (pc := 94) D rfl fun D =>
                      j_goto (pc := 95) D rfl <|
                      fk_jump cut_113_99 rfl rfl) (fun q =>
                      have D : fk_D 113 [(98, none, .iconst 2, 1, 0, 2, 0)] := fq_of2 cd_113 ow_113 cl_113 rfl (pc := 98) (by decide +kernel)
                      j_ic (pc := 98) D rfl fun D =>
                      fk_jump cut_113_99 rfl rfl))) (fun q15 h13 e1 =>
                  j_tx (hx_113 _))) (fun q =>
                fk_jump cut_113_58 rfl rfl)) (fun q12 h10 e1 =>
              j_tx (hx_113 _))) (fun q9 h7 e1 =>
            j_tx (hx_113 _))) (fun q =>
          fk_jump cut_113_58 rfl rfl)) (fun q6 h4 e1 =>
        j_tx (hx_113 _))) (fun q3 h1 e1 =>
      j_tx (hx_113 _))
theorem e_113_58 (d : Nat) (x1 x3 : Int) {h : fi_H} (H : Shp h) : c_113_58 d x1 x3 h =
  ca_ (fj_run d 114 h [(4, 377), (0, x3)]) 0
    (fun v2 h1 =>
    ca_ (fj_run d 129 h1 [(4, 384), (0, wC v2)]) 4
      (fun v5 h4 =>
      c_113_24 d x1 (wI (x3 + 1)) h4)
      (fun q6 h4 => tx_ q6 h4))
    (fun q3 h1 => tx_ q3 h1) := by
  unfold c_113_58
  exact
    have D : fk_D 113 [(58, some [0, 1, 3], .aload_n 0, 1, 0, 0, 0), (59, none, .getfield 44, 3, 155, 115, 12), (62, none, .aload_n 0, 1, 0, 0, 0), (63, none, .iload_n 3, 1, 0, 0, 0), (64, none, .invokevirtual 135, 3, 1, 248, 1), (67, none, .i2c, 1, 0, 0, 0), (68, none, .invokevirtual 149, 3, 1, 252, 5), (71, none, .pop, 1, 0, 0, 0), (72, none, .iinc 3 1, 3, 0, 1, 0), (75, none, .goto (-51), 3, 24, 0, 0)] := fq_of2 cd_113 ow_113 cl_113 rfl (pc := 58) (by decide +kernel)
    j_aldn (pc := 58) D rfl rfl rfl fun D =>
    j_gfc (pc := 59) (a := 377) D rfl rfl (by decide) rfl (s0_377 H) rfl (sf_155_377 H) fun D =>
    j_aldn (pc := 62) D rfl rfl rfl fun D =>
    j_ildn (pc := 63) D rfl rfl rfl fun D =>
    j_iv (pc := 64) (m := 114) (dd := 248) (a := [(0, x3)]) (rest := [(4, 384)]) D rfl rfl rfl rfl rfl (by decide) (s0_377 H) (by decide +kernel) (fun v2 h1 e1 D =>
      have T := fj_run_ok _ _ _ _ _ _ H.1 e1
      have H := shp_st H T
      j_i2c (pc := 67) D rfl fun D =>
      j_iv (pc := 68) (m := 129) (dd := 252) (a := [(0, wC v2)]) (rest := []) D rfl rfl rfl rfl rfl (by decide) (s0_384 H) (by decide +kernel) (fun v5 h4 e1 D =>
        have T := fj_run_ok _ _ _ _ _ _ H.1 e1
        have H := shp_st H T
        j_sh (pc := 71) D rfl rfl rfl fun D =>
        j_inc (pc := 72) (L' := [(3, (0, wI (x3 + 1))), (0, (4, 377)), (1, (0, x1))]) D rfl rfl rfl (by decide +kernel) rfl fun D =>
        j_goto (pc := 75) D rfl <|
        fk_jump cut_113_24 rfl rfl) (fun q6 h4 e1 =>
        j_tx (hx_113 _))) (fun q3 h1 e1 =>
      j_tx (hx_113 _))
theorem e_113_99 (d : Nat) (x3 s0 s1 s2 : Int) {h : fi_H} (H : Shp h) : c_113_99 d x3 s0 s1 s2 h =
  if 302 < s0 ∧ fi_et 1 (h 0 s0.toNat 0) ≠ 0 then
  if 0 ≤ s1 ∧ s1 < h 1 s0.toNat 0 then
  if fi_rg (fi_et 1 (h 0 s0.toNat 0)) (wB s2) = true then
  lt_ (fi_upd h (fi_et 1 (h 0 s0.toNat 0)) s0.toNat s1.toNat (wB s2)) fun h1 =>
  if 0 ≤ h1 157 377 0 ∧ h1 157 377 0 < 1202 then
  if h1 8 378 (h1 157 377 0).toNat = 2 then
    ca_ (fj_run d 140 h1 [(4, 384)]) 4
      (fun v4 h3 =>
      if v4 = 0 ∨ (fi_sup (h3 0 v4.toNat 0)).contains 131 = true then
      lt_ (fi_upd h3 12 383 (h1 157 377 0).toNat v4) fun h6 =>
      some (.inl (some (0, x3)), h6)
      else none)
      (fun q5 h3 => tx_ q5 h3)
  else
    some (.inl (some (0, x3)), h1)
  else none
  else none
  else none
  else none := by
  unfold c_113_99
  exact
    have D : fk_D 113 [(99, some [0, 3], .i2b, 1, 0, 0, 0), (100, none, .bastore, 1, 0, 0, 0), (101, none, .aload_n 0, 1, 0, 0, 0), (102, none, .getfield 15, 3, 149, 115, 12), (105, none, .aload_n 0, 1, 0, 0, 0), (106, none, .getfield 107, 3, 157, 115, 10), (109, none, .baload, 1, 0, 0, 0), (110, none, .iconst 2, 1, 0, 2, 0), (111, none, .if_icmp .ne 19, 3, 130, 0, 0), (114, none, .aload_n 0, 1, 0, 0, 0), (115, none, .getfield 37, 3, 154, 115, 12), (118, none, .aload_n 0, 1, 0, 0, 0), (119, none, .getfield 107, 3, 157, 115, 10), (122, none, .aload_n 0, 1, 0, 0, 0), (123, none, .getfield 44, 3, 155, 115, 12), (126, none, .invokevirtual 153, 3, 0, 253, 5), (129, none, .aastore, 1, 0, 0, 0), (130, none, .iload_n 3, 1, 0, 0, 0), (131, none, .ireturn, 1, 0, 0, 0)] := fq_of2 cd_113 ow_113 cl_113 rfl (pc := 99) (by decide +kernel)
    j_i2b (pc := 99) D rfl fun D =>
    j_asub (pc := 100) D rfl rfl gn gn gn fun h1 eh1 S q q2 D =>
    have T := fj_hs_ok H.1 S
    have H := shp_st H T
    j_aldn (pc := 101) D rfl rfl rfl fun D =>
    j_gfc (pc := 102) (a := 377) D rfl rfl (by decide) rfl (s0_377 H) rfl (sf_149_377 H) fun D =>
    j_aldn (pc := 105) D rfl rfl rfl fun D =>
    j_gf (pc := 106) (a := 377) D rfl rfl (by decide) rfl (s0_377 H) rfl fun D =>
    j_al (pc := 109) (a := 378) (e := 8) D rfl rfl rfl (by decide) (s0_378 H) (s1_378 H) ⟨rfl, rfl, rfl⟩ rfl gn fun qb2 D =>
    j_ic (pc := 110) D rfl fun D =>
    j_ine (pc := 111) D rfl (fun q D =>
      j_aldn (pc := 114) D rfl rfl rfl fun D =>
      j_gfc (pc := 115) (a := 377) D rfl rfl (by decide) rfl (s0_377 H) rfl (sf_154_377 H) fun D =>
      j_aldn (pc := 118) D rfl rfl rfl fun D =>
      j_gf (pc := 119) (a := 377) D rfl rfl (by decide) rfl (s0_377 H) rfl fun D =>
      j_aldn (pc := 122) D rfl rfl rfl fun D =>
      j_gfc (pc := 123) (a := 377) D rfl rfl (by decide) rfl (s0_377 H) rfl (sf_155_377 H) fun D =>
      j_iv (pc := 126) (m := 140) (dd := 253) (a := []) (rest := [(0, h1 157 377 0), (4, 383)]) D rfl rfl rfl rfl rfl (by decide) (s0_384 H) (by decide +kernel) (fun v4 h3 e1 D =>
        have T := fj_run_ok _ _ _ _ _ _ H.1 e1
        have H := shp_st H T
        j_asr (pc := 129) (a := 383) D rfl rfl (by decide) (s0_383 H) (s1_383 H) ⟨rfl, rfl, rfl⟩ rfl (gy qb2) gn fun h6 eh6 S q D =>
        have T := fj_hs_ok H.1 S
        have H := shp_st H T
        j_ildn (pc := 130) D rfl rfl rfl fun D =>
        j_iret D rt_113) (fun q5 h3 e1 =>
        j_tx (hx_113 _))) (fun q =>
      have D : fk_D 113 [(130, none, .iload_n 3, 1, 0, 0, 0), (131, none, .ireturn, 1, 0, 0, 0)] := fq_of2 cd_113 ow_113 cl_113 rfl (pc := 130) (by decide +kernel)
      j_ildn (pc := 130) D rfl rfl rfl fun D =>
      j_iret D rt_113)
theorem e_113_349 (d : Nat) (x3 s0 s1 s2 : Int) {h : fi_H} (H : Shp h) : c_113_349 d x3 s0 s1 s2 h =
  if 302 < s0 ∧ h 0 s0.toNat 0 = 5 then
  if 0 ≤ s1 ∧ s1 < h 1 s0.toNat 0 then
  if fi_rg 5 s2 = true then
  lt_ (fi_upd h 5 s0.toNat s1.toNat s2) fun h1 =>
  some (.inl (some (0, wI (x3 + 2))), h1)
  else none
  else none
  else none := by
  unfold c_113_349
  exact
    have D : fk_D 113 [(349, some [3], .castore, 1, 0, 0, 0), (350, none, .iload_n 3, 1, 0, 0, 0), (351, none, .iconst 2, 1, 0, 2, 0), (352, none, .iadd, 1, 0, 0, 0), (353, none, .ireturn, 1, 0, 0, 0)] := fq_of2 cd_113 ow_113 cl_113 rfl (pc := 349) (by decide +kernel)
    j_asu (pc := 349) (e := 5) D rfl rfl ⟨rfl, rfl, rfl⟩ rfl gn gn gn fun h1 eh1 S q q2 D =>
    have T := fj_hs_ok H.1 S
    have H := shp_st H T
    j_ildn (pc := 350) D rfl rfl rfl fun D =>
    j_ic (pc := 351) D rfl fun D =>
    j_iadd (pc := 352) D rfl fun D =>
    j_iret D rt_113
theorem m_113 (d : Nat) (x1 : Int) {h : fi_H} (H : Shp h) : fj_run (d + 1) 113 h [(4, 377), (0, x1)] =
  ca_ (fj_run d 114 h [(4, 377), (0, x1)]) 0
    (fun v2 h1 =>
    ca_ (fj_run d 115 h1 [(4, 377), (0, v2)]) 0
      (fun v5 h4 =>
      if v5 = 0 then
        ca_ (fj_run d 128 h4 [(4, 377), (0, v2)]) 0
          (fun v8 h7 =>
          if v8 = 0 then
            if 0 ≤ h7 157 377 0 ∧ h7 157 377 0 < 1202 then
            lt_ (fi_upd h7 8 378 (h7 157 377 0).toNat 6) fun h10 =>
            if 0 ≤ h10 157 377 0 ∧ h10 157 377 0 < 1202 then
            lt_ (fi_upd h10 5 382 (h10 157 377 0).toNat (wC v2)) fun h12 =>
            if v2 = 35 then
              some (.inl (some (0, wI (x1 + 1))), h12)
            else if v2 = 37 then
              some (.inl (some (0, wI (x1 + 1))), h12)
            else if v2 = 40 then
              some (.inl (some (0, wI (x1 + 1))), h12)
            else if v2 = 41 then
              some (.inl (some (0, wI (x1 + 1))), h12)
            else if v2 = 42 then
              some (.inl (some (0, wI (x1 + 1))), h12)
            else if v2 = 43 then
              some (.inl (some (0, wI (x1 + 1))), h12)
            else if v2 = 44 then
              some (.inl (some (0, wI (x1 + 1))), h12)
            else if v2 = 45 then
              some (.inl (some (0, wI (x1 + 1))), h12)
            else if v2 = 47 then
              some (.inl (some (0, wI (x1 + 1))), h12)
            else if v2 = 58 then
              some (.inl (some (0, wI (x1 + 1))), h12)
            else if v2 = 59 then
              some (.inl (some (0, wI (x1 + 1))), h12)
            else if v2 = 60 then
              ca_ (fj_run d 114 h12 [(4, 377), (0, wI (x1 + 1))]) 0
                (fun v15 h14 =>
                if v15 = 61 then
                  if v2 = 60 then
                    c_113_349 d x1 382 (h14 157 377 0) 108 h14
                  else
                    c_113_349 d x1 382 (h14 157 377 0) 103 h14
                else
                  some (.inl (some (0, wI (x1 + 1))), h14))
                (fun q16 h14 => tx_ q16 h14)
            else if v2 = 61 then
              some (.inl (some (0, wI (x1 + 1))), h12)
            else if v2 = 62 then
              ca_ (fj_run d 114 h12 [(4, 377), (0, wI (x1 + 1))]) 0
                (fun v18 h17 =>
                if v18 = 61 then
                  if v2 = 60 then
                    c_113_349 d x1 382 (h17 157 377 0) 108 h17
                  else
                    c_113_349 d x1 382 (h17 157 377 0) 103 h17
                else
                  some (.inl (some (0, wI (x1 + 1))), h17))
                (fun q19 h17 => tx_ q19 h17)
            else if v2 = 123 then
              some (.inl (some (0, wI (x1 + 1))), h12)
            else if v2 = 125 then
              some (.inl (some (0, wI (x1 + 1))), h12)
            else 
              if 0 ≤ h12 157 377 0 ∧ h12 157 377 0 < 1202 then
              lt_ (fi_upd h12 8 378 (h12 157 377 0).toNat 1) fun h20 =>
              some (.inl (some (0, wI (x1 + 1))), h20)
              else none
            else none
            else none
          else
            ca_ (fj_run d 152 h7 [(4, 377), (0, x1)]) 0
              (fun v23 h22 =>
              some (.inl (some (0, v23)), h22))
              (fun q24 h22 => tx_ q24 h22))
          (fun q9 h7 => tx_ q9 h7)
      else
        cv_ (fj_run d 116 h4 [(4, 384), (0, 0)])
          (fun h25 =>
          c_113_24 d x1 x1 h25)
          (fun q27 h25 => tx_ q27 h25))
      (fun q6 h4 => tx_ q6 h4))
    (fun q3 h1 => tx_ q3 h1) := by
  rw [fj_run_eq d (by decide) h [(4, 377), (0, x1)] (Nat.le_of_ble_eq_true (by rw [nl_113]; rfl))]
  show gG (fj_run d) 113 0 [(0, (4, 377)), (1, (0, x1))] [] h = _
  exact
    have D : fk_D 113 [(0, none, .aload_n 0, 1, 0, 0, 0), (1, none, .iload_n 1, 1, 0, 0, 0), (2, none, .invokevirtual 135, 3, 1, 248, 1), (5, none, .istore_n 2, 1, 0, 0, 0), (6, none, .iload_n 1, 1, 0, 0, 0), (7, none, .istore_n 3, 1, 0, 0, 0), (8, none, .aload_n 0, 1, 0, 0, 0), (9, none, .iload_n 2, 1, 0, 0, 0), (10, none, .invokevirtual 138, 3, 1, 249, 1), (13, none, .ifCond .eq 119, 3, 132, 0, 0), (16, none, .aload_n 0, 1, 0, 0, 0), (17, none, .getfield 44, 3, 155, 115, 12), (20, none, .iconst 0, 1, 0, 0, 0), (21, none, .invokevirtual 142, 3, 1, 250, 0)] := fq_of2 cd_113 ow_113 cl_113 rfl (pc := 0) (by decide +kernel)
    j_aldn (pc := 0) D rfl rfl rfl fun D =>
    j_ildn (pc := 1) D rfl rfl rfl fun D =>
    j_iv (pc := 2) (m := 114) (dd := 248) (a := [(0, x1)]) (rest := []) D rfl rfl rfl rfl rfl (by decide) (s0_377 H) (by decide +kernel) (fun v2 h1 e1 D =>
      have T := fj_run_ok _ _ _ _ _ _ H.1 e1
      have H := shp_st H T
      j_istn (pc := 5) (L' := [(2, (0, v2)), (0, (4, 377)), (1, (0, x1))]) D rfl nl_113 rfl rfl fun D =>
      j_ildn (pc := 6) D rfl rfl rfl fun D =>
      j_istn (pc := 7) (L' := [(3, (0, x1)), (2, (0, v2)), (0, (4, 377)), (1, (0, x1))]) D rfl nl_113 rfl rfl fun D =>
      j_aldn (pc := 8) D rfl rfl rfl fun D =>
      j_ildn (pc := 9) D rfl rfl rfl fun D =>
      j_iv (pc := 10) (m := 115) (dd := 249) (a := [(0, v2)]) (rest := []) D rfl rfl rfl rfl rfl (by decide) (s0_377 H) (by decide +kernel) (fun v5 h4 e1 D =>
        have T := fj_run_ok _ _ _ _ _ _ H.1 e1
        have H := shp_st H T
        j_ifeq (pc := 13) D rfl (fun q =>
          have D : fk_D 113 [(132, none, .aload_n 0, 1, 0, 0, 0), (133, none, .iload_n 2, 1, 0, 0, 0), (134, none, .invokevirtual 146, 3, 1, 251, 1), (137, none, .ifCond .eq 9, 3, 146, 0, 0), (140, none, .aload_n 0, 1, 0, 0, 0), (141, none, .iload_n 1, 1, 0, 0, 0), (142, none, .invokevirtual 157, 3, 1, 254, 1), (145, none, .ireturn, 1, 0, 0, 0)] := fq_of2 cd_113 ow_113 cl_113 rfl (pc := 132) (by decide +kernel)
          j_aldn (pc := 132) D rfl rfl rfl fun D =>
          j_ildn (pc := 133) D rfl rfl rfl fun D =>
          j_iv (pc := 134) (m := 128) (dd := 251) (a := [(0, v2)]) (rest := []) D rfl rfl rfl rfl rfl (by decide) (s0_377 H) (by decide +kernel) (fun v8 h7 e1 D =>
            have T := fj_run_ok _ _ _ _ _ _ H.1 e1
            have H := shp_st H T
            j_ifeq (pc := 137) D rfl (fun q =>
              have D : fk_D 113 [(146, none, .aload_n 0, 1, 0, 0, 0), (147, none, .getfield 15, 3, 149, 115, 12), (150, none, .aload_n 0, 1, 0, 0, 0), (151, none, .getfield 107, 3, 157, 115, 10), (154, none, .bipush 6, 2, 0, 6, 0), (156, none, .bastore, 1, 0, 0, 0), (157, none, .aload_n 0, 1, 0, 0, 0), (158, none, .getfield 31, 3, 153, 115, 12), (161, none, .aload_n 0, 1, 0, 0, 0), (162, none, .getfield 107, 3, 157, 115, 10), (165, none, .iload_n 2, 1, 0, 0, 0), (166, none, .i2c, 1, 0, 0, 0), (167, none, .castore, 1, 0, 0, 0), (168, none, .iload_n 2, 1, 0, 0, 0), (169, none, .lookupswitch 185 #[(35, 139), (37, 139), (40, 139), (41, 139), (42, 139), (43, 139), (44, 139), (45, 139), (47, 139), (58, 139), (59, 139), (60, 143), (61, 139), (62, 143), (123, 139), (125, 139)], 139, 0, 0, 0)] := fq_of3 cd_113 ow_113 cl_113 rfl (pc := 146) (by decide +kernel)
              j_aldn (pc := 146) D rfl rfl rfl fun D =>
              j_gfc (pc := 147) (a := 377) D rfl rfl (by decide) rfl (s0_377 H) rfl (sf_149_377 H) fun D =>
              j_aldn (pc := 150) D rfl rfl rfl fun D =>
              j_gf (pc := 151) (a := 377) D rfl rfl (by decide) rfl (s0_377 H) rfl fun D =>
              j_bp (pc := 154) D rfl fun D =>
              j_as (pc := 156) (a := 378) (e := 8) D rfl ⟨rfl, rfl⟩ rfl (by decide) (s0_378 H) (s1_378 H) ⟨rfl, rfl, rfl⟩ rfl gn (gy (by decide)) fun h10 eh10 S qb11 D =>
              have T := fj_hs_ok H.1 S
              have H := shp_st H T
              j_aldn (pc := 157) D rfl rfl rfl fun D =>
              j_gfc (pc := 158) (a := 377) D rfl rfl (by decide) rfl (s0_377 H) rfl (sf_153_377 H) fun D =>
              j_aldn (pc := 161) D rfl rfl rfl fun D =>
              j_gf (pc := 162) (a := 377) D rfl rfl (by decide) rfl (s0_377 H) rfl fun D =>
              j_ildn (pc := 165) D rfl rfl rfl fun D =>
              j_i2c (pc := 166) D rfl fun D =>
              j_as (pc := 167) (a := 382) (e := 5) D rfl ⟨rfl, rfl⟩ rfl (by decide) (s0_382 H) (s1_382 H) ⟨rfl, rfl, rfl⟩ rfl gn (gy (fk_rgC _)) fun h12 eh12 S qb13 D =>
              have T := fj_hs_ok H.1 S
              have H := shp_st H T
              j_ildn (pc := 168) D rfl rfl rfl fun D =>
              have N : fk_ni (v2) [] := trivial
              j_lc (pc := 169) 35 (t := 308) D N rfl (by decide +kernel) (by decide +kernel) (fun q =>
                have D : fk_D 113 [(308, none, .iload_n 3, 1, 0, 0, 0), (309, none, .iconst 1, 1, 0, 1, 0), (310, none, .iadd, 1, 0, 0, 0), (311, none, .ireturn, 1, 0, 0, 0)] := fq_of2 cd_113 ow_113 cl_113 rfl (pc := 308) (by decide +kernel)
                j_ildn (pc := 308) D rfl rfl rfl fun D =>
                j_ic (pc := 309) D rfl fun D =>
                j_iadd (pc := 310) D rfl fun D =>
                j_iret D rt_113) (fun N =>
                j_lc 37 (t := 308) D N rfl (by decide +kernel) (by decide +kernel) (fun q =>
                  have D : fk_D 113 [(308, none, .iload_n 3, 1, 0, 0, 0), (309, none, .iconst 1, 1, 0, 1, 0), (310, none, .iadd, 1, 0, 0, 0), (311, none, .ireturn, 1, 0, 0, 0)] := fq_of2 cd_113 ow_113 cl_113 rfl (pc := 308) (by decide +kernel)
                  j_ildn (pc := 308) D rfl rfl rfl fun D =>
                  j_ic (pc := 309) D rfl fun D =>
                  j_iadd (pc := 310) D rfl fun D =>
                  j_iret D rt_113) (fun N =>
                  j_lc 40 (t := 308) D N rfl (by decide +kernel) (by decide +kernel) (fun q =>
                    have D : fk_D 113 [(308, none, .iload_n 3, 1, 0, 0, 0), (309, none, .iconst 1, 1, 0, 1, 0), (310, none, .iadd, 1, 0, 0, 0), (311, none, .ireturn, 1, 0, 0, 0)] := fq_of2 cd_113 ow_113 cl_113 rfl (pc := 308) (by decide +kernel)
                    j_ildn (pc := 308) D rfl rfl rfl fun D =>
                    j_ic (pc := 309) D rfl fun D =>
                    j_iadd (pc := 310) D rfl fun D =>
                    j_iret D rt_113) (fun N =>
                    j_lc 41 (t := 308) D N rfl (by decide +kernel) (by decide +kernel) (fun q =>
                      have D : fk_D 113 [(308, none, .iload_n 3, 1, 0, 0, 0), (309, none, .iconst 1, 1, 0, 1, 0), (310, none, .iadd, 1, 0, 0, 0), (311, none, .ireturn, 1, 0, 0, 0)] := fq_of2 cd_113 ow_113 cl_113 rfl (pc := 308) (by decide +kernel)
                      j_ildn (pc := 308) D rfl rfl rfl fun D =>
                      j_ic (pc := 309) D rfl fun D =>
                      j_iadd (pc := 310) D rfl fun D =>
                      j_iret D rt_113) (fun N =>
                      j_lc 42 (t := 308) D N rfl (by decide +kernel) (by decide +kernel) (fun q =>
                        have D : fk_D 113 [(308, none, .iload_n 3, 1, 0, 0, 0), (309, none, .iconst 1, 1, 0, 1, 0), (310, none, .iadd, 1, 0, 0, 0), (311, none, .ireturn, 1, 0, 0, 0)] := fq_of2 cd_113 ow_113 cl_113 rfl (pc := 308) (by decide +kernel)
                        j_ildn (pc := 308) D rfl rfl rfl fun D =>
                        j_ic (pc := 309) D rfl fun D =>
                        j_iadd (pc := 310) D rfl fun D =>
                        j_iret D rt_113) (fun N =>
                        j_lc 43 (t := 308) D N rfl (by decide +kernel) (by decide +kernel) (fun q =>
                          have D : fk_D 113 [(308, none, .iload_n 3, 1, 0, 0, 0), (309, none, .iconst 1, 1, 0, 1, 0), (310, none, .iadd, 1, 0, 0, 0), (311, none, .ireturn, 1, 0, 0, 0)] := fq_of2 cd_113 ow_113 cl_113 rfl (pc := 308) (by decide +kernel)
                          j_ildn (pc := 308) D rfl rfl rfl fun D =>
                          j_ic (pc := 309) D rfl fun D =>
                          j_iadd (pc := 310) D rfl fun D =>
                          j_iret D rt_113) (fun N =>
                          j_lc 44 (t := 308) D N rfl (by decide +kernel) (by decide +kernel) (fun q =>
                            have D : fk_D 113 [(308, none, .iload_n 3, 1, 0, 0, 0), (309, none, .iconst 1, 1, 0, 1, 0), (310, none, .iadd, 1, 0, 0, 0), (311, none, .ireturn, 1, 0, 0, 0)] := fq_of2 cd_113 ow_113 cl_113 rfl (pc := 308) (by decide +kernel)
                            j_ildn (pc := 308) D rfl rfl rfl fun D =>
                            j_ic (pc := 309) D rfl fun D =>
                            j_iadd (pc := 310) D rfl fun D =>
                            j_iret D rt_113) (fun N =>
                            j_lc 45 (t := 308) D N rfl (by decide +kernel) (by decide +kernel) (fun q =>
                              have D : fk_D 113 [(308, none, .iload_n 3, 1, 0, 0, 0), (309, none, .iconst 1, 1, 0, 1, 0), (310, none, .iadd, 1, 0, 0, 0), (311, none, .ireturn, 1, 0, 0, 0)] := fq_of2 cd_113 ow_113 cl_113 rfl (pc := 308) (by decide +kernel)
                              j_ildn (pc := 308) D rfl rfl rfl fun D =>
                              j_ic (pc := 309) D rfl fun D =>
                              j_iadd (pc := 310) D rfl fun D =>
                              j_iret D rt_113) (fun N =>
                              j_lc 47 (t := 308) D N rfl (by decide +kernel) (by decide +kernel) (fun q =>
                                have D : fk_D 113 [(308, none, .iload_n 3, 1, 0, 0, 0), (309, none, .iconst 1, 1, 0, 1, 0), (310, none, .iadd, 1, 0, 0, 0), (311, none, .ireturn, 1, 0, 0, 0)] := fq_of2 cd_113 ow_113 cl_113 rfl (pc := 308) (by decide +kernel)
                                j_ildn (pc := 308) D rfl rfl rfl fun D =>
                                j_ic (pc := 309) D rfl fun D =>
                                j_iadd (pc := 310) D rfl fun D =>
                                j_iret D rt_113) (fun N =>
                                j_lc 58 (t := 308) D N rfl (by decide +kernel) (by decide +kernel) (fun q =>
                                  have D : fk_D 113 [(308, none, .iload_n 3, 1, 0, 0, 0), (309, none, .iconst 1, 1, 0, 1, 0), (310, none, .iadd, 1, 0, 0, 0), (311, none, .ireturn, 1, 0, 0, 0)] := fq_of2 cd_113 ow_113 cl_113 rfl (pc := 308) (by decide +kernel)
                                  j_ildn (pc := 308) D rfl rfl rfl fun D =>
                                  j_ic (pc := 309) D rfl fun D =>
                                  j_iadd (pc := 310) D rfl fun D =>
                                  j_iret D rt_113) (fun N =>
                                  j_lc 59 (t := 308) D N rfl (by decide +kernel) (by decide +kernel) (fun q =>
                                    have D : fk_D 113 [(308, none, .iload_n 3, 1, 0, 0, 0), (309, none, .iconst 1, 1, 0, 1, 0), (310, none, .iadd, 1, 0, 0, 0), (311, none, .ireturn, 1, 0, 0, 0)] := fq_of2 cd_113 ow_113 cl_113 rfl (pc := 308) (by decide +kernel)
                                    j_ildn (pc := 308) D rfl rfl rfl fun D =>
                                    j_ic (pc := 309) D rfl fun D =>
                                    j_iadd (pc := 310) D rfl fun D =>
                                    j_iret D rt_113) (fun N =>
                                    j_lc 60 (t := 312) D N rfl (by decide +kernel) (by decide +kernel) (fun q =>
                                      have D : fk_D 113 [(312, none, .aload_n 0, 1, 0, 0, 0), (313, none, .iload_n 3, 1, 0, 0, 0), (314, none, .iconst 1, 1, 0, 1, 0), (315, none, .iadd, 1, 0, 0, 0), (316, none, .invokevirtual 135, 3, 1, 248, 1), (319, none, .bipush 61, 2, 0, 61, 0), (321, none, .if_icmp .eq 7, 3, 328, 0, 0), (324, none, .iload_n 3, 1, 0, 0, 0), (325, none, .iconst 1, 1, 0, 1, 0), (326, none, .iadd, 1, 0, 0, 0), (327, none, .ireturn, 1, 0, 0, 0)] := fq_of2 cd_113 ow_113 cl_113 rfl (pc := 312) (by decide +kernel)
                                      j_aldn (pc := 312) D rfl rfl rfl fun D =>
                                      j_ildn (pc := 313) D rfl rfl rfl fun D =>
                                      j_ic (pc := 314) D rfl fun D =>
                                      j_iadd (pc := 315) D rfl fun D =>
                                      j_iv (pc := 316) (m := 114) (dd := 248) (a := [(0, wI (x1 + 1))]) (rest := []) D rfl rfl rfl rfl rfl (by decide) (s0_377 H) (by decide +kernel) (fun v15 h14 e1 D =>
                                        have T := fj_run_ok _ _ _ _ _ _ H.1 e1
                                        have H := shp_st H T
                                        j_bp (pc := 319) D rfl fun D =>
                                        j_ieq (pc := 321) D rfl (fun q =>
                                          have D : fk_D 113 [(328, none, .aload_n 0, 1, 0, 0, 0), (329, none, .getfield 31, 3, 153, 115, 12), (332, none, .aload_n 0, 1, 0, 0, 0), (333, none, .getfield 107, 3, 157, 115, 10), (336, none, .iload_n 2, 1, 0, 0, 0), (337, none, .bipush 60, 2, 0, 60, 0), (339, none, .if_icmp .ne 8, 3, 347, 0, 0), (342, none, .bipush 108, 2, 0, 108, 0), (344, none, .goto 5, 3, 349, 0, 0)] := fq_of2 cd_113 ow_113 cl_113 rfl (pc := 328) (by decide +kernel)
                                          j_aldn (pc := 328) D rfl rfl rfl fun D =>
                                          j_gfc (pc := 329) (a := 377) D rfl rfl (by decide) rfl (s0_377 H) rfl (sf_153_377 H) fun D =>
                                          j_aldn (pc := 332) D rfl rfl rfl fun D =>
                                          j_gf (pc := 333) (a := 377) D rfl rfl (by decide) rfl (s0_377 H) rfl fun D =>
                                          j_ildn (pc := 336) D rfl rfl rfl fun D =>
                                          j_bp (pc := 337) D rfl fun D =>
                                          j_ine (pc := 339) D rfl (fun q D =>
                                            j_bp (pc := 342) D rfl fun D =>
                                            j_goto (pc := 344) D rfl <|
                                            fk_jump cut_113_349 rfl rfl) (fun q =>
                                            have D : fk_D 113 [(347, none, .bipush 103, 2, 0, 103, 0)] := fq_of2 cd_113 ow_113 cl_113 rfl (pc := 347) (by decide +kernel)
                                            j_bp (pc := 347) D rfl fun D =>
                                            fk_jump cut_113_349 rfl rfl)) (fun q D =>
                                          j_ildn (pc := 324) D rfl rfl rfl fun D =>
                                          j_ic (pc := 325) D rfl fun D =>
                                          j_iadd (pc := 326) D rfl fun D =>
                                          j_iret D rt_113)) (fun q16 h14 e1 =>
                                        j_tx (hx_113 _))) (fun N =>
                                      j_lc 61 (t := 308) D N rfl (by decide +kernel) (by decide +kernel) (fun q =>
                                        have D : fk_D 113 [(308, none, .iload_n 3, 1, 0, 0, 0), (309, none, .iconst 1, 1, 0, 1, 0), (310, none, .iadd, 1, 0, 0, 0), (311, none, .ireturn, 1, 0, 0, 0)] := fq_of2 cd_113 ow_113 cl_113 rfl (pc := 308) (by decide +kernel)
                                        j_ildn (pc := 308) D rfl rfl rfl fun D =>
                                        j_ic (pc := 309) D rfl fun D =>
                                        j_iadd (pc := 310) D rfl fun D =>
                                        j_iret D rt_113) (fun N =>
                                        j_lc 62 (t := 312) D N rfl (by decide +kernel) (by decide +kernel) (fun q =>
                                          have D : fk_D 113 [(312, none, .aload_n 0, 1, 0, 0, 0), (313, none, .iload_n 3, 1, 0, 0, 0), (314, none, .iconst 1, 1, 0, 1, 0), (315, none, .iadd, 1, 0, 0, 0), (316, none, .invokevirtual 135, 3, 1, 248, 1), (319, none, .bipush 61, 2, 0, 61, 0), (321, none, .if_icmp .eq 7, 3, 328, 0, 0), (324, none, .iload_n 3, 1, 0, 0, 0), (325, none, .iconst 1, 1, 0, 1, 0), (326, none, .iadd, 1, 0, 0, 0), (327, none, .ireturn, 1, 0, 0, 0)] := fq_of2 cd_113 ow_113 cl_113 rfl (pc := 312) (by decide +kernel)
                                          j_aldn (pc := 312) D rfl rfl rfl fun D =>
                                          j_ildn (pc := 313) D rfl rfl rfl fun D =>
                                          j_ic (pc := 314) D rfl fun D =>
                                          j_iadd (pc := 315) D rfl fun D =>
                                          j_iv (pc := 316) (m := 114) (dd := 248) (a := [(0, wI (x1 + 1))]) (rest := []) D rfl rfl rfl rfl rfl (by decide) (s0_377 H) (by decide +kernel) (fun v18 h17 e1 D =>
                                            have T := fj_run_ok _ _ _ _ _ _ H.1 e1
                                            have H := shp_st H T
                                            j_bp (pc := 319) D rfl fun D =>
                                            j_ieq (pc := 321) D rfl (fun q =>
                                              have D : fk_D 113 [(328, none, .aload_n 0, 1, 0, 0, 0), (329, none, .getfield 31, 3, 153, 115, 12), (332, none, .aload_n 0, 1, 0, 0, 0), (333, none, .getfield 107, 3, 157, 115, 10), (336, none, .iload_n 2, 1, 0, 0, 0), (337, none, .bipush 60, 2, 0, 60, 0), (339, none, .if_icmp .ne 8, 3, 347, 0, 0), (342, none, .bipush 108, 2, 0, 108, 0), (344, none, .goto 5, 3, 349, 0, 0)] := fq_of2 cd_113 ow_113 cl_113 rfl (pc := 328) (by decide +kernel)
                                              j_aldn (pc := 328) D rfl rfl rfl fun D =>
                                              j_gfc (pc := 329) (a := 377) D rfl rfl (by decide) rfl (s0_377 H) rfl (sf_153_377 H) fun D =>
                                              j_aldn (pc := 332) D rfl rfl rfl fun D =>
                                              j_gf (pc := 333) (a := 377) D rfl rfl (by decide) rfl (s0_377 H) rfl fun D =>
                                              j_ildn (pc := 336) D rfl rfl rfl fun D =>
                                              j_bp (pc := 337) D rfl fun D =>
                                              j_ine (pc := 339) D rfl (fun q D =>
                                                j_bp (pc := 342) D rfl fun D =>
                                                j_goto (pc := 344) D rfl <|
                                                fk_jump cut_113_349 rfl rfl) (fun q =>
                                                have D : fk_D 113 [(347, none, .bipush 103, 2, 0, 103, 0)] := fq_of2 cd_113 ow_113 cl_113 rfl (pc := 347) (by decide +kernel)
                                                j_bp (pc := 347) D rfl fun D =>
                                                fk_jump cut_113_349 rfl rfl)) (fun q D =>
                                              j_ildn (pc := 324) D rfl rfl rfl fun D =>
                                              j_ic (pc := 325) D rfl fun D =>
                                              j_iadd (pc := 326) D rfl fun D =>
                                              j_iret D rt_113)) (fun q19 h17 e1 =>
                                            j_tx (hx_113 _))) (fun N =>
                                          j_lc 123 (t := 308) D N rfl (by decide +kernel) (by decide +kernel) (fun q =>
                                            have D : fk_D 113 [(308, none, .iload_n 3, 1, 0, 0, 0), (309, none, .iconst 1, 1, 0, 1, 0), (310, none, .iadd, 1, 0, 0, 0), (311, none, .ireturn, 1, 0, 0, 0)] := fq_of2 cd_113 ow_113 cl_113 rfl (pc := 308) (by decide +kernel)
                                            j_ildn (pc := 308) D rfl rfl rfl fun D =>
                                            j_ic (pc := 309) D rfl fun D =>
                                            j_iadd (pc := 310) D rfl fun D =>
                                            j_iret D rt_113) (fun N =>
                                            j_lc 125 (t := 308) D N rfl (by decide +kernel) (by decide +kernel) (fun q =>
                                              have D : fk_D 113 [(308, none, .iload_n 3, 1, 0, 0, 0), (309, none, .iconst 1, 1, 0, 1, 0), (310, none, .iadd, 1, 0, 0, 0), (311, none, .ireturn, 1, 0, 0, 0)] := fq_of2 cd_113 ow_113 cl_113 rfl (pc := 308) (by decide +kernel)
                                              j_ildn (pc := 308) D rfl rfl rfl fun D =>
                                              j_ic (pc := 309) D rfl fun D =>
                                              j_iadd (pc := 310) D rfl fun D =>
                                              j_iret D rt_113) (fun N =>
                                              j_ldf (t := 354) D N rfl (by decide +kernel) (by decide +kernel) (by decide +kernel) <|
                                              have D : fk_D 113 [(354, none, .aload_n 0, 1, 0, 0, 0), (355, none, .getfield 15, 3, 149, 115, 12), (358, none, .aload_n 0, 1, 0, 0, 0), (359, none, .getfield 107, 3, 157, 115, 10), (362, none, .iconst 1, 1, 0, 1, 0), (363, none, .bastore, 1, 0, 0, 0), (364, none, .iload_n 3, 1, 0, 0, 0), (365, none, .iconst 1, 1, 0, 1, 0), (366, none, .iadd, 1, 0, 0, 0), (367, none, .ireturn, 1, 0, 0, 0)] := fq_of2 cd_113 ow_113 cl_113 rfl (pc := 354) (by decide +kernel)
                                              j_aldn (pc := 354) D rfl rfl rfl fun D =>
                                              j_gfc (pc := 355) (a := 377) D rfl rfl (by decide) rfl (s0_377 H) rfl (sf_149_377 H) fun D =>
                                              j_aldn (pc := 358) D rfl rfl rfl fun D =>
                                              j_gf (pc := 359) (a := 377) D rfl rfl (by decide) rfl (s0_377 H) rfl fun D =>
                                              j_ic (pc := 362) D rfl fun D =>
                                              j_as (pc := 363) (a := 378) (e := 8) D rfl ⟨rfl, rfl⟩ rfl (by decide) (s0_378 H) (s1_378 H) ⟨rfl, rfl, rfl⟩ rfl gn (gy (by decide)) fun h20 eh20 S qb21 D =>
                                              have T := fj_hs_ok H.1 S
                                              have H := shp_st H T
                                              j_ildn (pc := 364) D rfl rfl rfl fun D =>
                                              j_ic (pc := 365) D rfl fun D =>
                                              j_iadd (pc := 366) D rfl fun D =>
                                              j_iret D rt_113))))))))))))))))) (fun q D =>
              j_aldn (pc := 140) D rfl rfl rfl fun D =>
              j_ildn (pc := 141) D rfl rfl rfl fun D =>
              j_iv (pc := 142) (m := 152) (dd := 254) (a := [(0, x1)]) (rest := []) D rfl rfl rfl rfl rfl (by decide) (s0_377 H) (by decide +kernel) (fun v23 h22 e1 D =>
                have T := fj_run_ok _ _ _ _ _ _ H.1 e1
                have H := shp_st H T
                j_iret D rt_113) (fun q24 h22 e1 =>
                j_tx (hx_113 _)))) (fun q9 h7 e1 =>
            j_tx (hx_113 _))) (fun q D =>
          j_aldn (pc := 16) D rfl rfl rfl fun D =>
          j_gfc (pc := 17) (a := 377) D rfl rfl (by decide) rfl (s0_377 H) rfl (sf_155_377 H) fun D =>
          j_ic (pc := 20) D rfl fun D =>
          j_ivv (pc := 21) (m := 116) (dd := 250) (a := [(0, 0)]) (rest := []) D rfl rfl rfl rfl rfl (by decide) (s0_384 H) (by decide +kernel) (fun h25 e1 D =>
            have T := fj_run_ok _ _ _ _ _ _ H.1 e1
            have H := shp_st H T
            fk_jump cut_113_24 rfl rfl) (fun q27 h25 e1 =>
            j_tx (hx_113 _)))) (fun q6 h4 e1 =>
        j_tx (hx_113 _))) (fun q3 h1 e1 =>
      j_tx (hx_113 _))
/-! 114 StatuteHouse$Reader.byteAt(I)I -/
theorem cd_114 : fi_code 114 = prog_53_method_2_code := rfl
theorem hx_114 : ∀ pc, fi_hat 114 pc = none := fun pc => by unfold fi_hat; rw [show fi_hh 114 = [] from rfl]; rfl
theorem rt_114 : fi_ret 114 = some .int := rfl
theorem nl_114 : fi_nl 114 = 2 := rfl
theorem ow_114 : fi_ow 114 = 15 := rfl
theorem cl_114 : fj_cutT.getD 114 [] = [] := rfl
theorem m_114 (d : Nat) (x1 : Int) {h : fi_H} (H : Shp h) : fj_run (d + 1) 114 h [(4, 377), (0, x1)] =
  if x1 < h 156 377 0 then
    if 0 ≤ x1 ∧ x1 < 4000 then
    some (.inl (some (0, h 8 376 x1.toNat)), h)
    else none
  else
    some (.inl (some (0, 0)), h) := by
  rw [fj_run_eq d (by decide) h [(4, 377), (0, x1)] (Nat.le_of_ble_eq_true (by rw [nl_114]; rfl))]
  show gG (fj_run d) 114 0 [(0, (4, 377)), (1, (0, x1))] [] h = _
  exact
    have D : fk_D 114 [(0, none, .iload_n 1, 1, 0, 0, 0), (1, none, .aload_n 0, 1, 0, 0, 0), (2, none, .getfield 94, 3, 156, 115, 10), (5, none, .if_icmp .ge 15, 3, 20, 0, 0), (8, none, .aload_n 0, 1, 0, 0, 0), (9, none, .getfield 3, 3, 182, 115, 12), (12, none, .getfield 98, 3, 265, 100, 12), (15, none, .iload_n 1, 1, 0, 0, 0), (16, none, .baload, 1, 0, 0, 0), (17, none, .goto 4, 3, 21, 0, 0)] := fq_of2 cd_114 ow_114 cl_114 rfl (pc := 0) (by decide +kernel)
    j_ildn (pc := 0) D rfl rfl rfl fun D =>
    j_aldn (pc := 1) D rfl rfl rfl fun D =>
    j_gf (pc := 2) (a := 377) D rfl rfl (by decide) rfl (s0_377 H) rfl fun D =>
    j_ige (pc := 5) D rfl (fun q D =>
      j_aldn (pc := 8) D rfl rfl rfl fun D =>
      j_gfc (pc := 9) (a := 377) D rfl rfl (by decide) rfl (s0_377 H) rfl (sf_182_377 H) fun D =>
      j_gfc (pc := 12) (a := 303) D rfl rfl (by decide) rfl (s0_303 H) rfl (sf_265_303 H) fun D =>
      j_ildn (pc := 15) D rfl rfl rfl fun D =>
      j_al (pc := 16) (a := 376) (e := 8) D rfl rfl rfl (by decide) (s0_376 H) (s1_376 H) ⟨rfl, rfl, rfl⟩ rfl gn fun qb1 D =>
      j_goto (pc := 17) D rfl <|
      have D : fk_D 114 [(21, none, .ireturn, 1, 0, 0, 0)] := fq_of2 cd_114 ow_114 cl_114 rfl (pc := 21) (by decide +kernel)
      j_iret D rt_114) (fun q =>
      have D : fk_D 114 [(20, none, .iconst 0, 1, 0, 0, 0), (21, none, .ireturn, 1, 0, 0, 0)] := fq_of2 cd_114 ow_114 cl_114 rfl (pc := 20) (by decide +kernel)
      j_ic (pc := 20) D rfl fun D =>
      j_iret D rt_114)
/-! 115 StatuteHouse$Reader.isSmall(I)Z -/
theorem cd_115 : fi_code 115 = prog_53_method_3_code := rfl
theorem hx_115 : ∀ pc, fi_hat 115 pc = none := fun pc => by unfold fi_hat; rw [show fi_hh 115 = [] from rfl]; rfl
theorem rt_115 : fi_ret 115 = some .boolean := rfl
theorem nl_115 : fi_nl 115 = 2 := rfl
theorem ow_115 : fi_ow 115 = 15 := rfl
theorem cl_115 : fj_cutT.getD 115 [] = [] := rfl
theorem m_115 (d : Nat) (x1 : Int) {h : fi_H} (H : Shp h) : fj_run (d + 1) 115 h [(4, 377), (0, x1)] =
  if x1 < 97 then
    some (.inl (some (0, 0)), h)
  else
    if 122 < x1 then
      some (.inl (some (0, 0)), h)
    else
      some (.inl (some (0, 1)), h) := by
  rw [fj_run_eq d (by decide) h [(4, 377), (0, x1)] (Nat.le_of_ble_eq_true (by rw [nl_115]; rfl))]
  show gG (fj_run d) 115 0 [(0, (4, 377)), (1, (0, x1))] [] h = _
  exact
    have D : fk_D 115 [(0, none, .iload_n 1, 1, 0, 0, 0), (1, none, .bipush 97, 2, 0, 97, 0), (3, none, .if_icmp .lt 13, 3, 16, 0, 0), (6, none, .iload_n 1, 1, 0, 0, 0), (7, none, .bipush 122, 2, 0, 122, 0), (9, none, .if_icmp .gt 7, 3, 16, 0, 0), (12, none, .iconst 1, 1, 0, 1, 0), (13, none, .goto 4, 3, 17, 0, 0)] := fq_of2 cd_115 ow_115 cl_115 rfl (pc := 0) (by decide +kernel)
    j_ildn (pc := 0) D rfl rfl rfl fun D =>
    j_bp (pc := 1) D rfl fun D =>
    j_ilt (pc := 3) D rfl (fun q =>
      have D : fk_D 115 [(16, none, .iconst 0, 1, 0, 0, 0), (17, none, .ireturn, 1, 0, 0, 0)] := fq_of2 cd_115 ow_115 cl_115 rfl (pc := 16) (by decide +kernel)
      j_ic (pc := 16) D rfl fun D =>
      j_zret D rt_115 (gy (by decide))) (fun q D =>
      j_ildn (pc := 6) D rfl rfl rfl fun D =>
      j_bp (pc := 7) D rfl fun D =>
      j_igt (pc := 9) D rfl (fun q =>
        have D : fk_D 115 [(16, none, .iconst 0, 1, 0, 0, 0), (17, none, .ireturn, 1, 0, 0, 0)] := fq_of2 cd_115 ow_115 cl_115 rfl (pc := 16) (by decide +kernel)
        j_ic (pc := 16) D rfl fun D =>
        j_zret D rt_115 (gy (by decide))) (fun q D =>
        j_ic (pc := 12) D rfl fun D =>
        j_goto (pc := 13) D rfl <|
        have D : fk_D 115 [(17, none, .ireturn, 1, 0, 0, 0)] := fq_of2 cd_115 ow_115 cl_115 rfl (pc := 17) (by decide +kernel)
        j_zret D rt_115 (gy (by decide))))
/-! 116 java/lang/StringBuilder.setLength(I)V -/
theorem cd_116 : fi_code 116 = prog_87_method_89_code := rfl
theorem hx_116 : ∀ pc, fi_hat 116 pc = none := fun pc => by unfold fi_hat; rw [show fi_hh 116 = [] from rfl]; rfl
theorem rt_116 : fi_ret 116 = none := rfl
theorem nl_116 : fi_nl 116 = 2 := rfl
theorem ow_116 : fi_ow 116 = 32 := rfl
theorem cl_116 : fj_cutT.getD 116 [] = [] := rfl
theorem m_116 (d : Nat) (x0 x1 : Int) {h : fi_H} (H : Shp h) (hk : h 0 x0.toNat 0 = 132) : fj_run (d + 1) 116 h [(4, x0), (0, x1)] =
  cv_ (fj_run d 117 h [(4, x0), (0, x1)])
    (fun h1 =>
    some (.inl none, h1))
    (fun q3 h1 => tx_ q3 h1) := by
  rw [fj_run_eq d (by decide) h [(4, x0), (0, x1)] (Nat.le_of_ble_eq_true (by rw [nl_116]; rfl))]
  show gG (fj_run d) 116 0 [(0, (4, x0)), (1, (0, x1))] [] h = _
  exact
    have D : fk_D 116 [(0, none, .aload_n 0, 1, 0, 0, 0), (1, none, .iload_n 1, 1, 0, 0, 0), (2, none, .invokespecial 333, 3, 1, 117, 0), (5, none, .return_, 1, 0, 0, 0)] := fq_of2 cd_116 ow_116 cl_116 rfl (pc := 0) (by decide +kernel)
    j_aldn (pc := 0) D rfl rfl rfl fun D =>
    j_ildn (pc := 1) D rfl rfl rfl fun D =>
    j_spv (pc := 2) (m := 117) (a := [(0, x1)]) (rest := []) D rfl rfl rfl rfl (by rw [show h 0 x0.toNat 0 = 132 from hk]; decide) (nz_cls H.2.1 hk (by decide)) (fun h1 e1 D =>
      have T := fj_run_ok _ _ _ _ _ _ H.1 e1
      have hk := cls_st H.1 T.2 hk (by decide)
      have H := shp_st H T
      j_vret D rt_116) (fun q3 h1 e1 =>
      j_tx (hx_116 _))
/-! 117 java/lang/AbstractStringBuilder.setLength(I)V -/
theorem cd_117 : fi_code 117 = prog_72_method_13_code := rfl
theorem hx_117 : ∀ pc, fi_hat 117 pc = none := fun pc => by unfold fi_hat; rw [show fi_hh 117 = [] from rfl]; rfl
theorem rt_117 : fi_ret 117 = none := rfl
theorem nl_117 : fi_nl 117 = 2 := rfl
theorem ow_117 : fi_ow 117 = 68 := rfl
theorem cl_117 : fj_cutT.getD 117 [] = [(76, [0, 1])] := rfl
theorem cut_117_76 : fj_cut 117 76 = some [0, 1] := by decide +kernel
noncomputable def c_117_76 (d : Nat) (x0 x1 : Int) (h : fi_H) : fk_R := gG (fj_run d) 117 76 [(0, (4, x0)), (1, (0, x1))] [] h
theorem e_117_76 (d : Nat) (x0 x1 : Int) {h : fi_H} {k0 : Int} (H : Shp h) (hk : h 0 x0.toNat 0 = k0) (hk0 : k0 ≠ 0) : c_117_76 d x0 x1 h =
  if h 0 x0.toNat 0 = 132 then
  if 302 < x0 then
  lt_ (fi_upd h 148 x0.toNat 0 x1) fun h1 =>
  some (.inl none, h1)
  else none
  else none := by
  unfold c_117_76
  exact
    have D : fk_D 117 [(76, some [0, 1], .aload_n 0, 1, 0, 0, 0), (77, none, .iload_n 1, 1, 0, 0, 0), (78, none, .putfield 79, 3, 148, (-132), 10), (81, none, .return_, 1, 0, 0, 0)] := fq_of2 cd_117 ow_117 cl_117 rfl (pc := 76) (by decide +kernel)
    j_aldn (pc := 76) D rfl rfl rfl fun D =>
    j_ildn (pc := 77) D rfl rfl rfl fun D =>
    j_pfo (pc := 78) D rfl rfl rfl rfl rfl gn gn (gy rfl) fun h1 eh1 S kc2 D =>
    have T := fj_hs_ok H.1 S
    have kc2 := cls_st H.1 T.2 kc2 (by decide)
    have H := shp_st H T
    j_vret D rt_117
theorem m_117 (d : Nat) (x0 x1 : Int) {h : fi_H} {k0 : Int} (H : Shp h) (hk : h 0 x0.toNat 0 = k0) (hk0 : k0 ≠ 0) : fj_run (d + 1) 117 h [(4, x0), (0, x1)] =
  if x1 < 0 then
    none
  else
    dv_ (fi_vt 328 (h 0 x0.toNat 0)) fun m4 => cv_ (fj_run d m4 h [(4, x0), (0, x1)])
      (fun h1 =>
      if h1 0 x0.toNat 0 = 132 then
      if h1 148 x0.toNat 0 < x1 then
        ca_ (fj_run d 123 h1 [(4, x0)]) 0
          (fun v7 h6 =>
          if v7 = 0 then
            cv_ (fj_run d 127 h6 [(4, h6 145 x0.toNat 0), (0, h6 148 x0.toNat 0), (0, x1)])
              (fun h9 =>
              c_117_76 d x0 x1 h9)
              (fun q11 h9 => tx_ q11 h9)
          else
            cv_ (fj_run d 124 h6 [(4, h6 145 x0.toNat 0), (0, h6 148 x0.toNat 0), (0, x1)])
              (fun h12 =>
              c_117_76 d x0 x1 h12)
              (fun q14 h12 => tx_ q14 h12))
          (fun q8 h6 => tx_ q8 h6)
      else
        if x1 < h1 148 x0.toNat 0 then
          if 302 < x0 then
          lt_ (fi_upd h1 147 x0.toNat 0 1) fun h15 =>
          c_117_76 d x0 x1 h15
          else none
        else
          c_117_76 d x0 x1 h1
      else none)
      (fun q3 h1 => tx_ q3 h1) := by
  rw [fj_run_eq d (by decide) h [(4, x0), (0, x1)] (Nat.le_of_ble_eq_true (by rw [nl_117]; rfl))]
  show gG (fj_run d) 117 0 [(0, (4, x0)), (1, (0, x1))] [] h = _
  exact
    have D : fk_D 117 [(0, none, .iload_n 1, 1, 0, 0, 0), (1, none, .ifCond .ge 12, 3, 13, 0, 0)] := fq_of2 cd_117 ow_117 cl_117 rfl (pc := 0) (by decide +kernel)
    j_ildn (pc := 0) D rfl rfl rfl fun D =>
    j_ifge (pc := 1) D rfl (fun q D =>
      j_dead (ins := .new 129) (len := 3) (by decide +kernel : fk_dec prog_72_method_13_code 4 (.new 129) 3 = true) cd_117 rfl rfl (fun L => ⟨fk_dN (by decide +kernel) L, fun q => by cases q⟩)) (fun q =>
      have D : fk_D 117 [(13, none, .aload_n 0, 1, 0, 0, 0), (14, none, .iload_n 1, 1, 0, 0, 0), (15, none, .invokevirtual 100, 3, 1, 328, 0), (18, none, .aload_n 0, 1, 0, 0, 0), (19, none, .getfield 79, 3, 148, (-132), 10), (22, none, .iload_n 1, 1, 0, 0, 0), (23, none, .if_icmp .ge 40, 3, 63, 0, 0), (26, none, .aload_n 0, 1, 0, 0, 0), (27, none, .invokevirtual 83, 3, 0, 209, 1), (30, none, .ifCond .eq 18, 3, 48, 0, 0), (33, none, .aload_n 0, 1, 0, 0, 0), (34, none, .getfield 15, 3, 145, 132, 12), (37, none, .aload_n 0, 1, 0, 0, 0), (38, none, .getfield 79, 3, 148, 132, 10), (41, none, .iload_n 1, 1, 0, 0, 0), (42, none, .invokestatic 133, 3, 3, 124, 0), (45, none, .goto 31, 3, 76, 0, 0)] := fq_of2 cd_117 ow_117 cl_117 rfl (pc := 13) (by decide +kernel)
      j_aldn (pc := 13) D rfl rfl rfl fun D =>
      j_ildn (pc := 14) D rfl rfl rfl fun D =>
      j_ivuv (pc := 15) (dd := 328) (a := [(0, x1)]) (rest := []) H.2.1 D rfl rfl rfl rfl rfl (fun m4 h1 e1 D =>
        have T := fj_run_ok _ _ _ _ _ _ H.1 e1
        have hk := cls_st H.1 T.2 hk hk0
        have H := shp_st H T
        j_aldn (pc := 18) D rfl rfl rfl fun D =>
        j_gfo (pc := 19) H.2.1 D rfl rfl rfl rfl fun kc5 D =>
        j_ildn (pc := 22) D rfl rfl rfl fun D =>
        j_ige (pc := 23) D rfl (fun q D =>
          j_aldn (pc := 26) D rfl rfl rfl fun D =>
          j_iv (pc := 27) (m := 123) (dd := 209) (a := []) (rest := []) D rfl rfl rfl rfl rfl (nz_cls H.2.1 kc5 (by decide)) kc5 (by decide +kernel) (fun v7 h6 e1 D =>
            have T := fj_run_ok _ _ _ _ _ _ H.1 e1
            have kc5 := cls_st H.1 T.2 kc5 (by decide)
            have H := shp_st H T
            j_ifeq (pc := 30) D rfl (fun q =>
              have D : fk_D 117 [(48, none, .aload_n 0, 1, 0, 0, 0), (49, none, .getfield 15, 3, 145, 132, 12), (52, none, .aload_n 0, 1, 0, 0, 0), (53, none, .getfield 79, 3, 148, 132, 10), (56, none, .iload_n 1, 1, 0, 0, 0), (57, none, .invokestatic 137, 3, 3, 127, 0), (60, none, .goto 16, 3, 76, 0, 0)] := fq_of2 cd_117 ow_117 cl_117 rfl (pc := 48) (by decide +kernel)
              j_aldn (pc := 48) D rfl rfl rfl fun D =>
              j_gf (pc := 49) (a := x0.toNat) D rfl rfl (nz_cls H.2.1 kc5 (by decide)) rfl kc5 rfl fun D =>
              j_aldn (pc := 52) D rfl rfl rfl fun D =>
              j_gf (pc := 53) (a := x0.toNat) D rfl rfl (nz_cls H.2.1 kc5 (by decide)) rfl kc5 rfl fun D =>
              j_ildn (pc := 56) D rfl rfl rfl fun D =>
              j_isv (pc := 57) (m := 127) (a := [(4, h6 145 x0.toNat 0), (0, h6 148 x0.toNat 0), (0, x1)]) (rest := []) D rfl rfl rfl rfl (fun h9 e1 D =>
                have T := fj_run_ok _ _ _ _ _ _ H.1 e1
                have kc5 := cls_st H.1 T.2 kc5 (by decide)
                have H := shp_st H T
                j_goto (pc := 60) D rfl <|
                fk_jump cut_117_76 rfl rfl) (fun q11 h9 e1 =>
                j_tx (hx_117 _))) (fun q D =>
              j_aldn (pc := 33) D rfl rfl rfl fun D =>
              j_gf (pc := 34) (a := x0.toNat) D rfl rfl (nz_cls H.2.1 kc5 (by decide)) rfl kc5 rfl fun D =>
              j_aldn (pc := 37) D rfl rfl rfl fun D =>
              j_gf (pc := 38) (a := x0.toNat) D rfl rfl (nz_cls H.2.1 kc5 (by decide)) rfl kc5 rfl fun D =>
              j_ildn (pc := 41) D rfl rfl rfl fun D =>
              j_isv (pc := 42) (m := 124) (a := [(4, h6 145 x0.toNat 0), (0, h6 148 x0.toNat 0), (0, x1)]) (rest := []) D rfl rfl rfl rfl (fun h12 e1 D =>
                have T := fj_run_ok _ _ _ _ _ _ H.1 e1
                have kc5 := cls_st H.1 T.2 kc5 (by decide)
                have H := shp_st H T
                j_goto (pc := 45) D rfl <|
                fk_jump cut_117_76 rfl rfl) (fun q14 h12 e1 =>
                j_tx (hx_117 _)))) (fun q8 h6 e1 =>
            j_tx (hx_117 _))) (fun q =>
          have D : fk_D 117 [(63, none, .aload_n 0, 1, 0, 0, 0), (64, none, .getfield 79, 3, 148, 132, 10), (67, none, .iload_n 1, 1, 0, 0, 0), (68, none, .if_icmp .le 8, 3, 76, 0, 0), (71, none, .aload_n 0, 1, 0, 0, 0), (72, none, .iconst 1, 1, 0, 1, 0), (73, none, .putfield 73, 3, 147, 132, 4)] := fq_of2 cd_117 ow_117 cl_117 rfl (pc := 63) (by decide +kernel)
          j_aldn (pc := 63) D rfl rfl rfl fun D =>
          j_gf (pc := 64) (a := x0.toNat) D rfl rfl (nz_cls H.2.1 kc5 (by decide)) rfl kc5 rfl fun D =>
          j_ildn (pc := 67) D rfl rfl rfl fun D =>
          j_ile (pc := 68) D rfl (fun q D =>
            j_aldn (pc := 71) D rfl rfl rfl fun D =>
            j_ic (pc := 72) D rfl fun D =>
            j_pf (pc := 73) (a := x0.toNat) D rfl rfl rfl kc5 rfl rfl gn (gy (by decide)) fun h15 eh15 S D =>
            have T := fj_hs_ok H.1 S
            have kc5 := cls_st H.1 T.2 kc5 (by decide)
            have H := shp_st H T
            fk_jump cut_117_76 rfl rfl) (fun q =>
            fk_jump cut_117_76 rfl rfl))) (fun m4 q3 h1 e1 =>
        j_tx (hx_117 _)))
/-! 118 java/lang/AbstractStringBuilder.ensureCapacityInternal(I)V -/
theorem cd_118 : fi_code 118 = prog_72_method_9_code := rfl
theorem hx_118 : ∀ pc, fi_hat 118 pc = none := fun pc => by unfold fi_hat; rw [show fi_hh 118 = [] from rfl]; rfl
theorem rt_118 : fi_ret 118 = none := rfl
theorem nl_118 : fi_nl 118 = 3 := rfl
theorem ow_118 : fi_ow 118 = 68 := rfl
theorem cl_118 : fj_cutT.getD 118 [] = [] := rfl
theorem m_118 (d : Nat) (x0 x1 : Int) {h : fi_H} {k0 : Int} (H : Shp h) (hk : h 0 x0.toNat 0 = k0) (hk0 : k0 ≠ 0) : fj_run (d + 1) 118 h [(4, x0), (0, x1)] =
  if h 0 x0.toNat 0 = 132 then
  if fk_isA (h 0 (h 145 x0.toNat 0).toNat 0) = true then
  lt_ (sr_ (h 1 (h 145 x0.toNat 0).toNat 0) (h 146 x0.toNat 0)) fun y2 =>
  if 0 < wI (x1 - y2) then
    ca_ (fj_run d 119 h [(4, x0), (0, x1)]) 0
      (fun v4 h3 =>
      ca_ (fj_run d 122 h3 [(4, h 145 x0.toNat 0), (0, sl_ v4 (h3 146 x0.toNat 0))]) 4
        (fun v7 h6 =>
        if 302 < x0 then
        lt_ (fi_upd h6 145 x0.toNat 0 v7) fun h9 =>
        some (.inl none, h9)
        else none)
        (fun q8 h6 => tx_ q8 h6))
      (fun q5 h3 => tx_ q5 h3)
  else
    some (.inl none, h)
  else none
  else none := by
  rw [fj_run_eq d (by decide) h [(4, x0), (0, x1)] (Nat.le_of_ble_eq_true (by rw [nl_118]; rfl))]
  show gG (fj_run d) 118 0 [(0, (4, x0)), (1, (0, x1))] [] h = _
  exact
    have D : fk_D 118 [(0, none, .aload_n 0, 1, 0, 0, 0), (1, none, .getfield 15, 3, 145, (-132), 12), (4, none, .arraylength, 1, 0, 0, 0), (5, none, .aload_n 0, 1, 0, 0, 0), (6, none, .getfield 22, 3, 146, 132, 8), (9, none, .ishr, 1, 0, 0, 0), (10, none, .istore_n 2, 1, 0, 0, 0), (11, none, .iload_n 1, 1, 0, 0, 0), (12, none, .iload_n 2, 1, 0, 0, 0), (13, none, .isub, 1, 0, 0, 0), (14, none, .ifCond .le 24, 3, 38, 0, 0), (17, none, .aload_n 0, 1, 0, 0, 0), (18, none, .aload_n 0, 1, 0, 0, 0), (19, none, .getfield 15, 3, 145, 132, 12), (22, none, .aload_n 0, 1, 0, 0, 0), (23, none, .iload_n 1, 1, 0, 0, 0), (24, none, .invokevirtual 104, 3, 1, 329, 1), (27, none, .aload_n 0, 1, 0, 0, 0), (28, none, .getfield 22, 3, 146, 132, 8), (31, none, .ishl, 1, 0, 0, 0)] := fq_of2 cd_118 ow_118 cl_118 rfl (pc := 0) (by decide +kernel)
    j_aldn (pc := 0) D rfl rfl rfl fun D =>
    j_gfo (pc := 1) H.2.1 D rfl rfl rfl rfl fun kc1 D =>
    j_lenu (pc := 4) H.2.1 D rfl fun q D =>
    j_aldn (pc := 5) D rfl rfl rfl fun D =>
    j_gf (pc := 6) (a := x0.toNat) D rfl rfl (nz_cls H.2.1 kc1 (by decide)) rfl kc1 rfl fun D =>
    j_ishr (pc := 9) D rfl fun D =>
    j_stl (pc := 10) (L' := fun y2 => [(2, (0, y2)), (0, (4, x0)), (1, (0, x1))]) D rfl ⟨rfl, rfl, rfl, rfl⟩ nl_118 rfl (fun _ => rfl) fun y2 ey2 D =>
    j_ildn (pc := 11) D rfl rfl rfl fun D =>
    j_ildn (pc := 12) D rfl rfl rfl fun D =>
    j_isub (pc := 13) D rfl fun D =>
    j_ifle (pc := 14) D rfl (fun q D =>
      j_aldn (pc := 17) D rfl rfl rfl fun D =>
      j_aldn (pc := 18) D rfl rfl rfl fun D =>
      j_gf (pc := 19) (a := x0.toNat) D rfl rfl (nz_cls H.2.1 kc1 (by decide)) rfl kc1 rfl fun D =>
      j_aldn (pc := 22) D rfl rfl rfl fun D =>
      j_ildn (pc := 23) D rfl rfl rfl fun D =>
      j_iv (pc := 24) (m := 119) (dd := 329) (a := [(0, x1)]) (rest := [(4, h 145 x0.toNat 0), (4, x0)]) D rfl rfl rfl rfl rfl (nz_cls H.2.1 kc1 (by decide)) kc1 (by decide +kernel) (fun v4 h3 e1 D =>
        have T := fj_run_ok _ _ _ _ _ _ H.1 e1
        have kc1 := cls_st H.1 T.2 kc1 (by decide)
        have H := shp_st H T
        j_aldn (pc := 27) D rfl rfl rfl fun D =>
        j_gf (pc := 28) (a := x0.toNat) D rfl rfl (nz_cls H.2.1 kc1 (by decide)) rfl kc1 rfl fun D =>
        j_ishl (pc := 31) D rfl fun D =>
        have D : fk_D 118 [(32, none, .invokestatic 108, 3, 2, 122, 5), (35, none, .putfield 15, 3, 145, 132, 12), (38, none, .return_, 1, 0, 0, 0)] := fq_of2 cd_118 ow_118 cl_118 rfl (pc := 32) (by decide +kernel)
        j_is (pc := 32) (m := 122) (a := [(4, h 145 x0.toNat 0), (0, sl_ v4 (h3 146 x0.toNat 0))]) (rest := [(4, x0)]) D rfl rfl rfl rfl (fun v7 h6 e1 D =>
          have T := fj_run_ok _ _ _ _ _ _ H.1 e1
          have kc1 := cls_st H.1 T.2 kc1 (by decide)
          have H := shp_st H T
          j_pf (pc := 35) (a := x0.toNat) D rfl rfl rfl kc1 rfl rfl gn (gy rfl) fun h9 eh9 S D =>
          have T := fj_hs_ok H.1 S
          have kc1 := cls_st H.1 T.2 kc1 (by decide)
          have H := shp_st H T
          j_vret D rt_118) (fun q8 h6 e1 =>
          j_tx (hx_118 _))) (fun q5 h3 e1 =>
        j_tx (hx_118 _))) (fun q =>
      have D : fk_D 118 [(38, none, .return_, 1, 0, 0, 0)] := fq_of2 cd_118 ow_118 cl_118 rfl (pc := 38) (by decide +kernel)
      j_vret D rt_118)
/-! 119 java/lang/AbstractStringBuilder.newCapacity(I)I -/
theorem cd_119 : fi_code 119 = prog_72_method_10_code := rfl
theorem hx_119 : ∀ pc, fi_hat 119 pc = none := fun pc => by unfold fi_hat; rw [show fi_hh 119 = [] from rfl]; rfl
theorem rt_119 : fi_ret 119 = some .int := rfl
theorem nl_119 : fi_nl 119 = 6 := rfl
theorem ow_119 : fi_ow 119 = 68 := rfl
theorem cl_119 : fj_cutT.getD 119 [] = [] := rfl
theorem m_119 (d : Nat) (x0 x1 : Int) {h : fi_H} {k0 : Int} (H : Shp h) (hk : h 0 x0.toNat 0 = k0) (hk0 : k0 ≠ 0) : fj_run (d + 1) 119 h [(4, x0), (0, x1)] =
  if h 0 x0.toNat 0 = 132 then
  if fk_isA (h 0 (h 145 x0.toNat 0).toNat 0) = true then
  lt_ (wI ((sl_ x1 (h 146 x0.toNat 0)) - (h 1 (h 145 x0.toNat 0).toNat 0))) fun y2 =>
  ca_ (fj_run d 120 h [(0, h 1 (h 145 x0.toNat 0).toNat 0), (0, y2), (0, wI ((h 1 (h 145 x0.toNat 0).toNat 0) + (sl_ 2 (h 146 x0.toNat 0))))]) 0
    (fun v4 h3 =>
    if v4 = 2147483647 then
      none
    else
      some (.inl (some (0, sr_ v4 (h3 146 x0.toNat 0))), h3))
    (fun q5 h3 => tx_ q5 h3)
  else none
  else none := by
  rw [fj_run_eq d (by decide) h [(4, x0), (0, x1)] (Nat.le_of_ble_eq_true (by rw [nl_119]; rfl))]
  show gG (fj_run d) 119 0 [(0, (4, x0)), (1, (0, x1))] [] h = _
  exact
    have D : fk_D 119 [(0, none, .aload_n 0, 1, 0, 0, 0), (1, none, .getfield 15, 3, 145, (-132), 12), (4, none, .arraylength, 1, 0, 0, 0), (5, none, .istore_n 2, 1, 0, 0, 0), (6, none, .iload_n 1, 1, 0, 0, 0), (7, none, .aload_n 0, 1, 0, 0, 0), (8, none, .getfield 22, 3, 146, 132, 8), (11, none, .ishl, 1, 0, 0, 0), (12, none, .istore_n 3, 1, 0, 0, 0), (13, none, .iload_n 3, 1, 0, 0, 0), (14, none, .iload_n 2, 1, 0, 0, 0), (15, none, .isub, 1, 0, 0, 0), (16, none, .istore 4, 2, 0, 0, 0), (18, none, .iload_n 2, 1, 0, 0, 0), (19, none, .iload 4, 2, 0, 0, 0), (21, none, .iload_n 2, 1, 0, 0, 0), (22, none, .iconst 2, 1, 0, 2, 0), (23, none, .aload_n 0, 1, 0, 0, 0), (24, none, .getfield 22, 3, 146, 132, 8), (27, none, .ishl, 1, 0, 0, 0)] := fq_of2 cd_119 ow_119 cl_119 rfl (pc := 0) (by decide +kernel)
    j_aldn (pc := 0) D rfl rfl rfl fun D =>
    j_gfo (pc := 1) H.2.1 D rfl rfl rfl rfl fun kc1 D =>
    j_lenu (pc := 4) H.2.1 D rfl fun q D =>
    j_istn (pc := 5) (L' := [(2, (0, h 1 (h 145 x0.toNat 0).toNat 0)), (0, (4, x0)), (1, (0, x1))]) D rfl nl_119 rfl rfl fun D =>
    j_ildn (pc := 6) D rfl rfl rfl fun D =>
    j_aldn (pc := 7) D rfl rfl rfl fun D =>
    j_gf (pc := 8) (a := x0.toNat) D rfl rfl (nz_cls H.2.1 kc1 (by decide)) rfl kc1 rfl fun D =>
    j_ishl (pc := 11) D rfl fun D =>
    j_istn (pc := 12) (L' := [(3, (0, sl_ x1 (h 146 x0.toNat 0))), (2, (0, h 1 (h 145 x0.toNat 0).toNat 0)), (0, (4, x0)), (1, (0, x1))]) D rfl nl_119 rfl rfl fun D =>
    j_ildn (pc := 13) D rfl rfl rfl fun D =>
    j_ildn (pc := 14) D rfl rfl rfl fun D =>
    j_isub (pc := 15) D rfl fun D =>
    j_stl (pc := 16) (L' := fun y2 => [(4, (0, y2)), (3, (0, sl_ x1 (h 146 x0.toNat 0))), (2, (0, h 1 (h 145 x0.toNat 0).toNat 0)), (0, (4, x0)), (1, (0, x1))]) D rfl ⟨rfl, rfl, rfl, rfl⟩ nl_119 rfl (fun _ => rfl) fun y2 ey2 D =>
    j_ildn (pc := 18) D rfl rfl rfl fun D =>
    j_ild (pc := 19) D rfl rfl rfl fun D =>
    j_ildn (pc := 21) D rfl rfl rfl fun D =>
    j_ic (pc := 22) D rfl fun D =>
    j_aldn (pc := 23) D rfl rfl rfl fun D =>
    j_gf (pc := 24) (a := x0.toNat) D rfl rfl (nz_cls H.2.1 kc1 (by decide)) rfl kc1 rfl fun D =>
    j_ishl (pc := 27) D rfl fun D =>
    have D : fk_D 119 [(28, none, .iadd, 1, 0, 0, 0), (29, none, .invokestatic 114, 3, 3, 120, 1), (32, none, .istore 5, 2, 0, 0, 0), (34, none, .iload 5, 2, 0, 0, 0), (36, none, .ldc 39, 2, 0, 2147483647, 0), (38, none, .if_icmp .ne 13, 3, 51, 0, 0)] := fq_of2 cd_119 ow_119 cl_119 rfl (pc := 28) (by decide +kernel)
    j_iadd (pc := 28) D rfl fun D =>
    j_is (pc := 29) (m := 120) (a := [(0, h 1 (h 145 x0.toNat 0).toNat 0), (0, y2), (0, wI ((h 1 (h 145 x0.toNat 0).toNat 0) + (sl_ 2 (h 146 x0.toNat 0))))]) (rest := []) D rfl rfl rfl rfl (fun v4 h3 e1 D =>
      have T := fj_run_ok _ _ _ _ _ _ H.1 e1
      have kc1 := cls_st H.1 T.2 kc1 (by decide)
      have H := shp_st H T
      j_ist (pc := 32) (L' := [(5, (0, v4)), (4, (0, y2)), (3, (0, sl_ x1 (h 146 x0.toNat 0))), (2, (0, h 1 (h 145 x0.toNat 0).toNat 0)), (0, (4, x0)), (1, (0, x1))]) D rfl nl_119 rfl rfl fun D =>
      j_ild (pc := 34) D rfl rfl rfl fun D =>
      j_ldc (pc := 36) D rfl fun D =>
      j_ine (pc := 38) D rfl (fun q D =>
        j_dead (ins := .new 120) (len := 3) (by decide +kernel : fk_dec prog_72_method_10_code 41 (.new 120) 3 = true) cd_119 rfl rfl (fun L => ⟨fk_dN (by decide +kernel) L, fun q => by cases q⟩)) (fun q =>
        have D : fk_D 119 [(51, none, .iload 5, 2, 0, 0, 0), (53, none, .aload_n 0, 1, 0, 0, 0), (54, none, .getfield 22, 3, 146, 132, 8), (57, none, .ishr, 1, 0, 0, 0), (58, none, .ireturn, 1, 0, 0, 0)] := fq_of2 cd_119 ow_119 cl_119 rfl (pc := 51) (by decide +kernel)
        j_ild (pc := 51) D rfl rfl rfl fun D =>
        j_aldn (pc := 53) D rfl rfl rfl fun D =>
        j_gf (pc := 54) (a := x0.toNat) D rfl rfl (nz_cls H.2.1 kc1 (by decide)) rfl kc1 rfl fun D =>
        j_ishr (pc := 57) D rfl fun D =>
        j_iret D rt_119)) (fun q5 h3 e1 =>
      j_tx (hx_119 _))
/-! 120 jdk/internal/util/ArraysSupport.newLength(III)I -/
theorem cd_120 : fi_code 120 = prog_103_method_27_code := rfl
theorem hx_120 : ∀ pc, fi_hat 120 pc = none := fun pc => by unfold fi_hat; rw [show fi_hh 120 = [] from rfl]; rfl
theorem rt_120 : fi_ret 120 = some .int := rfl
theorem nl_120 : fi_nl 120 = 4 := rfl
theorem ow_120 : fi_ow 120 = 83 := rfl
theorem cl_120 : fj_cutT.getD 120 [] = [(21, [0, 1])] := rfl
theorem cut_120_21 : fj_cut 120 21 = some [0, 1] := by decide +kernel
noncomputable def c_120_21 (d : Nat) (x0 x1 : Int) (h : fi_H) : fk_R := gG (fj_run d) 120 21 [(0, (0, x0)), (1, (0, x1))] [] h
theorem e_120_21 (d : Nat) (x0 x1 : Int) {h : fi_H} (H : Shp h) : c_120_21 d x0 x1 h =
  ca_ (fj_run d 121 h [(0, x0), (0, x1)]) 0
    (fun v2 h1 =>
    some (.inl (some (0, v2)), h1))
    (fun q3 h1 => tx_ q3 h1) := by
  unfold c_120_21
  exact
    have D : fk_D 120 [(21, some [0, 1], .iload_n 0, 1, 0, 0, 0), (22, none, .iload_n 1, 1, 0, 0, 0), (23, none, .invokestatic 201, 3, 2, 121, 1), (26, none, .ireturn, 1, 0, 0, 0)] := fq_of2 cd_120 ow_120 cl_120 rfl (pc := 21) (by decide +kernel)
    j_ildn (pc := 21) D rfl rfl rfl fun D =>
    j_ildn (pc := 22) D rfl rfl rfl fun D =>
    j_is (pc := 23) (m := 121) (a := [(0, x0), (0, x1)]) (rest := []) D rfl rfl rfl rfl (fun v2 h1 e1 D =>
      have T := fj_run_ok _ _ _ _ _ _ H.1 e1
      have H := shp_st H T
      j_iret D rt_120) (fun q3 h1 e1 =>
      j_tx (hx_120 _))
theorem m_120 (d : Nat) (x0 x1 x2 : Int) {h : fi_H} (H : Shp h) : fj_run (d + 1) 120 h [(0, x0), (0, x1), (0, x2)] =
  ca_ (fj_run d 6 h [(0, x1), (0, x2)]) 0
    (fun v2 h1 =>
    if 0 < wI (x0 + v2) then
      if 2147483639 < wI (x0 + v2) then
        c_120_21 d x0 x1 h1
      else
        some (.inl (some (0, wI (x0 + v2))), h1)
    else
      c_120_21 d x0 x1 h1)
    (fun q3 h1 => tx_ q3 h1) := by
  rw [fj_run_eq d (by decide) h [(0, x0), (0, x1), (0, x2)] (Nat.le_of_ble_eq_true (by rw [nl_120]; rfl))]
  show gG (fj_run d) 120 0 [(0, (0, x0)), (1, (0, x1)), (2, (0, x2))] [] h = _
  exact
    have D : fk_D 120 [(0, none, .iload_n 0, 1, 0, 0, 0), (1, none, .iload_n 1, 1, 0, 0, 0), (2, none, .iload_n 2, 1, 0, 0, 0), (3, none, .invokestatic 194, 3, 2, 6, 1), (6, none, .iadd, 1, 0, 0, 0), (7, none, .istore_n 3, 1, 0, 0, 0), (8, none, .iconst 0, 1, 0, 0, 0), (9, none, .iload_n 3, 1, 0, 0, 0), (10, none, .if_icmp .ge 11, 3, 21, 0, 0), (13, none, .iload_n 3, 1, 0, 0, 0), (14, none, .ldc 200, 2, 0, 2147483639, 0), (16, none, .if_icmp .gt 5, 3, 21, 0, 0), (19, none, .iload_n 3, 1, 0, 0, 0), (20, none, .ireturn, 1, 0, 0, 0)] := fq_of2 cd_120 ow_120 cl_120 rfl (pc := 0) (by decide +kernel)
    j_ildn (pc := 0) D rfl rfl rfl fun D =>
    j_ildn (pc := 1) D rfl rfl rfl fun D =>
    j_ildn (pc := 2) D rfl rfl rfl fun D =>
    j_is (pc := 3) (m := 6) (a := [(0, x1), (0, x2)]) (rest := [(0, x0)]) D rfl rfl rfl rfl (fun v2 h1 e1 D =>
      have T := fj_run_ok _ _ _ _ _ _ H.1 e1
      have H := shp_st H T
      j_iadd (pc := 6) D rfl fun D =>
      j_istn (pc := 7) (L' := [(3, (0, wI (x0 + v2))), (0, (0, x0)), (1, (0, x1)), (2, (0, x2))]) D rfl nl_120 rfl rfl fun D =>
      j_ic (pc := 8) D rfl fun D =>
      j_ildn (pc := 9) D rfl rfl rfl fun D =>
      j_ige (pc := 10) D rfl (fun q D =>
        j_ildn (pc := 13) D rfl rfl rfl fun D =>
        j_ldc (pc := 14) D rfl fun D =>
        j_igt (pc := 16) D rfl (fun q =>
          fk_jump cut_120_21 rfl rfl) (fun q D =>
          j_ildn (pc := 19) D rfl rfl rfl fun D =>
          j_iret D rt_120)) (fun q =>
        fk_jump cut_120_21 rfl rfl)) (fun q3 h1 e1 =>
      j_tx (hx_120 _))
/-! 121 jdk/internal/util/ArraysSupport.hugeLength(II)I -/
theorem cd_121 : fi_code 121 = prog_103_method_28_code := rfl
theorem hx_121 : ∀ pc, fi_hat 121 pc = none := fun pc => by unfold fi_hat; rw [show fi_hh 121 = [] from rfl]; rfl
theorem rt_121 : fi_ret 121 = some .int := rfl
theorem nl_121 : fi_nl 121 = 3 := rfl
theorem ow_121 : fi_ow 121 = 83 := rfl
theorem cl_121 : fj_cutT.getD 121 [] = [] := rfl
theorem m_121 (d : Nat) (x0 x1 : Int) {h : fi_H} (H : Shp h) : fj_run (d + 1) 121 h [(0, x0), (0, x1)] =
  if wI (x0 + x1) < 0 then
    none
  else
    if 2147483639 < wI (x0 + x1) then
      some (.inl (some (0, wI (x0 + x1))), h)
    else
      some (.inl (some (0, 2147483639)), h) := by
  rw [fj_run_eq d (by decide) h [(0, x0), (0, x1)] (Nat.le_of_ble_eq_true (by rw [nl_121]; rfl))]
  show gG (fj_run d) 121 0 [(0, (0, x0)), (1, (0, x1))] [] h = _
  exact
    have D : fk_D 121 [(0, none, .iload_n 0, 1, 0, 0, 0), (1, none, .iload_n 1, 1, 0, 0, 0), (2, none, .iadd, 1, 0, 0, 0), (3, none, .istore_n 2, 1, 0, 0, 0), (4, none, .iload_n 2, 1, 0, 0, 0), (5, none, .ifCond .ge 44, 3, 49, 0, 0)] := fq_of2 cd_121 ow_121 cl_121 rfl (pc := 0) (by decide +kernel)
    j_ildn (pc := 0) D rfl rfl rfl fun D =>
    j_ildn (pc := 1) D rfl rfl rfl fun D =>
    j_iadd (pc := 2) D rfl fun D =>
    j_istn (pc := 3) (L' := [(2, (0, wI (x0 + x1))), (0, (0, x0)), (1, (0, x1))]) D rfl nl_121 rfl rfl fun D =>
    j_ildn (pc := 4) D rfl rfl rfl fun D =>
    j_ifge (pc := 5) D rfl (fun q D =>
      j_dead (ins := .new 204) (len := 3) (by decide +kernel : fk_dec prog_103_method_28_code 8 (.new 204) 3 = true) cd_121 rfl rfl (fun L => ⟨fk_dN (by decide +kernel) L, fun q => by cases q⟩)) (fun q =>
      have D : fk_D 121 [(49, none, .iload_n 2, 1, 0, 0, 0), (50, none, .ldc 200, 2, 0, 2147483639, 0), (52, none, .if_icmp .gt 6, 3, 58, 0, 0), (55, none, .ldc 200, 2, 0, 2147483639, 0), (57, none, .ireturn, 1, 0, 0, 0)] := fq_of2 cd_121 ow_121 cl_121 rfl (pc := 49) (by decide +kernel)
      j_ildn (pc := 49) D rfl rfl rfl fun D =>
      j_ldc (pc := 50) D rfl fun D =>
      j_igt (pc := 52) D rfl (fun q =>
        have D : fk_D 121 [(58, none, .iload_n 2, 1, 0, 0, 0), (59, none, .ireturn, 1, 0, 0, 0)] := fq_of2 cd_121 ow_121 cl_121 rfl (pc := 58) (by decide +kernel)
        j_ildn (pc := 58) D rfl rfl rfl fun D =>
        j_iret D rt_121) (fun q D =>
        j_ldc (pc := 55) D rfl fun D =>
        j_iret D rt_121))
/-! 122 java/util/Arrays.copyOf([BI)[B -/
theorem cd_122 : fi_code 122 = prog_96_method_121_code := rfl
theorem hx_122 : ∀ pc, fi_hat 122 pc = none := fun pc => by unfold fi_hat; rw [show fi_hh 122 = [] from rfl]; rfl
theorem rt_122 : fj_ft (fi_ret 122) = 5 := rfl
theorem nl_122 : fi_nl 122 = 3 := rfl
theorem ow_122 : fi_ow 122 = 82 := rfl
theorem cl_122 : fj_cutT.getD 122 [] = [] := rfl
theorem m_122 (d : Nat) (x0 x1 : Int) {h : fi_H} (H : Shp h) : fj_run (d + 1) 122 h [(4, x0), (0, x1)] =
  if fk_isA (h 0 x0.toNat 0) = true then
  if x1 = h 1 x0.toNat 0 then
    dv_ (fi_vt 332 (h 0 x0.toNat 0)) fun m4 => ca_ (fj_run d m4 h [(4, x0)]) 4
      (fun v2 h1 =>
      if v2 = 0 ∨ (fi_sup (h1 0 v2.toNat 0)).contains 8 = true then
      some (.inl (some (4, v2)), h1)
      else none)
      (fun q3 h1 => tx_ q3 h1)
  else
    if 0 ≤ x1 ∧ x1 < 65536 then
    nw_ h 8 x1 x1 fun r5 h6 =>
    if fk_isA (h6 0 x0.toNat 0) = true then
    ca_ (fj_run d 7 h6 [(0, h6 1 x0.toNat 0), (0, x1)]) 0
      (fun v8 h7 =>
      cv_ (fj_run d 1000 h7 [(4, x0), (0, 0), (4, r5), (0, 0), (0, v8)])
        (fun h10 =>
        some (.inl (some (4, r5)), h10))
        (fun q12 h10 => tx_ q12 h10))
      (fun q9 h7 => tx_ q9 h7)
    else none
    else none
  else none := by
  rw [fj_run_eq d (by decide) h [(4, x0), (0, x1)] (Nat.le_of_ble_eq_true (by rw [nl_122]; rfl))]
  show gG (fj_run d) 122 0 [(0, (4, x0)), (1, (0, x1))] [] h = _
  exact
    have D : fk_D 122 [(0, none, .iload_n 1, 1, 0, 0, 0), (1, none, .aload_n 0, 1, 0, 0, 0), (2, none, .arraylength, 1, 0, 0, 0), (3, none, .if_icmp .ne 11, 3, 14, 0, 0), (6, none, .aload_n 0, 1, 0, 0, 0), (7, none, .invokevirtual 310, 3, 0, 332, 5), (10, none, .checkcast 311, 3, 8, 0, 0), (13, none, .areturn, 1, 0, 0, 0)] := fq_of2 cd_122 ow_122 cl_122 rfl (pc := 0) (by decide +kernel)
    j_ildn (pc := 0) D rfl rfl rfl fun D =>
    j_aldn (pc := 1) D rfl rfl rfl fun D =>
    j_lenu (pc := 2) H.2.1 D rfl fun q D =>
    j_ine (pc := 3) D rfl (fun q D =>
      j_aldn (pc := 6) D rfl rfl rfl fun D =>
      j_ivu (pc := 7) (dd := 332) (a := []) (rest := []) H.2.1 D rfl rfl rfl rfl rfl (fun m4 v2 h1 e1 D =>
        have T := fj_run_ok _ _ _ _ _ _ H.1 e1
        have H := shp_st H T
        j_cast (pc := 10) D rfl gn fun D =>
        j_aret D rt_122) (fun m4 q3 h1 e1 =>
        j_tx (hx_122 _))) (fun q =>
      have D : fk_D 122 [(14, none, .iload_n 1, 1, 0, 0, 0), (15, none, .newarray .byte, 2, 0, 0, 0), (17, none, .astore_n 2, 1, 0, 0, 0), (18, none, .aload_n 0, 1, 0, 0, 0), (19, none, .iconst 0, 1, 0, 0, 0), (20, none, .aload_n 2, 1, 0, 0, 0), (21, none, .iconst 0, 1, 0, 0, 0), (22, none, .aload_n 0, 1, 0, 0, 0), (23, none, .arraylength, 1, 0, 0, 0), (24, none, .iload_n 1, 1, 0, 0, 0), (25, none, .invokestatic 304, 3, 2, 7, 1), (28, none, .invokestatic 150, 3, 5, 1000, 0), (31, none, .aload_n 2, 1, 0, 0, 0), (32, none, .areturn, 1, 0, 0, 0)] := fq_of2 cd_122 ow_122 cl_122 rfl (pc := 14) (by decide +kernel)
      j_ildn (pc := 14) D rfl rfl rfl fun D =>
      j_na (pc := 15) (k := 8) (N := 65536) D rfl rfl rfl gn fun r5 h6 er eh6 S q D =>
      have gt_r5 := nw_gt H.1 er
      have kc_r5 := nw_cls H.1 er eh6
      have kl_r5 := nw_len H.1 er eh6
      have T := fj_hs_ok H.1 S
      have H := shp_st H T
      j_astn (pc := 17) (L' := [(2, (4, r5)), (0, (4, x0)), (1, (0, x1))]) D rfl nl_122 rfl rfl fun D =>
      j_aldn (pc := 18) D rfl rfl rfl fun D =>
      j_ic (pc := 19) D rfl fun D =>
      j_aldn (pc := 20) D rfl rfl rfl fun D =>
      j_ic (pc := 21) D rfl fun D =>
      j_aldn (pc := 22) D rfl rfl rfl fun D =>
      j_lenu (pc := 23) H.2.1 D rfl fun q D =>
      j_ildn (pc := 24) D rfl rfl rfl fun D =>
      j_is (pc := 25) (m := 7) (a := [(0, h6 1 x0.toNat 0), (0, x1)]) (rest := [(0, 0), (4, r5), (0, 0), (4, x0)]) D rfl rfl rfl rfl (fun v8 h7 e1 D =>
        have T := fj_run_ok _ _ _ _ _ _ H.1 e1
        have kl_r5 := len_st H.1 T.2 kc_r5 (by decide) kl_r5
        have kc_r5 := cls_st H.1 T.2 kc_r5 (by decide)
        have H := shp_st H T
        j_isv (pc := 28) (m := 1000) (a := [(4, x0), (0, 0), (4, r5), (0, 0), (0, v8)]) (rest := []) D rfl rfl rfl rfl (fun h10 e1 D =>
          have T := fj_run_ok _ _ _ _ _ _ H.1 e1
          have kl_r5 := len_st H.1 T.2 kc_r5 (by decide) kl_r5
          have kc_r5 := cls_st H.1 T.2 kc_r5 (by decide)
          have H := shp_st H T
          j_aldn (pc := 31) D rfl rfl rfl fun D =>
          j_aret D rt_122) (fun q12 h10 e1 =>
          j_tx (hx_122 _))) (fun q9 h7 e1 =>
        j_tx (hx_122 _)))
/-! 123 java/lang/AbstractStringBuilder.isLatin1()Z -/
theorem cd_123 : fi_code 123 = prog_72_method_68_code := rfl
theorem hx_123 : ∀ pc, fi_hat 123 pc = none := fun pc => by unfold fi_hat; rw [show fi_hh 123 = [] from rfl]; rfl
theorem rt_123 : fi_ret 123 = some .boolean := rfl
theorem nl_123 : fi_nl 123 = 1 := rfl
theorem ow_123 : fi_ow 123 = 68 := rfl
theorem cl_123 : fj_cutT.getD 123 [] = [] := rfl
theorem m_123 (d : Nat) (x0 : Int) {h : fi_H} {k0 : Int} (H : Shp h) (hk : h 0 x0.toNat 0 = k0) (hk0 : k0 ≠ 0) : fj_run (d + 1) 123 h [(4, x0)] =
  if h 0 x0.toNat 0 = 132 then
  if h 146 x0.toNat 0 = 0 then
    some (.inl (some (0, 1)), h)
  else
    some (.inl (some (0, 0)), h)
  else none := by
  rw [fj_run_eq d (by decide) h [(4, x0)] (Nat.le_of_ble_eq_true (by rw [nl_123]; rfl))]
  show gG (fj_run d) 123 0 [(0, (4, x0))] [] h = _
  exact
    have D : fk_D 123 [(0, none, .getstatic 18, 3, 0, 1, 0), (3, none, .ifCond .eq 14, 3, 17, 0, 0)] := fq_of2 cd_123 ow_123 cl_123 rfl (pc := 0) (by decide +kernel)
    j_gs (pc := 0) D rfl fun D =>
    j_known (pc := 3) D rfl rfl (pc' := 6) (st' := []) (by rfl) <|
    have D : fk_D 123 [(6, none, .aload_n 0, 1, 0, 0, 0), (7, none, .getfield 22, 3, 146, (-132), 8), (10, none, .ifCond .ne 7, 3, 17, 0, 0), (13, none, .iconst 1, 1, 0, 1, 0), (14, none, .goto 4, 3, 18, 0, 0)] := fq_of2 cd_123 ow_123 cl_123 rfl (pc := 6) (by decide +kernel)
    j_aldn (pc := 6) D rfl rfl rfl fun D =>
    j_gfo (pc := 7) H.2.1 D rfl rfl rfl rfl fun kc1 D =>
    j_ifne (pc := 10) D rfl (fun q D =>
      j_ic (pc := 13) D rfl fun D =>
      j_goto (pc := 14) D rfl <|
      have D : fk_D 123 [(18, none, .ireturn, 1, 0, 0, 0)] := fq_of2 cd_123 ow_123 cl_123 rfl (pc := 18) (by decide +kernel)
      j_zret D rt_123 (gy (by decide))) (fun q =>
      have D : fk_D 123 [(17, none, .iconst 0, 1, 0, 0, 0), (18, none, .ireturn, 1, 0, 0, 0)] := fq_of2 cd_123 ow_123 cl_123 rfl (pc := 17) (by decide +kernel)
      j_ic (pc := 17) D rfl fun D =>
      j_zret D rt_123 (gy (by decide)))
/-! 124 java/lang/StringLatin1.fillNull([BII)V -/
theorem cd_124 : fi_code 124 = prog_88_method_48_code := rfl
theorem hx_124 : ∀ pc, fi_hat 124 pc = none := fun pc => by unfold fi_hat; rw [show fi_hh 124 = [] from rfl]; rfl
theorem rt_124 : fi_ret 124 = none := rfl
theorem nl_124 : fi_nl 124 = 3 := rfl
theorem ow_124 : fi_ow 124 = 79 := rfl
theorem cl_124 : fj_cutT.getD 124 [] = [] := rfl
theorem m_124 (d : Nat) (x0 x1 x2 : Int) {h : fi_H} (H : Shp h) : fj_run (d + 1) 124 h [(4, x0), (0, x1), (0, x2)] =
  cv_ (fj_run d 125 h [(4, x0), (0, x1), (0, x2), (0, 0)])
    (fun h1 =>
    some (.inl none, h1))
    (fun q3 h1 => tx_ q3 h1) := by
  rw [fj_run_eq d (by decide) h [(4, x0), (0, x1), (0, x2)] (Nat.le_of_ble_eq_true (by rw [nl_124]; rfl))]
  show gG (fj_run d) 124 0 [(0, (4, x0)), (1, (0, x1)), (2, (0, x2))] [] h = _
  exact
    have D : fk_D 124 [(0, none, .aload_n 0, 1, 0, 0, 0), (1, none, .iload_n 1, 1, 0, 0, 0), (2, none, .iload_n 2, 1, 0, 0, 0), (3, none, .iconst 0, 1, 0, 0, 0), (4, none, .invokestatic 236, 3, 4, 125, 0), (7, none, .return_, 1, 0, 0, 0)] := fq_of2 cd_124 ow_124 cl_124 rfl (pc := 0) (by decide +kernel)
    j_aldn (pc := 0) D rfl rfl rfl fun D =>
    j_ildn (pc := 1) D rfl rfl rfl fun D =>
    j_ildn (pc := 2) D rfl rfl rfl fun D =>
    j_ic (pc := 3) D rfl fun D =>
    j_isv (pc := 4) (m := 125) (a := [(4, x0), (0, x1), (0, x2), (0, 0)]) (rest := []) D rfl rfl rfl rfl (fun h1 e1 D =>
      have T := fj_run_ok _ _ _ _ _ _ H.1 e1
      have H := shp_st H T
      j_vret D rt_124) (fun q3 h1 e1 =>
      j_tx (hx_124 _))
/-! 125 java/util/Arrays.fill([BIIB)V -/
theorem cd_125 : fi_code 125 = prog_96_method_110_code := rfl
theorem hx_125 : ∀ pc, fi_hat 125 pc = none := fun pc => by unfold fi_hat; rw [show fi_hh 125 = [] from rfl]; rfl
theorem rt_125 : fi_ret 125 = none := rfl
theorem nl_125 : fi_nl 125 = 5 := rfl
theorem ow_125 : fi_ow 125 = 82 := rfl
theorem cl_125 : fj_cutT.getD 125 [] = [(10, [0, 2, 3, 4])] := rfl
theorem cut_125_10 : fj_cut 125 10 = some [0, 2, 3, 4] := by decide +kernel
noncomputable def c_125_10 (d : Nat) (x0 x2 x3 x4 : Int) (h : fi_H) : fk_R := gG (fj_run d) 125 10 [(0, (4, x0)), (2, (0, x2)), (3, (0, x3)), (4, (0, x4))] [] h
theorem e_125_10 (d : Nat) (x0 x2 x3 x4 : Int) {h : fi_H} (H : Shp h) : c_125_10 d x0 x2 x3 x4 h =
  if x4 < x2 then
    if 302 < x0 ∧ fi_et 1 (h 0 x0.toNat 0) ≠ 0 then
    if 0 ≤ x4 ∧ x4 < h 1 x0.toNat 0 then
    if fi_rg (fi_et 1 (h 0 x0.toNat 0)) x3 = true then
    lt_ (fi_upd h (fi_et 1 (h 0 x0.toNat 0)) x0.toNat x4.toNat x3) fun h1 =>
    c_125_10 d x0 x2 x3 (wI (x4 + 1)) h1
    else none
    else none
    else none
  else
    some (.inl none, h) := by
  unfold c_125_10
  exact
    have D : fk_D 125 [(10, some [0, 2, 3, 4], .iload 4, 2, 0, 0, 0), (12, none, .iload_n 2, 1, 0, 0, 0), (13, none, .if_icmp .ge 14, 3, 27, 0, 0), (16, none, .aload_n 0, 1, 0, 0, 0), (17, none, .iload 4, 2, 0, 0, 0), (19, none, .iload_n 3, 1, 0, 0, 0), (20, none, .bastore, 1, 0, 0, 0), (21, none, .iinc 4 1, 3, 0, 1, 0), (24, none, .goto (-14), 3, 10, 0, 0)] := fq_of2 cd_125 ow_125 cl_125 rfl (pc := 10) (by decide +kernel)
    j_ild (pc := 10) D rfl rfl rfl fun D =>
    j_ildn (pc := 12) D rfl rfl rfl fun D =>
    j_ige (pc := 13) D rfl (fun q D =>
      j_aldn (pc := 16) D rfl rfl rfl fun D =>
      j_ild (pc := 17) D rfl rfl rfl fun D =>
      j_ildn (pc := 19) D rfl rfl rfl fun D =>
      j_asub (pc := 20) D rfl rfl gn gn gn fun h1 eh1 S q q2 D =>
      have T := fj_hs_ok H.1 S
      have H := shp_st H T
      j_inc (pc := 21) (L' := [(4, (0, wI (x4 + 1))), (0, (4, x0)), (2, (0, x2)), (3, (0, x3))]) D rfl rfl rfl (by decide +kernel) rfl fun D =>
      j_goto (pc := 24) D rfl <|
      fk_jump cut_125_10 rfl rfl) (fun q =>
      have D : fk_D 125 [(27, none, .return_, 1, 0, 0, 0)] := fq_of2 cd_125 ow_125 cl_125 rfl (pc := 27) (by decide +kernel)
      j_vret D rt_125)
theorem m_125 (d : Nat) (x0 x1 x2 x3 : Int) {h : fi_H} (H : Shp h) : fj_run (d + 1) 125 h [(4, x0), (0, x1), (0, x2), (0, x3)] =
  if fk_isA (h 0 x0.toNat 0) = true then
  cv_ (fj_run d 126 h [(0, h 1 x0.toNat 0), (0, x1), (0, x2)])
    (fun h1 =>
    c_125_10 d x0 x2 x3 x1 h1)
    (fun q3 h1 => tx_ q3 h1)
  else none := by
  rw [fj_run_eq d (by decide) h [(4, x0), (0, x1), (0, x2), (0, x3)] (Nat.le_of_ble_eq_true (by rw [nl_125]; rfl))]
  show gG (fj_run d) 125 0 [(0, (4, x0)), (1, (0, x1)), (2, (0, x2)), (3, (0, x3))] [] h = _
  exact
    have D : fk_D 125 [(0, none, .aload_n 0, 1, 0, 0, 0), (1, none, .arraylength, 1, 0, 0, 0), (2, none, .iload_n 1, 1, 0, 0, 0), (3, none, .iload_n 2, 1, 0, 0, 0), (4, none, .invokestatic 13, 3, 3, 126, 0), (7, none, .iload_n 1, 1, 0, 0, 0), (8, none, .istore 4, 2, 0, 0, 0)] := fq_of2 cd_125 ow_125 cl_125 rfl (pc := 0) (by decide +kernel)
    j_aldn (pc := 0) D rfl rfl rfl fun D =>
    j_lenu (pc := 1) H.2.1 D rfl fun q D =>
    j_ildn (pc := 2) D rfl rfl rfl fun D =>
    j_ildn (pc := 3) D rfl rfl rfl fun D =>
    j_isv (pc := 4) (m := 126) (a := [(0, h 1 x0.toNat 0), (0, x1), (0, x2)]) (rest := []) D rfl rfl rfl rfl (fun h1 e1 D =>
      have T := fj_run_ok _ _ _ _ _ _ H.1 e1
      have H := shp_st H T
      j_ildn (pc := 7) D rfl rfl rfl fun D =>
      j_ist (pc := 8) (L' := [(4, (0, x1)), (0, (4, x0)), (1, (0, x1)), (2, (0, x2)), (3, (0, x3))]) D rfl nl_125 rfl rfl fun D =>
      fk_jump cut_125_10 rfl rfl) (fun q3 h1 e1 =>
      j_tx (hx_125 _))
/-! 126 java/util/Arrays.rangeCheck(III)V -/
theorem cd_126 : fi_code 126 = prog_96_method_30_code := rfl
theorem hx_126 : ∀ pc, fi_hat 126 pc = none := fun pc => by unfold fi_hat; rw [show fi_hh 126 = [] from rfl]; rfl
theorem rt_126 : fi_ret 126 = none := rfl
theorem nl_126 : fi_nl 126 = 3 := rfl
theorem ow_126 : fi_ow 126 = 82 := rfl
theorem cl_126 : fj_cutT.getD 126 [] = [] := rfl
theorem m_126 (d : Nat) (x0 x1 x2 : Int) {h : fi_H} (H : Shp h) : fj_run (d + 1) 126 h [(0, x0), (0, x1), (0, x2)] =
  if x2 < x1 then
    none
  else
    if x1 < 0 then
      none
    else
      if x0 < x2 then
        none
      else
        some (.inl none, h) := by
  rw [fj_run_eq d (by decide) h [(0, x0), (0, x1), (0, x2)] (Nat.le_of_ble_eq_true (by rw [nl_126]; rfl))]
  show gG (fj_run d) 126 0 [(0, (0, x0)), (1, (0, x1)), (2, (0, x2))] [] h = _
  exact
    have D : fk_D 126 [(0, none, .iload_n 1, 1, 0, 0, 0), (1, none, .iload_n 2, 1, 0, 0, 0), (2, none, .if_icmp .le 44, 3, 46, 0, 0)] := fq_of2 cd_126 ow_126 cl_126 rfl (pc := 0) (by decide +kernel)
    j_ildn (pc := 0) D rfl rfl rfl fun D =>
    j_ildn (pc := 1) D rfl rfl rfl fun D =>
    j_ile (pc := 2) D rfl (fun q D =>
      j_dead (ins := .new 43) (len := 3) (by decide +kernel : fk_dec prog_96_method_30_code 5 (.new 43) 3 = true) cd_126 rfl rfl (fun L => ⟨fk_dN (by decide +kernel) L, fun q => by cases q⟩)) (fun q =>
      have D : fk_D 126 [(46, none, .iload_n 1, 1, 0, 0, 0), (47, none, .ifCond .ge 12, 3, 59, 0, 0)] := fq_of2 cd_126 ow_126 cl_126 rfl (pc := 46) (by decide +kernel)
      j_ildn (pc := 46) D rfl rfl rfl fun D =>
      j_ifge (pc := 47) D rfl (fun q D =>
        j_dead (ins := .new 68) (len := 3) (by decide +kernel : fk_dec prog_96_method_30_code 50 (.new 68) 3 = true) cd_126 rfl rfl (fun L => ⟨fk_dN (by decide +kernel) L, fun q => by cases q⟩)) (fun q =>
        have D : fk_D 126 [(59, none, .iload_n 2, 1, 0, 0, 0), (60, none, .iload_n 0, 1, 0, 0, 0), (61, none, .if_icmp .le 12, 3, 73, 0, 0)] := fq_of2 cd_126 ow_126 cl_126 rfl (pc := 59) (by decide +kernel)
        j_ildn (pc := 59) D rfl rfl rfl fun D =>
        j_ildn (pc := 60) D rfl rfl rfl fun D =>
        j_ile (pc := 61) D rfl (fun q D =>
          j_dead (ins := .new 68) (len := 3) (by decide +kernel : fk_dec prog_96_method_30_code 64 (.new 68) 3 = true) cd_126 rfl rfl (fun L => ⟨fk_dN (by decide +kernel) L, fun q => by cases q⟩)) (fun q =>
          have D : fk_D 126 [(73, none, .return_, 1, 0, 0, 0)] := fq_of2 cd_126 ow_126 cl_126 rfl (pc := 73) (by decide +kernel)
          j_vret D rt_126)))
/-! 127 java/lang/StringUTF16.fillNull([BII)V -/
theorem cd_127 : fi_code 127 = prog_89_method_70_code := rfl
theorem hx_127 : ∀ pc, fi_hat 127 pc = none := fun pc => by unfold fi_hat; rw [show fi_hh 127 = [] from rfl]; rfl
theorem rt_127 : fi_ret 127 = none := rfl
theorem nl_127 : fi_nl 127 = 3 := rfl
theorem ow_127 : fi_ow 127 = 80 := rfl
theorem cl_127 : fj_cutT.getD 127 [] = [] := rfl
theorem m_127 (d : Nat) (x0 x1 x2 : Int) {h : fi_H} (H : Shp h) : fj_run (d + 1) 127 h [(4, x0), (0, x1), (0, x2)] =
  cv_ (fj_run d 125 h [(4, x0), (0, sl_ x1 1), (0, sl_ x2 1), (0, 0)])
    (fun h1 =>
    some (.inl none, h1))
    (fun q3 h1 => tx_ q3 h1) := by
  rw [fj_run_eq d (by decide) h [(4, x0), (0, x1), (0, x2)] (Nat.le_of_ble_eq_true (by rw [nl_127]; rfl))]
  show gG (fj_run d) 127 0 [(0, (4, x0)), (1, (0, x1)), (2, (0, x2))] [] h = _
  exact
    have D : fk_D 127 [(0, none, .aload_n 0, 1, 0, 0, 0), (1, none, .iload_n 1, 1, 0, 0, 0), (2, none, .iconst 1, 1, 0, 1, 0), (3, none, .ishl, 1, 0, 0, 0), (4, none, .iload_n 2, 1, 0, 0, 0), (5, none, .iconst 1, 1, 0, 1, 0), (6, none, .ishl, 1, 0, 0, 0), (7, none, .iconst 0, 1, 0, 0, 0), (8, none, .invokestatic 380, 3, 4, 125, 0), (11, none, .return_, 1, 0, 0, 0)] := fq_of2 cd_127 ow_127 cl_127 rfl (pc := 0) (by decide +kernel)
    j_aldn (pc := 0) D rfl rfl rfl fun D =>
    j_ildn (pc := 1) D rfl rfl rfl fun D =>
    j_ic (pc := 2) D rfl fun D =>
    j_ishl (pc := 3) D rfl fun D =>
    j_ildn (pc := 4) D rfl rfl rfl fun D =>
    j_ic (pc := 5) D rfl fun D =>
    j_ishl (pc := 6) D rfl fun D =>
    j_ic (pc := 7) D rfl fun D =>
    j_isv (pc := 8) (m := 125) (a := [(4, x0), (0, sl_ x1 1), (0, sl_ x2 1), (0, 0)]) (rest := []) D rfl rfl rfl rfl (fun h1 e1 D =>
      have T := fj_run_ok _ _ _ _ _ _ H.1 e1
      have H := shp_st H T
      j_vret D rt_127) (fun q3 h1 e1 =>
      j_tx (hx_127 _))
/-! 128 StatuteHouse$Reader.isDigit(I)Z -/
theorem cd_128 : fi_code 128 = prog_53_method_4_code := rfl
theorem hx_128 : ∀ pc, fi_hat 128 pc = none := fun pc => by unfold fi_hat; rw [show fi_hh 128 = [] from rfl]; rfl
theorem rt_128 : fi_ret 128 = some .boolean := rfl
theorem nl_128 : fi_nl 128 = 2 := rfl
theorem ow_128 : fi_ow 128 = 15 := rfl
theorem cl_128 : fj_cutT.getD 128 [] = [] := rfl
theorem m_128 (d : Nat) (x1 : Int) {h : fi_H} (H : Shp h) : fj_run (d + 1) 128 h [(4, 377), (0, x1)] =
  if x1 < 48 then
    some (.inl (some (0, 0)), h)
  else
    if 57 < x1 then
      some (.inl (some (0, 0)), h)
    else
      some (.inl (some (0, 1)), h) := by
  rw [fj_run_eq d (by decide) h [(4, 377), (0, x1)] (Nat.le_of_ble_eq_true (by rw [nl_128]; rfl))]
  show gG (fj_run d) 128 0 [(0, (4, 377)), (1, (0, x1))] [] h = _
  exact
    have D : fk_D 128 [(0, none, .iload_n 1, 1, 0, 0, 0), (1, none, .bipush 48, 2, 0, 48, 0), (3, none, .if_icmp .lt 13, 3, 16, 0, 0), (6, none, .iload_n 1, 1, 0, 0, 0), (7, none, .bipush 57, 2, 0, 57, 0), (9, none, .if_icmp .gt 7, 3, 16, 0, 0), (12, none, .iconst 1, 1, 0, 1, 0), (13, none, .goto 4, 3, 17, 0, 0)] := fq_of2 cd_128 ow_128 cl_128 rfl (pc := 0) (by decide +kernel)
    j_ildn (pc := 0) D rfl rfl rfl fun D =>
    j_bp (pc := 1) D rfl fun D =>
    j_ilt (pc := 3) D rfl (fun q =>
      have D : fk_D 128 [(16, none, .iconst 0, 1, 0, 0, 0), (17, none, .ireturn, 1, 0, 0, 0)] := fq_of2 cd_128 ow_128 cl_128 rfl (pc := 16) (by decide +kernel)
      j_ic (pc := 16) D rfl fun D =>
      j_zret D rt_128 (gy (by decide))) (fun q D =>
      j_ildn (pc := 6) D rfl rfl rfl fun D =>
      j_bp (pc := 7) D rfl fun D =>
      j_igt (pc := 9) D rfl (fun q =>
        have D : fk_D 128 [(16, none, .iconst 0, 1, 0, 0, 0), (17, none, .ireturn, 1, 0, 0, 0)] := fq_of2 cd_128 ow_128 cl_128 rfl (pc := 16) (by decide +kernel)
        j_ic (pc := 16) D rfl fun D =>
        j_zret D rt_128 (gy (by decide))) (fun q D =>
        j_ic (pc := 12) D rfl fun D =>
        j_goto (pc := 13) D rfl <|
        have D : fk_D 128 [(17, none, .ireturn, 1, 0, 0, 0)] := fq_of2 cd_128 ow_128 cl_128 rfl (pc := 17) (by decide +kernel)
        j_zret D rt_128 (gy (by decide))))
/-! 129 java/lang/StringBuilder.append(C)Ljava/lang/StringBuilder; -/
theorem cd_129 : fi_code 129 = prog_87_method_14_code := rfl
theorem hx_129 : ∀ pc, fi_hat 129 pc = none := fun pc => by unfold fi_hat; rw [show fi_hh 129 = [] from rfl]; rfl
theorem rt_129 : fj_ft (fi_ret 129) = 5 := rfl
theorem nl_129 : fi_nl 129 = 2 := rfl
theorem ow_129 : fi_ow 129 = 32 := rfl
theorem cl_129 : fj_cutT.getD 129 [] = [] := rfl
theorem m_129 (d : Nat) (x0 x1 : Int) {h : fi_H} (H : Shp h) (hk : h 0 x0.toNat 0 = 132) : fj_run (d + 1) 129 h [(4, x0), (0, x1)] =
  ca_ (fj_run d 130 h [(4, x0), (0, x1)]) 4
    (fun v2 h1 =>
    some (.inl (some (4, x0)), h1))
    (fun q3 h1 => tx_ q3 h1) := by
  rw [fj_run_eq d (by decide) h [(4, x0), (0, x1)] (Nat.le_of_ble_eq_true (by rw [nl_129]; rfl))]
  show gG (fj_run d) 129 0 [(0, (4, x0)), (1, (0, x1))] [] h = _
  exact
    have D : fk_D 129 [(0, none, .aload_n 0, 1, 0, 0, 0), (1, none, .iload_n 1, 1, 0, 0, 0), (2, none, .invokespecial 50, 3, 1, 130, 5), (5, none, .pop, 1, 0, 0, 0), (6, none, .aload_n 0, 1, 0, 0, 0), (7, none, .areturn, 1, 0, 0, 0)] := fq_of2 cd_129 ow_129 cl_129 rfl (pc := 0) (by decide +kernel)
    j_aldn (pc := 0) D rfl rfl rfl fun D =>
    j_ildn (pc := 1) D rfl rfl rfl fun D =>
    j_sp_ (pc := 2) (m := 130) (a := [(0, x1)]) (rest := []) D rfl rfl rfl rfl (by rw [show h 0 x0.toNat 0 = 132 from hk]; decide) (nz_cls H.2.1 hk (by decide)) (fun v2 h1 e1 D =>
      have T := fj_run_ok _ _ _ _ _ _ H.1 e1
      have hk := cls_st H.1 T.2 hk (by decide)
      have H := shp_st H T
      j_sh (pc := 5) D rfl rfl rfl fun D =>
      j_aldn (pc := 6) D rfl rfl rfl fun D =>
      j_aret D rt_129) (fun q3 h1 e1 =>
      j_tx (hx_129 _))
/-! 130 java/lang/AbstractStringBuilder.append(C)Ljava/lang/AbstractStringBuilder; -/
theorem cd_130 : fi_code 130 = prog_72_method_31_code := rfl
theorem hx_130 : ∀ pc, fi_hat 130 pc = none := fun pc => by unfold fi_hat; rw [show fi_hh 130 = [] from rfl]; rfl
theorem rt_130 : fj_ft (fi_ret 130) = 5 := rfl
theorem nl_130 : fi_nl 130 = 2 := rfl
theorem ow_130 : fi_ow 130 = 68 := rfl
theorem cl_130 : fj_cutT.getD 130 [] = [(45, [0, 1]), (56, [0, 1])] := rfl
theorem cut_130_45 : fj_cut 130 45 = some [0, 1] := by decide +kernel
noncomputable def c_130_45 (d : Nat) (x0 x1 : Int) (h : fi_H) : fk_R := gG (fj_run d) 130 45 [(0, (4, x0)), (1, (0, x1))] [] h
theorem cut_130_56 : fj_cut 130 56 = some [0, 1] := by decide +kernel
noncomputable def c_130_56 (d : Nat) (x0 x1 : Int) (h : fi_H) : fk_R := gG (fj_run d) 130 56 [(0, (4, x0)), (1, (0, x1))] [] h
theorem e_130_45 (d : Nat) (x0 x1 : Int) {h : fi_H} {k0 : Int} (H : Shp h) (hk : h 0 x0.toNat 0 = k0) (hk0 : k0 ≠ 0) : c_130_45 d x0 x1 h =
  dv_ (fi_vt 209 (h 0 x0.toNat 0)) fun m4 => ca_ (fj_run d m4 h [(4, x0)]) 0
    (fun v2 h1 =>
    if v2 = 0 then
      c_130_56 d x0 x1 h1
    else
      dv_ (fi_vt 330 (h1 0 x0.toNat 0)) fun m8 => cv_ (fj_run d m8 h1 [(4, x0)])
        (fun h5 =>
        c_130_56 d x0 x1 h5)
        (fun q7 h5 => tx_ q7 h5))
    (fun q3 h1 => tx_ q3 h1) := by
  unfold c_130_45
  exact
    have D : fk_D 130 [(45, some [0, 1], .aload_n 0, 1, 0, 0, 0), (46, none, .invokevirtual 83, 3, 0, 209, 1), (49, none, .ifCond .eq 7, 3, 56, 0, 0), (52, none, .aload_n 0, 1, 0, 0, 0), (53, none, .invokevirtual 195, 3, 0, 330, 0)] := fq_of2 cd_130 ow_130 cl_130 rfl (pc := 45) (by decide +kernel)
    j_aldn (pc := 45) D rfl rfl rfl fun D =>
    j_ivu (pc := 46) (dd := 209) (a := []) (rest := []) H.2.1 D rfl rfl rfl rfl rfl (fun m4 v2 h1 e1 D =>
      have T := fj_run_ok _ _ _ _ _ _ H.1 e1
      have hk := cls_st H.1 T.2 hk hk0
      have H := shp_st H T
      j_ifeq (pc := 49) D rfl (fun q =>
        fk_jump cut_130_56 rfl rfl) (fun q D =>
        j_aldn (pc := 52) D rfl rfl rfl fun D =>
        j_ivuv (pc := 53) (dd := 330) (a := []) (rest := []) H.2.1 D rfl rfl rfl rfl rfl (fun m8 h5 e1 D =>
          have T := fj_run_ok _ _ _ _ _ _ H.1 e1
          have hk := cls_st H.1 T.2 hk hk0
          have H := shp_st H T
          fk_jump cut_130_56 rfl rfl) (fun m8 q7 h5 e1 =>
          j_tx (hx_130 _)))) (fun m4 q3 h1 e1 =>
      j_tx (hx_130 _))
theorem e_130_56 (d : Nat) (x0 x1 : Int) {h : fi_H} {k0 : Int} (H : Shp h) (hk : h 0 x0.toNat 0 = k0) (hk0 : k0 ≠ 0) : c_130_56 d x0 x1 h =
  if h 0 x0.toNat 0 = 132 then
  if 302 < x0 then
  lt_ (fi_upd h 148 x0.toNat 0 (wI ((h 148 x0.toNat 0) + 1))) fun h2 =>
  cv_ (fj_run d 139 h2 [(4, h 145 x0.toNat 0), (0, h 148 x0.toNat 0), (0, x1)])
    (fun h3 =>
    some (.inl (some (4, x0)), h3))
    (fun q5 h3 => tx_ q5 h3)
  else none
  else none := by
  unfold c_130_56
  exact
    have D : fk_D 130 [(56, some [0, 1], .aload_n 0, 1, 0, 0, 0), (57, none, .getfield 15, 3, 145, (-132), 12), (60, none, .aload_n 0, 1, 0, 0, 0), (61, none, .dup, 1, 0, 0, 0), (62, none, .getfield 79, 3, 148, 132, 10), (65, none, .dup_x1, 1, 0, 0, 0), (66, none, .iconst 1, 1, 0, 1, 0), (67, none, .iadd, 1, 0, 0, 0), (68, none, .putfield 79, 3, 148, 132, 10), (71, none, .iload_n 1, 1, 0, 0, 0), (72, none, .invokestatic 197, 3, 3, 139, 0), (75, none, .aload_n 0, 1, 0, 0, 0), (76, none, .areturn, 1, 0, 0, 0)] := fq_of2 cd_130 ow_130 cl_130 rfl (pc := 56) (by decide +kernel)
    j_aldn (pc := 56) D rfl rfl rfl fun D =>
    j_gfo (pc := 57) H.2.1 D rfl rfl rfl rfl fun kc1 D =>
    j_aldn (pc := 60) D rfl rfl rfl fun D =>
    j_sh (pc := 61) D rfl rfl rfl fun D =>
    j_gf (pc := 62) (a := x0.toNat) D rfl rfl (nz_cls H.2.1 kc1 (by decide)) rfl kc1 rfl fun D =>
    j_sh (pc := 65) D rfl rfl rfl fun D =>
    j_ic (pc := 66) D rfl fun D =>
    j_iadd (pc := 67) D rfl fun D =>
    j_pf (pc := 68) (a := x0.toNat) D rfl rfl rfl kc1 rfl rfl gn (gy rfl) fun h2 eh2 S D =>
    have T := fj_hs_ok H.1 S
    have kc1 := cls_st H.1 T.2 kc1 (by decide)
    have H := shp_st H T
    j_ildn (pc := 71) D rfl rfl rfl fun D =>
    j_isv (pc := 72) (m := 139) (a := [(4, h 145 x0.toNat 0), (0, h 148 x0.toNat 0), (0, x1)]) (rest := []) D rfl rfl rfl rfl (fun h3 e1 D =>
      have T := fj_run_ok _ _ _ _ _ _ H.1 e1
      have kc1 := cls_st H.1 T.2 kc1 (by decide)
      have H := shp_st H T
      j_aldn (pc := 75) D rfl rfl rfl fun D =>
      j_aret D rt_130) (fun q5 h3 e1 =>
      j_tx (hx_130 _))
theorem m_130 (d : Nat) (x0 x1 : Int) {h : fi_H} {k0 : Int} (H : Shp h) (hk : h 0 x0.toNat 0 = k0) (hk0 : k0 ≠ 0) : fj_run (d + 1) 130 h [(4, x0), (0, x1)] =
  if h 0 x0.toNat 0 = 132 then
  cv_ (fj_run d 118 h [(4, x0), (0, wI ((h 148 x0.toNat 0) + 1))])
    (fun h2 =>
    ca_ (fj_run d 123 h2 [(4, x0)]) 0
      (fun v6 h5 =>
      if v6 = 0 then
        c_130_45 d x0 x1 h5
      else
        ca_ (fj_run d 131 h5 [(0, x1)]) 0
          (fun v9 h8 =>
          if v9 = 0 then
            c_130_45 d x0 x1 h8
          else
            if 302 < x0 then
            lt_ (fi_upd h8 148 x0.toNat 0 (wI ((h8 148 x0.toNat 0) + 1))) fun h11 =>
            if 302 < h8 145 x0.toNat 0 ∧ fi_et 1 (h11 0 (h8 145 x0.toNat 0).toNat 0) ≠ 0 then
            if 0 ≤ h8 148 x0.toNat 0 ∧ h8 148 x0.toNat 0 < h11 1 (h8 145 x0.toNat 0).toNat 0 then
            if fi_rg (fi_et 1 (h11 0 (h8 145 x0.toNat 0).toNat 0)) (wB x1) = true then
            lt_ (fi_upd h11 (fi_et 1 (h11 0 (h8 145 x0.toNat 0).toNat 0)) (h8 145 x0.toNat 0).toNat (h8 148 x0.toNat 0).toNat (wB x1)) fun h12 =>
            some (.inl (some (4, x0)), h12)
            else none
            else none
            else none
            else none)
          (fun q10 h8 => tx_ q10 h8))
      (fun q7 h5 => tx_ q7 h5))
    (fun q4 h2 => tx_ q4 h2)
  else none := by
  rw [fj_run_eq d (by decide) h [(4, x0), (0, x1)] (Nat.le_of_ble_eq_true (by rw [nl_130]; rfl))]
  show gG (fj_run d) 130 0 [(0, (4, x0)), (1, (0, x1))] [] h = _
  exact
    have D : fk_D 130 [(0, none, .aload_n 0, 1, 0, 0, 0), (1, none, .aload_n 0, 1, 0, 0, 0), (2, none, .getfield 79, 3, 148, (-132), 10), (5, none, .iconst 1, 1, 0, 1, 0), (6, none, .iadd, 1, 0, 0, 0), (7, none, .invokevirtual 100, 3, 1, 328, 0), (10, none, .aload_n 0, 1, 0, 0, 0), (11, none, .invokevirtual 83, 3, 0, 209, 1), (14, none, .ifCond .eq 31, 3, 45, 0, 0), (17, none, .iload_n 1, 1, 0, 0, 0), (18, none, .invokestatic 191, 3, 1, 131, 1), (21, none, .ifCond .eq 24, 3, 45, 0, 0), (24, none, .aload_n 0, 1, 0, 0, 0), (25, none, .getfield 15, 3, 145, 132, 12), (28, none, .aload_n 0, 1, 0, 0, 0), (29, none, .dup, 1, 0, 0, 0), (30, none, .getfield 79, 3, 148, 132, 10), (33, none, .dup_x1, 1, 0, 0, 0), (34, none, .iconst 1, 1, 0, 1, 0), (35, none, .iadd, 1, 0, 0, 0)] := fq_of2 cd_130 ow_130 cl_130 rfl (pc := 0) (by decide +kernel)
    j_aldn (pc := 0) D rfl rfl rfl fun D =>
    j_aldn (pc := 1) D rfl rfl rfl fun D =>
    j_gfo (pc := 2) H.2.1 D rfl rfl rfl rfl fun kc1 D =>
    j_ic (pc := 5) D rfl fun D =>
    j_iadd (pc := 6) D rfl fun D =>
    j_ivv (pc := 7) (m := 118) (dd := 328) (a := [(0, wI ((h 148 x0.toNat 0) + 1))]) (rest := []) D rfl rfl rfl rfl rfl (nz_cls H.2.1 kc1 (by decide)) kc1 (by decide +kernel) (fun h2 e1 D =>
      have T := fj_run_ok _ _ _ _ _ _ H.1 e1
      have kc1 := cls_st H.1 T.2 kc1 (by decide)
      have H := shp_st H T
      j_aldn (pc := 10) D rfl rfl rfl fun D =>
      j_iv (pc := 11) (m := 123) (dd := 209) (a := []) (rest := []) D rfl rfl rfl rfl rfl (nz_cls H.2.1 kc1 (by decide)) kc1 (by decide +kernel) (fun v6 h5 e1 D =>
        have T := fj_run_ok _ _ _ _ _ _ H.1 e1
        have kc1 := cls_st H.1 T.2 kc1 (by decide)
        have H := shp_st H T
        j_ifeq (pc := 14) D rfl (fun q =>
          fk_jump cut_130_45 rfl rfl) (fun q D =>
          j_ildn (pc := 17) D rfl rfl rfl fun D =>
          j_is (pc := 18) (m := 131) (a := [(0, x1)]) (rest := []) D rfl rfl rfl rfl (fun v9 h8 e1 D =>
            have T := fj_run_ok _ _ _ _ _ _ H.1 e1
            have kc1 := cls_st H.1 T.2 kc1 (by decide)
            have H := shp_st H T
            j_ifeq (pc := 21) D rfl (fun q =>
              fk_jump cut_130_45 rfl rfl) (fun q D =>
              j_aldn (pc := 24) D rfl rfl rfl fun D =>
              j_gf (pc := 25) (a := x0.toNat) D rfl rfl (nz_cls H.2.1 kc1 (by decide)) rfl kc1 rfl fun D =>
              j_aldn (pc := 28) D rfl rfl rfl fun D =>
              j_sh (pc := 29) D rfl rfl rfl fun D =>
              j_gf (pc := 30) (a := x0.toNat) D rfl rfl (nz_cls H.2.1 kc1 (by decide)) rfl kc1 rfl fun D =>
              j_sh (pc := 33) D rfl rfl rfl fun D =>
              j_ic (pc := 34) D rfl fun D =>
              j_iadd (pc := 35) D rfl fun D =>
              have D : fk_D 130 [(36, none, .putfield 79, 3, 148, 132, 10), (39, none, .iload_n 1, 1, 0, 0, 0), (40, none, .i2b, 1, 0, 0, 0), (41, none, .bastore, 1, 0, 0, 0), (42, none, .goto 33, 3, 75, 0, 0)] := fq_of2 cd_130 ow_130 cl_130 rfl (pc := 36) (by decide +kernel)
              j_pf (pc := 36) (a := x0.toNat) D rfl rfl rfl kc1 rfl rfl gn (gy rfl) fun h11 eh11 S D =>
              have T := fj_hs_ok H.1 S
              have kc1 := cls_st H.1 T.2 kc1 (by decide)
              have H := shp_st H T
              j_ildn (pc := 39) D rfl rfl rfl fun D =>
              j_i2b (pc := 40) D rfl fun D =>
              j_asub (pc := 41) D rfl rfl gn gn gn fun h12 eh12 S q q2 D =>
              have T := fj_hs_ok H.1 S
              have kc1 := cls_st H.1 T.2 kc1 (by decide)
              have H := shp_st H T
              j_goto (pc := 42) D rfl <|
              have D : fk_D 130 [(75, none, .aload_n 0, 1, 0, 0, 0), (76, none, .areturn, 1, 0, 0, 0)] := fq_of2 cd_130 ow_130 cl_130 rfl (pc := 75) (by decide +kernel)
              j_aldn (pc := 75) D rfl rfl rfl fun D =>
              j_aret D rt_130)) (fun q10 h8 e1 =>
            j_tx (hx_130 _)))) (fun q7 h5 e1 =>
        j_tx (hx_130 _))) (fun q4 h2 e1 =>
      j_tx (hx_130 _))
/-! 131 java/lang/StringLatin1.canEncode(C)Z -/
theorem cd_131 : fi_code 131 = prog_88_method_3_code := rfl
theorem hx_131 : ∀ pc, fi_hat 131 pc = none := fun pc => by unfold fi_hat; rw [show fi_hh 131 = [] from rfl]; rfl
theorem rt_131 : fi_ret 131 = some .boolean := rfl
theorem nl_131 : fi_nl 131 = 1 := rfl
theorem ow_131 : fi_ow 131 = 79 := rfl
theorem cl_131 : fj_cutT.getD 131 [] = [] := rfl
theorem m_131 (d : Nat) (x0 : Int) {h : fi_H} (H : Shp h) : fj_run (d + 1) 131 h [(0, x0)] =
  if 255 < x0 then
    some (.inl (some (0, 0)), h)
  else
    some (.inl (some (0, 1)), h) := by
  rw [fj_run_eq d (by decide) h [(0, x0)] (Nat.le_of_ble_eq_true (by rw [nl_131]; rfl))]
  show gG (fj_run d) 131 0 [(0, (0, x0))] [] h = _
  exact
    have D : fk_D 131 [(0, none, .iload_n 0, 1, 0, 0, 0), (1, none, .sipush 255, 3, 0, 255, 0), (4, none, .if_icmp .gt 7, 3, 11, 0, 0), (7, none, .iconst 1, 1, 0, 1, 0), (8, none, .goto 4, 3, 12, 0, 0)] := fq_of2 cd_131 ow_131 cl_131 rfl (pc := 0) (by decide +kernel)
    j_ildn (pc := 0) D rfl rfl rfl fun D =>
    j_sp (pc := 1) D rfl fun D =>
    j_igt (pc := 4) D rfl (fun q =>
      have D : fk_D 131 [(11, none, .iconst 0, 1, 0, 0, 0), (12, none, .ireturn, 1, 0, 0, 0)] := fq_of2 cd_131 ow_131 cl_131 rfl (pc := 11) (by decide +kernel)
      j_ic (pc := 11) D rfl fun D =>
      j_zret D rt_131 (gy (by decide))) (fun q D =>
      j_ic (pc := 7) D rfl fun D =>
      j_goto (pc := 8) D rfl <|
      have D : fk_D 131 [(12, none, .ireturn, 1, 0, 0, 0)] := fq_of2 cd_131 ow_131 cl_131 rfl (pc := 12) (by decide +kernel)
      j_zret D rt_131 (gy (by decide)))
/-! 132 java/lang/AbstractStringBuilder.inflate()V -/
theorem cd_132 : fi_code 132 = prog_72_method_11_code := rfl
theorem hx_132 : ∀ pc, fi_hat 132 pc = none := fun pc => by unfold fi_hat; rw [show fi_hh 132 = [] from rfl]; rfl
theorem rt_132 : fi_ret 132 = none := rfl
theorem nl_132 : fi_nl 132 = 2 := rfl
theorem ow_132 : fi_ow 132 = 68 := rfl
theorem cl_132 : fj_cutT.getD 132 [] = [] := rfl
theorem m_132 (d : Nat) (x0 : Int) {h : fi_H} {k0 : Int} (H : Shp h) (hk : h 0 x0.toNat 0 = k0) (hk0 : k0 ≠ 0) : fj_run (d + 1) 132 h [(4, x0)] =
  dv_ (fi_vt 209 (h 0 x0.toNat 0)) fun m4 => ca_ (fj_run d m4 h [(4, x0)]) 0
    (fun v2 h1 =>
    if v2 = 0 then
      some (.inl none, h1)
    else
      if h1 0 x0.toNat 0 = 132 then
      if fk_isA (h1 0 (h1 145 x0.toNat 0).toNat 0) = true then
      ca_ (fj_run d 102 h1 [(0, h1 1 (h1 145 x0.toNat 0).toNat 0)]) 4
        (fun v7 h6 =>
        cv_ (fj_run d 133 h6 [(4, h6 145 x0.toNat 0), (0, 0), (4, v7), (0, 0), (0, h6 148 x0.toNat 0)])
          (fun h9 =>
          if 302 < x0 then
          lt_ (fi_upd h9 145 x0.toNat 0 v7) fun h12 =>
          if 302 < x0 then
          lt_ (fi_upd h12 146 x0.toNat 0 1) fun h13 =>
          some (.inl none, h13)
          else none
          else none)
          (fun q11 h9 => tx_ q11 h9))
        (fun q8 h6 => tx_ q8 h6)
      else none
      else none)
    (fun q3 h1 => tx_ q3 h1) := by
  rw [fj_run_eq d (by decide) h [(4, x0)] (Nat.le_of_ble_eq_true (by rw [nl_132]; rfl))]
  show gG (fj_run d) 132 0 [(0, (4, x0))] [] h = _
  exact
    have D : fk_D 132 [(0, none, .aload_n 0, 1, 0, 0, 0), (1, none, .invokevirtual 83, 3, 0, 209, 1), (4, none, .ifCond .ne 4, 3, 8, 0, 0), (7, none, .return_, 1, 0, 0, 0)] := fq_of2 cd_132 ow_132 cl_132 rfl (pc := 0) (by decide +kernel)
    j_aldn (pc := 0) D rfl rfl rfl fun D =>
    j_ivu (pc := 1) (dd := 209) (a := []) (rest := []) H.2.1 D rfl rfl rfl rfl rfl (fun m4 v2 h1 e1 D =>
      have T := fj_run_ok _ _ _ _ _ _ H.1 e1
      have hk := cls_st H.1 T.2 hk hk0
      have H := shp_st H T
      j_ifne (pc := 4) D rfl (fun q D =>
        j_vret D rt_132) (fun q =>
        have D : fk_D 132 [(8, none, .aload_n 0, 1, 0, 0, 0), (9, none, .getfield 15, 3, 145, (-132), 12), (12, none, .arraylength, 1, 0, 0, 0), (13, none, .invokestatic 26, 3, 1, 102, 5), (16, none, .astore_n 1, 1, 0, 0, 0), (17, none, .aload_n 0, 1, 0, 0, 0), (18, none, .getfield 15, 3, 145, 132, 12), (21, none, .iconst 0, 1, 0, 0, 0), (22, none, .aload_n 1, 1, 0, 0, 0), (23, none, .iconst 0, 1, 0, 0, 0), (24, none, .aload_n 0, 1, 0, 0, 0), (25, none, .getfield 79, 3, 148, 132, 10), (28, none, .invokestatic 125, 3, 5, 133, 0), (31, none, .aload_n 0, 1, 0, 0, 0), (32, none, .aload_n 1, 1, 0, 0, 0), (33, none, .putfield 15, 3, 145, 132, 12), (36, none, .aload_n 0, 1, 0, 0, 0), (37, none, .iconst 1, 1, 0, 1, 0), (38, none, .putfield 22, 3, 146, 132, 8), (41, none, .return_, 1, 0, 0, 0)] := fq_of2 cd_132 ow_132 cl_132 rfl (pc := 8) (by decide +kernel)
        j_aldn (pc := 8) D rfl rfl rfl fun D =>
        j_gfo (pc := 9) H.2.1 D rfl rfl rfl rfl fun kc5 D =>
        j_lenu (pc := 12) H.2.1 D rfl fun q D =>
        j_is (pc := 13) (m := 102) (a := [(0, h1 1 (h1 145 x0.toNat 0).toNat 0)]) (rest := []) D rfl rfl rfl rfl (fun v7 h6 e1 D =>
          have T := fj_run_ok _ _ _ _ _ _ H.1 e1
          have kc5 := cls_st H.1 T.2 kc5 (by decide)
          have H := shp_st H T
          j_astn (pc := 16) (L' := [(1, (4, v7)), (0, (4, x0))]) D rfl nl_132 rfl rfl fun D =>
          j_aldn (pc := 17) D rfl rfl rfl fun D =>
          j_gf (pc := 18) (a := x0.toNat) D rfl rfl (nz_cls H.2.1 kc5 (by decide)) rfl kc5 rfl fun D =>
          j_ic (pc := 21) D rfl fun D =>
          j_aldn (pc := 22) D rfl rfl rfl fun D =>
          j_ic (pc := 23) D rfl fun D =>
          j_aldn (pc := 24) D rfl rfl rfl fun D =>
          j_gf (pc := 25) (a := x0.toNat) D rfl rfl (nz_cls H.2.1 kc5 (by decide)) rfl kc5 rfl fun D =>
          j_isv (pc := 28) (m := 133) (a := [(4, h6 145 x0.toNat 0), (0, 0), (4, v7), (0, 0), (0, h6 148 x0.toNat 0)]) (rest := []) D rfl rfl rfl rfl (fun h9 e1 D =>
            have T := fj_run_ok _ _ _ _ _ _ H.1 e1
            have kc5 := cls_st H.1 T.2 kc5 (by decide)
            have H := shp_st H T
            j_aldn (pc := 31) D rfl rfl rfl fun D =>
            j_aldn (pc := 32) D rfl rfl rfl fun D =>
            j_pf (pc := 33) (a := x0.toNat) D rfl rfl rfl kc5 rfl rfl gn (gy rfl) fun h12 eh12 S D =>
            have T := fj_hs_ok H.1 S
            have kc5 := cls_st H.1 T.2 kc5 (by decide)
            have H := shp_st H T
            j_aldn (pc := 36) D rfl rfl rfl fun D =>
            j_ic (pc := 37) D rfl fun D =>
            j_pf (pc := 38) (a := x0.toNat) D rfl rfl rfl kc5 rfl rfl gn (gy (by decide)) fun h13 eh13 S D =>
            have T := fj_hs_ok H.1 S
            have kc5 := cls_st H.1 T.2 kc5 (by decide)
            have H := shp_st H T
            j_vret D rt_132) (fun q11 h9 e1 =>
            j_tx (hx_132 _))) (fun q8 h6 e1 =>
          j_tx (hx_132 _)))) (fun m4 q3 h1 e1 =>
      j_tx (hx_132 _))
/-! 133 java/lang/StringLatin1.inflate([BI[BII)V -/
theorem cd_133 : fi_code 133 = prog_88_method_50_code := rfl
theorem hx_133 : ∀ pc, fi_hat 133 pc = none := fun pc => by unfold fi_hat; rw [show fi_hh 133 = [] from rfl]; rfl
theorem rt_133 : fi_ret 133 = none := rfl
theorem nl_133 : fi_nl 133 = 5 := rfl
theorem ow_133 : fi_ow 133 = 79 := rfl
theorem cl_133 : fj_cutT.getD 133 [] = [] := rfl
theorem m_133 (d : Nat) (x0 x1 x2 x3 x4 : Int) {h : fi_H} (H : Shp h) : fj_run (d + 1) 133 h [(4, x0), (0, x1), (4, x2), (0, x3), (0, x4)] =
  cv_ (fj_run d 134 h [(4, x0), (0, x1), (4, x2), (0, x3), (0, x4)])
    (fun h1 =>
    some (.inl none, h1))
    (fun q3 h1 => tx_ q3 h1) := by
  rw [fj_run_eq d (by decide) h [(4, x0), (0, x1), (4, x2), (0, x3), (0, x4)] (Nat.le_of_ble_eq_true (by rw [nl_133]; rfl))]
  show gG (fj_run d) 133 0 [(0, (4, x0)), (1, (0, x1)), (2, (4, x2)), (3, (0, x3)), (4, (0, x4))] [] h = _
  exact
    have D : fk_D 133 [(0, none, .aload_n 0, 1, 0, 0, 0), (1, none, .iload_n 1, 1, 0, 0, 0), (2, none, .aload_n 2, 1, 0, 0, 0), (3, none, .iload_n 3, 1, 0, 0, 0), (4, none, .iload 4, 2, 0, 0, 0), (6, none, .invokestatic 240, 3, 5, 134, 0), (9, none, .return_, 1, 0, 0, 0)] := fq_of2 cd_133 ow_133 cl_133 rfl (pc := 0) (by decide +kernel)
    j_aldn (pc := 0) D rfl rfl rfl fun D =>
    j_ildn (pc := 1) D rfl rfl rfl fun D =>
    j_aldn (pc := 2) D rfl rfl rfl fun D =>
    j_ildn (pc := 3) D rfl rfl rfl fun D =>
    j_ild (pc := 4) D rfl rfl rfl fun D =>
    j_isv (pc := 6) (m := 134) (a := [(4, x0), (0, x1), (4, x2), (0, x3), (0, x4)]) (rest := []) D rfl rfl rfl rfl (fun h1 e1 D =>
      have T := fj_run_ok _ _ _ _ _ _ H.1 e1
      have H := shp_st H T
      j_vret D rt_133) (fun q3 h1 e1 =>
      j_tx (hx_133 _))
/-! 134 java/lang/StringUTF16.inflate([BI[BII)V -/
theorem cd_134 : fi_code 134 = prog_89_method_86_code := rfl
theorem hx_134 : ∀ pc, fi_hat 134 pc = none := fun pc => by unfold fi_hat; rw [show fi_hh 134 = [] from rfl]; rfl
theorem rt_134 : fi_ret 134 = none := rfl
theorem nl_134 : fi_nl 134 = 6 := rfl
theorem ow_134 : fi_ow 134 = 80 := rfl
theorem cl_134 : fj_cutT.getD 134 [] = [(10, [0, 1, 2, 3, 4, 5])] := rfl
theorem cut_134_10 : fj_cut 134 10 = some [0, 1, 2, 3, 4, 5] := by decide +kernel
noncomputable def c_134_10 (d : Nat) (x0 x1 x2 x3 x4 x5 : Int) (h : fi_H) : fk_R := gG (fj_run d) 134 10 [(0, (4, x0)), (1, (0, x1)), (2, (4, x2)), (3, (0, x3)), (4, (0, x4)), (5, (0, x5))] [] h
theorem e_134_10 (d : Nat) (x0 x1 x2 x3 x4 x5 : Int) {h : fi_H} (H : Shp h) : c_134_10 d x0 x1 x2 x3 x4 x5 h =
  if x5 < x4 then
    if fi_et 1 (h 0 x0.toNat 0) ≠ 0 ∧ 0 ≤ x1 ∧ x1 < h 1 x0.toNat 0 then
    cv_ (fj_run d 138 h [(4, x2), (0, x3), (0, ia_ (h (fi_et 1 (h 0 x0.toNat 0)) x0.toNat x1.toNat) 255)])
      (fun h1 =>
      c_134_10 d x0 (wI (x1 + 1)) x2 (wI (x3 + 1)) x4 (wI (x5 + 1)) h1)
      (fun q3 h1 => tx_ q3 h1)
    else none
  else
    some (.inl none, h) := by
  unfold c_134_10
  exact
    have D : fk_D 134 [(10, some [0, 1, 2, 3, 4, 5], .iload 5, 2, 0, 0, 0), (12, none, .iload 4, 2, 0, 0, 0), (14, none, .if_icmp .ge 27, 3, 41, 0, 0), (17, none, .aload_n 2, 1, 0, 0, 0), (18, none, .iload_n 3, 1, 0, 0, 0), (19, none, .iinc 3 1, 3, 0, 1, 0), (22, none, .aload_n 0, 1, 0, 0, 0), (23, none, .iload_n 1, 1, 0, 0, 0), (24, none, .iinc 1 1, 3, 0, 1, 0), (27, none, .baload, 1, 0, 0, 0), (28, none, .sipush 255, 3, 0, 255, 0), (31, none, .iand, 1, 0, 0, 0), (32, none, .invokestatic 111, 3, 3, 138, 0), (35, none, .iinc 5 1, 3, 0, 1, 0), (38, none, .goto (-28), 3, 10, 0, 0)] := fq_of2 cd_134 ow_134 cl_134 rfl (pc := 10) (by decide +kernel)
    j_ild (pc := 10) D rfl rfl rfl fun D =>
    j_ild (pc := 12) D rfl rfl rfl fun D =>
    j_ige (pc := 14) D rfl (fun q D =>
      j_aldn (pc := 17) D rfl rfl rfl fun D =>
      j_ildn (pc := 18) D rfl rfl rfl fun D =>
      j_inc (pc := 19) (L' := [(3, (0, wI (x3 + 1))), (0, (4, x0)), (1, (0, x1)), (2, (4, x2)), (4, (0, x4)), (5, (0, x5))]) D rfl rfl rfl (by decide +kernel) rfl fun D =>
      j_aldn (pc := 22) D rfl rfl rfl fun D =>
      j_ildn (pc := 23) D rfl rfl rfl fun D =>
      j_inc (pc := 24) (L' := [(1, (0, wI (x1 + 1))), (3, (0, wI (x3 + 1))), (0, (4, x0)), (2, (4, x2)), (4, (0, x4)), (5, (0, x5))]) D rfl rfl rfl (by decide +kernel) rfl fun D =>
      j_alb (pc := 27) H.2.1 D rfl rfl fun q q2 D =>
      j_sp (pc := 28) D rfl fun D =>
      j_iand (pc := 31) D rfl fun D =>
      j_isv (pc := 32) (m := 138) (a := [(4, x2), (0, x3), (0, ia_ (h (fi_et 1 (h 0 x0.toNat 0)) x0.toNat x1.toNat) 255)]) (rest := []) D rfl rfl rfl rfl (fun h1 e1 D =>
        have T := fj_run_ok _ _ _ _ _ _ H.1 e1
        have H := shp_st H T
        j_inc (pc := 35) (L' := [(5, (0, wI (x5 + 1))), (1, (0, wI (x1 + 1))), (3, (0, wI (x3 + 1))), (0, (4, x0)), (2, (4, x2)), (4, (0, x4))]) D rfl rfl rfl (by decide +kernel) rfl fun D =>
        j_goto (pc := 38) D rfl <|
        fk_jump cut_134_10 rfl rfl) (fun q3 h1 e1 =>
        j_tx (hx_134 _))) (fun q =>
      have D : fk_D 134 [(41, none, .return_, 1, 0, 0, 0)] := fq_of2 cd_134 ow_134 cl_134 rfl (pc := 41) (by decide +kernel)
      j_vret D rt_134)
theorem m_134 (d : Nat) (x0 x1 x2 x3 x4 : Int) {h : fi_H} (H : Shp h) : fj_run (d + 1) 134 h [(4, x0), (0, x1), (4, x2), (0, x3), (0, x4)] =
  cv_ (fj_run d 135 h [(0, x3), (0, x4), (4, x2)])
    (fun h1 =>
    c_134_10 d x0 x1 x2 x3 x4 0 h1)
    (fun q3 h1 => tx_ q3 h1) := by
  rw [fj_run_eq d (by decide) h [(4, x0), (0, x1), (4, x2), (0, x3), (0, x4)] (Nat.le_of_ble_eq_true (by rw [nl_134]; rfl))]
  show gG (fj_run d) 134 0 [(0, (4, x0)), (1, (0, x1)), (2, (4, x2)), (3, (0, x3)), (4, (0, x4))] [] h = _
  exact
    have D : fk_D 134 [(0, none, .iload_n 3, 1, 0, 0, 0), (1, none, .iload 4, 2, 0, 0, 0), (3, none, .aload_n 2, 1, 0, 0, 0), (4, none, .invokestatic 173, 3, 3, 135, 0), (7, none, .iconst 0, 1, 0, 0, 0), (8, none, .istore 5, 2, 0, 0, 0)] := fq_of2 cd_134 ow_134 cl_134 rfl (pc := 0) (by decide +kernel)
    j_ildn (pc := 0) D rfl rfl rfl fun D =>
    j_ild (pc := 1) D rfl rfl rfl fun D =>
    j_aldn (pc := 3) D rfl rfl rfl fun D =>
    j_isv (pc := 4) (m := 135) (a := [(0, x3), (0, x4), (4, x2)]) (rest := []) D rfl rfl rfl rfl (fun h1 e1 D =>
      have T := fj_run_ok _ _ _ _ _ _ H.1 e1
      have H := shp_st H T
      j_ic (pc := 7) D rfl fun D =>
      j_ist (pc := 8) (L' := [(5, (0, 0)), (0, (4, x0)), (1, (0, x1)), (2, (4, x2)), (3, (0, x3)), (4, (0, x4))]) D rfl nl_134 rfl rfl fun D =>
      fk_jump cut_134_10 rfl rfl) (fun q3 h1 e1 =>
      j_tx (hx_134 _))
/-! 135 java/lang/StringUTF16.checkBoundsOffCount(II[B)V -/
theorem cd_135 : fi_code 135 = prog_89_method_94_code := rfl
theorem hx_135 : ∀ pc, fi_hat 135 pc = none := fun pc => by unfold fi_hat; rw [show fi_hh 135 = [] from rfl]; rfl
theorem rt_135 : fi_ret 135 = none := rfl
theorem nl_135 : fi_nl 135 = 3 := rfl
theorem ow_135 : fi_ow 135 = 80 := rfl
theorem cl_135 : fj_cutT.getD 135 [] = [] := rfl
theorem m_135 (d : Nat) (x0 x1 x2 : Int) {h : fi_H} (H : Shp h) : fj_run (d + 1) 135 h [(0, x0), (0, x1), (4, x2)] =
  ca_ (fj_run d 27 h [(4, x2)]) 0
    (fun v2 h1 =>
    ca_ (fj_run d 136 h1 [(0, x0), (0, x1), (0, v2)]) 0
      (fun v5 h4 =>
      some (.inl none, h4))
      (fun q6 h4 => tx_ q6 h4))
    (fun q3 h1 => tx_ q3 h1) := by
  rw [fj_run_eq d (by decide) h [(0, x0), (0, x1), (4, x2)] (Nat.le_of_ble_eq_true (by rw [nl_135]; rfl))]
  show gG (fj_run d) 135 0 [(0, (0, x0)), (1, (0, x1)), (2, (4, x2))] [] h = _
  exact
    have D : fk_D 135 [(0, none, .iload_n 0, 1, 0, 0, 0), (1, none, .iload_n 1, 1, 0, 0, 0), (2, none, .aload_n 2, 1, 0, 0, 0), (3, none, .invokestatic 48, 3, 1, 27, 1), (6, none, .invokestatic 419, 3, 3, 136, 1), (9, none, .pop, 1, 0, 0, 0), (10, none, .return_, 1, 0, 0, 0)] := fq_of2 cd_135 ow_135 cl_135 rfl (pc := 0) (by decide +kernel)
    j_ildn (pc := 0) D rfl rfl rfl fun D =>
    j_ildn (pc := 1) D rfl rfl rfl fun D =>
    j_aldn (pc := 2) D rfl rfl rfl fun D =>
    j_is (pc := 3) (m := 27) (a := [(4, x2)]) (rest := [(0, x1), (0, x0)]) D rfl rfl rfl rfl (fun v2 h1 e1 D =>
      have T := fj_run_ok _ _ _ _ _ _ H.1 e1
      have H := shp_st H T
      j_is (pc := 6) (m := 136) (a := [(0, x0), (0, x1), (0, v2)]) (rest := []) D rfl rfl rfl rfl (fun v5 h4 e1 D =>
        have T := fj_run_ok _ _ _ _ _ _ H.1 e1
        have H := shp_st H T
        j_sh (pc := 9) D rfl rfl rfl fun D =>
        j_vret D rt_135) (fun q6 h4 e1 =>
        j_tx (hx_135 _))) (fun q3 h1 e1 =>
      j_tx (hx_135 _))
/-! 136 java/lang/String.checkBoundsOffCount(III)I -/
theorem cd_136 : fi_code 136 = prog_86_method_157_code := rfl
theorem hx_136 : ∀ pc, fi_hat 136 pc = none := fun pc => by unfold fi_hat; rw [show fi_hh 136 = [] from rfl]; rfl
theorem rt_136 : fi_ret 136 = some .int := rfl
theorem nl_136 : fi_nl 136 = 3 := rfl
theorem ow_136 : fi_ow 136 = 31 := rfl
theorem cl_136 : fj_cutT.getD 136 [] = [] := rfl
theorem m_136 (d : Nat) (x0 x1 x2 : Int) {h : fi_H} (H : Shp h) : fj_run (d + 1) 136 h [(0, x0), (0, x1), (0, x2)] =
  ca_ (fj_run d 137 h [(0, x0), (0, x1), (0, x2), (5, 0)]) 0
    (fun v2 h1 =>
    some (.inl (some (0, v2)), h1))
    (fun q3 h1 => tx_ q3 h1) := by
  rw [fj_run_eq d (by decide) h [(0, x0), (0, x1), (0, x2)] (Nat.le_of_ble_eq_true (by rw [nl_136]; rfl))]
  show gG (fj_run d) 136 0 [(0, (0, x0)), (1, (0, x1)), (2, (0, x2))] [] h = _
  exact
    have D : fk_D 136 [(0, none, .iload_n 0, 1, 0, 0, 0), (1, none, .iload_n 1, 1, 0, 0, 0), (2, none, .iload_n 2, 1, 0, 0, 0), (3, none, .getstatic 1053, 3, 5, 0, 0), (6, none, .invokestatic 1065, 3, 4, 137, 1), (9, none, .ireturn, 1, 0, 0, 0)] := fq_of2 cd_136 ow_136 cl_136 rfl (pc := 0) (by decide +kernel)
    j_ildn (pc := 0) D rfl rfl rfl fun D =>
    j_ildn (pc := 1) D rfl rfl rfl fun D =>
    j_ildn (pc := 2) D rfl rfl rfl fun D =>
    j_gs (pc := 3) D rfl fun D =>
    j_is (pc := 6) (m := 137) (a := [(0, x0), (0, x1), (0, x2), (5, 0)]) (rest := []) D rfl rfl rfl rfl (fun v2 h1 e1 D =>
      have T := fj_run_ok _ _ _ _ _ _ H.1 e1
      have H := shp_st H T
      j_iret D rt_136) (fun q3 h1 e1 =>
      j_tx (hx_136 _))
