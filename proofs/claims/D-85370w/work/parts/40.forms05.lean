/-! forms of methods 168..179, printed by gen/forms.py -/
set_option maxRecDepth 100000
/-! 168 StatuteHouse$Reader.isReserved(Ljava/lang/String;)Z -/
theorem cd_168 : fi_code 168 = prog_53_method_22_code := rfl
theorem hx_168 : ∀ pc, fi_hat 168 pc = none := fun pc => by unfold fi_hat; rw [show fi_hh 168 = [] from rfl]; rfl
theorem rt_168 : fi_ret 168 = some .boolean := rfl
theorem nl_168 : fi_nl 168 = 4 := rfl
theorem ow_168 : fi_ow 168 = 15 := rfl
theorem cl_168 : fj_cutT.getD 168 [] = [(548, [1, 2, 3]), (562, [1, 2, 3]), (576, [1, 2, 3]), (590, [1, 2, 3]), (604, [1, 2, 3]), (618, [1, 2, 3]), (632, [1, 2, 3]), (647, [1, 2, 3]), (662, [1, 2, 3]), (677, [1, 2, 3]), (692, [1, 2, 3]), (707, [1, 2, 3]), (722, [1, 2, 3]), (737, [1, 2, 3]), (752, [1, 2, 3]), (767, [1, 2, 3]), (782, [1, 2, 3]), (798, [1, 2, 3]), (814, [1, 2, 3]), (830, [1, 2, 3]), (846, [1, 2, 3]), (862, [1, 2, 3]), (878, [1, 2, 3]), (894, [1, 2, 3]), (910, [1, 2, 3]), (926, [1, 2, 3]), (942, [1, 2, 3]), (958, [1, 2, 3]), (974, [1, 2, 3]), (990, [1, 2, 3]), (1006, [1, 2, 3]), (1022, [1, 2, 3]), (1038, [1, 2, 3]), (1054, [1, 2, 3]), (1070, [1, 2, 3]), (1086, [1, 2, 3]), (1102, [1, 2, 3]), (1118, [1, 2, 3]), (1134, [1, 2, 3]), (1150, [1, 2, 3]), (1166, [1, 2, 3]), (1182, [1, 2, 3]), (1198, [1, 2, 3]), (1214, [1, 2, 3]), (1230, [1, 2, 3]), (1246, [1, 2, 3]), (1262, [1, 2, 3]), (1278, [1, 2, 3]), (1294, [1, 2, 3]), (1310, [1, 2, 3]), (1326, [1, 2, 3]), (1342, [1, 2, 3]), (1358, [1, 2, 3]), (1374, [1, 2, 3]), (1390, [1, 2, 3]), (1406, [1, 2, 3]), (1422, [1, 2, 3]), (1438, [1, 2, 3]), (1454, [1, 2, 3]), (1470, [1, 2, 3]), (1486, [1, 2, 3]), (1502, [1, 2, 3]), (1518, [1, 2, 3]), (1534, [1, 2, 3]), (1550, [1, 2, 3]), (1566, [1, 2, 3]), (1579, [1, 3])] := rfl
theorem cut_168_548 : fj_cut 168 548 = some [1, 2, 3] := by decide +kernel
noncomputable def c_168_548 (d : Nat) (x1 x2 x3 : Int) (h : fi_H) : fk_R := gG (fj_run d) 168 548 [(1, (4, x1)), (2, (4, x2)), (3, (0, x3))] [] h
theorem cut_168_562 : fj_cut 168 562 = some [1, 2, 3] := by decide +kernel
noncomputable def c_168_562 (d : Nat) (x1 x2 x3 : Int) (h : fi_H) : fk_R := gG (fj_run d) 168 562 [(1, (4, x1)), (2, (4, x2)), (3, (0, x3))] [] h
theorem cut_168_576 : fj_cut 168 576 = some [1, 2, 3] := by decide +kernel
noncomputable def c_168_576 (d : Nat) (x1 x2 x3 : Int) (h : fi_H) : fk_R := gG (fj_run d) 168 576 [(1, (4, x1)), (2, (4, x2)), (3, (0, x3))] [] h
theorem cut_168_590 : fj_cut 168 590 = some [1, 2, 3] := by decide +kernel
noncomputable def c_168_590 (d : Nat) (x1 x2 x3 : Int) (h : fi_H) : fk_R := gG (fj_run d) 168 590 [(1, (4, x1)), (2, (4, x2)), (3, (0, x3))] [] h
theorem cut_168_604 : fj_cut 168 604 = some [1, 2, 3] := by decide +kernel
noncomputable def c_168_604 (d : Nat) (x1 x2 x3 : Int) (h : fi_H) : fk_R := gG (fj_run d) 168 604 [(1, (4, x1)), (2, (4, x2)), (3, (0, x3))] [] h
theorem cut_168_618 : fj_cut 168 618 = some [1, 2, 3] := by decide +kernel
noncomputable def c_168_618 (d : Nat) (x1 x2 x3 : Int) (h : fi_H) : fk_R := gG (fj_run d) 168 618 [(1, (4, x1)), (2, (4, x2)), (3, (0, x3))] [] h
theorem cut_168_632 : fj_cut 168 632 = some [1, 2, 3] := by decide +kernel
noncomputable def c_168_632 (d : Nat) (x1 x2 x3 : Int) (h : fi_H) : fk_R := gG (fj_run d) 168 632 [(1, (4, x1)), (2, (4, x2)), (3, (0, x3))] [] h
theorem cut_168_647 : fj_cut 168 647 = some [1, 2, 3] := by decide +kernel
noncomputable def c_168_647 (d : Nat) (x1 x2 x3 : Int) (h : fi_H) : fk_R := gG (fj_run d) 168 647 [(1, (4, x1)), (2, (4, x2)), (3, (0, x3))] [] h
theorem cut_168_662 : fj_cut 168 662 = some [1, 2, 3] := by decide +kernel
noncomputable def c_168_662 (d : Nat) (x1 x2 x3 : Int) (h : fi_H) : fk_R := gG (fj_run d) 168 662 [(1, (4, x1)), (2, (4, x2)), (3, (0, x3))] [] h
theorem cut_168_677 : fj_cut 168 677 = some [1, 2, 3] := by decide +kernel
noncomputable def c_168_677 (d : Nat) (x1 x2 x3 : Int) (h : fi_H) : fk_R := gG (fj_run d) 168 677 [(1, (4, x1)), (2, (4, x2)), (3, (0, x3))] [] h
theorem cut_168_692 : fj_cut 168 692 = some [1, 2, 3] := by decide +kernel
noncomputable def c_168_692 (d : Nat) (x1 x2 x3 : Int) (h : fi_H) : fk_R := gG (fj_run d) 168 692 [(1, (4, x1)), (2, (4, x2)), (3, (0, x3))] [] h
theorem cut_168_707 : fj_cut 168 707 = some [1, 2, 3] := by decide +kernel
noncomputable def c_168_707 (d : Nat) (x1 x2 x3 : Int) (h : fi_H) : fk_R := gG (fj_run d) 168 707 [(1, (4, x1)), (2, (4, x2)), (3, (0, x3))] [] h
theorem cut_168_722 : fj_cut 168 722 = some [1, 2, 3] := by decide +kernel
noncomputable def c_168_722 (d : Nat) (x1 x2 x3 : Int) (h : fi_H) : fk_R := gG (fj_run d) 168 722 [(1, (4, x1)), (2, (4, x2)), (3, (0, x3))] [] h
theorem cut_168_737 : fj_cut 168 737 = some [1, 2, 3] := by decide +kernel
noncomputable def c_168_737 (d : Nat) (x1 x2 x3 : Int) (h : fi_H) : fk_R := gG (fj_run d) 168 737 [(1, (4, x1)), (2, (4, x2)), (3, (0, x3))] [] h
theorem cut_168_752 : fj_cut 168 752 = some [1, 2, 3] := by decide +kernel
noncomputable def c_168_752 (d : Nat) (x1 x2 x3 : Int) (h : fi_H) : fk_R := gG (fj_run d) 168 752 [(1, (4, x1)), (2, (4, x2)), (3, (0, x3))] [] h
theorem cut_168_767 : fj_cut 168 767 = some [1, 2, 3] := by decide +kernel
noncomputable def c_168_767 (d : Nat) (x1 x2 x3 : Int) (h : fi_H) : fk_R := gG (fj_run d) 168 767 [(1, (4, x1)), (2, (4, x2)), (3, (0, x3))] [] h
theorem cut_168_782 : fj_cut 168 782 = some [1, 2, 3] := by decide +kernel
noncomputable def c_168_782 (d : Nat) (x1 x2 x3 : Int) (h : fi_H) : fk_R := gG (fj_run d) 168 782 [(1, (4, x1)), (2, (4, x2)), (3, (0, x3))] [] h
theorem cut_168_798 : fj_cut 168 798 = some [1, 2, 3] := by decide +kernel
noncomputable def c_168_798 (d : Nat) (x1 x2 x3 : Int) (h : fi_H) : fk_R := gG (fj_run d) 168 798 [(1, (4, x1)), (2, (4, x2)), (3, (0, x3))] [] h
theorem cut_168_814 : fj_cut 168 814 = some [1, 2, 3] := by decide +kernel
noncomputable def c_168_814 (d : Nat) (x1 x2 x3 : Int) (h : fi_H) : fk_R := gG (fj_run d) 168 814 [(1, (4, x1)), (2, (4, x2)), (3, (0, x3))] [] h
theorem cut_168_830 : fj_cut 168 830 = some [1, 2, 3] := by decide +kernel
noncomputable def c_168_830 (d : Nat) (x1 x2 x3 : Int) (h : fi_H) : fk_R := gG (fj_run d) 168 830 [(1, (4, x1)), (2, (4, x2)), (3, (0, x3))] [] h
theorem cut_168_846 : fj_cut 168 846 = some [1, 2, 3] := by decide +kernel
noncomputable def c_168_846 (d : Nat) (x1 x2 x3 : Int) (h : fi_H) : fk_R := gG (fj_run d) 168 846 [(1, (4, x1)), (2, (4, x2)), (3, (0, x3))] [] h
theorem cut_168_862 : fj_cut 168 862 = some [1, 2, 3] := by decide +kernel
noncomputable def c_168_862 (d : Nat) (x1 x2 x3 : Int) (h : fi_H) : fk_R := gG (fj_run d) 168 862 [(1, (4, x1)), (2, (4, x2)), (3, (0, x3))] [] h
theorem cut_168_878 : fj_cut 168 878 = some [1, 2, 3] := by decide +kernel
noncomputable def c_168_878 (d : Nat) (x1 x2 x3 : Int) (h : fi_H) : fk_R := gG (fj_run d) 168 878 [(1, (4, x1)), (2, (4, x2)), (3, (0, x3))] [] h
theorem cut_168_894 : fj_cut 168 894 = some [1, 2, 3] := by decide +kernel
noncomputable def c_168_894 (d : Nat) (x1 x2 x3 : Int) (h : fi_H) : fk_R := gG (fj_run d) 168 894 [(1, (4, x1)), (2, (4, x2)), (3, (0, x3))] [] h
theorem cut_168_910 : fj_cut 168 910 = some [1, 2, 3] := by decide +kernel
noncomputable def c_168_910 (d : Nat) (x1 x2 x3 : Int) (h : fi_H) : fk_R := gG (fj_run d) 168 910 [(1, (4, x1)), (2, (4, x2)), (3, (0, x3))] [] h
theorem cut_168_926 : fj_cut 168 926 = some [1, 2, 3] := by decide +kernel
noncomputable def c_168_926 (d : Nat) (x1 x2 x3 : Int) (h : fi_H) : fk_R := gG (fj_run d) 168 926 [(1, (4, x1)), (2, (4, x2)), (3, (0, x3))] [] h
theorem cut_168_942 : fj_cut 168 942 = some [1, 2, 3] := by decide +kernel
noncomputable def c_168_942 (d : Nat) (x1 x2 x3 : Int) (h : fi_H) : fk_R := gG (fj_run d) 168 942 [(1, (4, x1)), (2, (4, x2)), (3, (0, x3))] [] h
theorem cut_168_958 : fj_cut 168 958 = some [1, 2, 3] := by decide +kernel
noncomputable def c_168_958 (d : Nat) (x1 x2 x3 : Int) (h : fi_H) : fk_R := gG (fj_run d) 168 958 [(1, (4, x1)), (2, (4, x2)), (3, (0, x3))] [] h
theorem cut_168_974 : fj_cut 168 974 = some [1, 2, 3] := by decide +kernel
noncomputable def c_168_974 (d : Nat) (x1 x2 x3 : Int) (h : fi_H) : fk_R := gG (fj_run d) 168 974 [(1, (4, x1)), (2, (4, x2)), (3, (0, x3))] [] h
theorem cut_168_990 : fj_cut 168 990 = some [1, 2, 3] := by decide +kernel
noncomputable def c_168_990 (d : Nat) (x1 x2 x3 : Int) (h : fi_H) : fk_R := gG (fj_run d) 168 990 [(1, (4, x1)), (2, (4, x2)), (3, (0, x3))] [] h
theorem cut_168_1006 : fj_cut 168 1006 = some [1, 2, 3] := by decide +kernel
noncomputable def c_168_1006 (d : Nat) (x1 x2 x3 : Int) (h : fi_H) : fk_R := gG (fj_run d) 168 1006 [(1, (4, x1)), (2, (4, x2)), (3, (0, x3))] [] h
theorem cut_168_1022 : fj_cut 168 1022 = some [1, 2, 3] := by decide +kernel
noncomputable def c_168_1022 (d : Nat) (x1 x2 x3 : Int) (h : fi_H) : fk_R := gG (fj_run d) 168 1022 [(1, (4, x1)), (2, (4, x2)), (3, (0, x3))] [] h
theorem cut_168_1038 : fj_cut 168 1038 = some [1, 2, 3] := by decide +kernel
noncomputable def c_168_1038 (d : Nat) (x1 x2 x3 : Int) (h : fi_H) : fk_R := gG (fj_run d) 168 1038 [(1, (4, x1)), (2, (4, x2)), (3, (0, x3))] [] h
theorem cut_168_1054 : fj_cut 168 1054 = some [1, 2, 3] := by decide +kernel
noncomputable def c_168_1054 (d : Nat) (x1 x2 x3 : Int) (h : fi_H) : fk_R := gG (fj_run d) 168 1054 [(1, (4, x1)), (2, (4, x2)), (3, (0, x3))] [] h
theorem cut_168_1070 : fj_cut 168 1070 = some [1, 2, 3] := by decide +kernel
noncomputable def c_168_1070 (d : Nat) (x1 x2 x3 : Int) (h : fi_H) : fk_R := gG (fj_run d) 168 1070 [(1, (4, x1)), (2, (4, x2)), (3, (0, x3))] [] h
theorem cut_168_1086 : fj_cut 168 1086 = some [1, 2, 3] := by decide +kernel
noncomputable def c_168_1086 (d : Nat) (x1 x2 x3 : Int) (h : fi_H) : fk_R := gG (fj_run d) 168 1086 [(1, (4, x1)), (2, (4, x2)), (3, (0, x3))] [] h
theorem cut_168_1102 : fj_cut 168 1102 = some [1, 2, 3] := by decide +kernel
noncomputable def c_168_1102 (d : Nat) (x1 x2 x3 : Int) (h : fi_H) : fk_R := gG (fj_run d) 168 1102 [(1, (4, x1)), (2, (4, x2)), (3, (0, x3))] [] h
theorem cut_168_1118 : fj_cut 168 1118 = some [1, 2, 3] := by decide +kernel
noncomputable def c_168_1118 (d : Nat) (x1 x2 x3 : Int) (h : fi_H) : fk_R := gG (fj_run d) 168 1118 [(1, (4, x1)), (2, (4, x2)), (3, (0, x3))] [] h
theorem cut_168_1134 : fj_cut 168 1134 = some [1, 2, 3] := by decide +kernel
noncomputable def c_168_1134 (d : Nat) (x1 x2 x3 : Int) (h : fi_H) : fk_R := gG (fj_run d) 168 1134 [(1, (4, x1)), (2, (4, x2)), (3, (0, x3))] [] h
theorem cut_168_1150 : fj_cut 168 1150 = some [1, 2, 3] := by decide +kernel
noncomputable def c_168_1150 (d : Nat) (x1 x2 x3 : Int) (h : fi_H) : fk_R := gG (fj_run d) 168 1150 [(1, (4, x1)), (2, (4, x2)), (3, (0, x3))] [] h
theorem cut_168_1166 : fj_cut 168 1166 = some [1, 2, 3] := by decide +kernel
noncomputable def c_168_1166 (d : Nat) (x1 x2 x3 : Int) (h : fi_H) : fk_R := gG (fj_run d) 168 1166 [(1, (4, x1)), (2, (4, x2)), (3, (0, x3))] [] h
theorem cut_168_1182 : fj_cut 168 1182 = some [1, 2, 3] := by decide +kernel
noncomputable def c_168_1182 (d : Nat) (x1 x2 x3 : Int) (h : fi_H) : fk_R := gG (fj_run d) 168 1182 [(1, (4, x1)), (2, (4, x2)), (3, (0, x3))] [] h
theorem cut_168_1198 : fj_cut 168 1198 = some [1, 2, 3] := by decide +kernel
noncomputable def c_168_1198 (d : Nat) (x1 x2 x3 : Int) (h : fi_H) : fk_R := gG (fj_run d) 168 1198 [(1, (4, x1)), (2, (4, x2)), (3, (0, x3))] [] h
theorem cut_168_1214 : fj_cut 168 1214 = some [1, 2, 3] := by decide +kernel
noncomputable def c_168_1214 (d : Nat) (x1 x2 x3 : Int) (h : fi_H) : fk_R := gG (fj_run d) 168 1214 [(1, (4, x1)), (2, (4, x2)), (3, (0, x3))] [] h
theorem cut_168_1230 : fj_cut 168 1230 = some [1, 2, 3] := by decide +kernel
noncomputable def c_168_1230 (d : Nat) (x1 x2 x3 : Int) (h : fi_H) : fk_R := gG (fj_run d) 168 1230 [(1, (4, x1)), (2, (4, x2)), (3, (0, x3))] [] h
theorem cut_168_1246 : fj_cut 168 1246 = some [1, 2, 3] := by decide +kernel
noncomputable def c_168_1246 (d : Nat) (x1 x2 x3 : Int) (h : fi_H) : fk_R := gG (fj_run d) 168 1246 [(1, (4, x1)), (2, (4, x2)), (3, (0, x3))] [] h
theorem cut_168_1262 : fj_cut 168 1262 = some [1, 2, 3] := by decide +kernel
noncomputable def c_168_1262 (d : Nat) (x1 x2 x3 : Int) (h : fi_H) : fk_R := gG (fj_run d) 168 1262 [(1, (4, x1)), (2, (4, x2)), (3, (0, x3))] [] h
theorem cut_168_1278 : fj_cut 168 1278 = some [1, 2, 3] := by decide +kernel
noncomputable def c_168_1278 (d : Nat) (x1 x2 x3 : Int) (h : fi_H) : fk_R := gG (fj_run d) 168 1278 [(1, (4, x1)), (2, (4, x2)), (3, (0, x3))] [] h
theorem cut_168_1294 : fj_cut 168 1294 = some [1, 2, 3] := by decide +kernel
noncomputable def c_168_1294 (d : Nat) (x1 x2 x3 : Int) (h : fi_H) : fk_R := gG (fj_run d) 168 1294 [(1, (4, x1)), (2, (4, x2)), (3, (0, x3))] [] h
theorem cut_168_1310 : fj_cut 168 1310 = some [1, 2, 3] := by decide +kernel
noncomputable def c_168_1310 (d : Nat) (x1 x2 x3 : Int) (h : fi_H) : fk_R := gG (fj_run d) 168 1310 [(1, (4, x1)), (2, (4, x2)), (3, (0, x3))] [] h
theorem cut_168_1326 : fj_cut 168 1326 = some [1, 2, 3] := by decide +kernel
noncomputable def c_168_1326 (d : Nat) (x1 x2 x3 : Int) (h : fi_H) : fk_R := gG (fj_run d) 168 1326 [(1, (4, x1)), (2, (4, x2)), (3, (0, x3))] [] h
theorem cut_168_1342 : fj_cut 168 1342 = some [1, 2, 3] := by decide +kernel
noncomputable def c_168_1342 (d : Nat) (x1 x2 x3 : Int) (h : fi_H) : fk_R := gG (fj_run d) 168 1342 [(1, (4, x1)), (2, (4, x2)), (3, (0, x3))] [] h
theorem cut_168_1358 : fj_cut 168 1358 = some [1, 2, 3] := by decide +kernel
noncomputable def c_168_1358 (d : Nat) (x1 x2 x3 : Int) (h : fi_H) : fk_R := gG (fj_run d) 168 1358 [(1, (4, x1)), (2, (4, x2)), (3, (0, x3))] [] h
theorem cut_168_1374 : fj_cut 168 1374 = some [1, 2, 3] := by decide +kernel
noncomputable def c_168_1374 (d : Nat) (x1 x2 x3 : Int) (h : fi_H) : fk_R := gG (fj_run d) 168 1374 [(1, (4, x1)), (2, (4, x2)), (3, (0, x3))] [] h
theorem cut_168_1390 : fj_cut 168 1390 = some [1, 2, 3] := by decide +kernel
noncomputable def c_168_1390 (d : Nat) (x1 x2 x3 : Int) (h : fi_H) : fk_R := gG (fj_run d) 168 1390 [(1, (4, x1)), (2, (4, x2)), (3, (0, x3))] [] h
theorem cut_168_1406 : fj_cut 168 1406 = some [1, 2, 3] := by decide +kernel
noncomputable def c_168_1406 (d : Nat) (x1 x2 x3 : Int) (h : fi_H) : fk_R := gG (fj_run d) 168 1406 [(1, (4, x1)), (2, (4, x2)), (3, (0, x3))] [] h
theorem cut_168_1422 : fj_cut 168 1422 = some [1, 2, 3] := by decide +kernel
noncomputable def c_168_1422 (d : Nat) (x1 x2 x3 : Int) (h : fi_H) : fk_R := gG (fj_run d) 168 1422 [(1, (4, x1)), (2, (4, x2)), (3, (0, x3))] [] h
theorem cut_168_1438 : fj_cut 168 1438 = some [1, 2, 3] := by decide +kernel
noncomputable def c_168_1438 (d : Nat) (x1 x2 x3 : Int) (h : fi_H) : fk_R := gG (fj_run d) 168 1438 [(1, (4, x1)), (2, (4, x2)), (3, (0, x3))] [] h
theorem cut_168_1454 : fj_cut 168 1454 = some [1, 2, 3] := by decide +kernel
noncomputable def c_168_1454 (d : Nat) (x1 x2 x3 : Int) (h : fi_H) : fk_R := gG (fj_run d) 168 1454 [(1, (4, x1)), (2, (4, x2)), (3, (0, x3))] [] h
theorem cut_168_1470 : fj_cut 168 1470 = some [1, 2, 3] := by decide +kernel
noncomputable def c_168_1470 (d : Nat) (x1 x2 x3 : Int) (h : fi_H) : fk_R := gG (fj_run d) 168 1470 [(1, (4, x1)), (2, (4, x2)), (3, (0, x3))] [] h
theorem cut_168_1486 : fj_cut 168 1486 = some [1, 2, 3] := by decide +kernel
noncomputable def c_168_1486 (d : Nat) (x1 x2 x3 : Int) (h : fi_H) : fk_R := gG (fj_run d) 168 1486 [(1, (4, x1)), (2, (4, x2)), (3, (0, x3))] [] h
theorem cut_168_1502 : fj_cut 168 1502 = some [1, 2, 3] := by decide +kernel
noncomputable def c_168_1502 (d : Nat) (x1 x2 x3 : Int) (h : fi_H) : fk_R := gG (fj_run d) 168 1502 [(1, (4, x1)), (2, (4, x2)), (3, (0, x3))] [] h
theorem cut_168_1518 : fj_cut 168 1518 = some [1, 2, 3] := by decide +kernel
noncomputable def c_168_1518 (d : Nat) (x1 x2 x3 : Int) (h : fi_H) : fk_R := gG (fj_run d) 168 1518 [(1, (4, x1)), (2, (4, x2)), (3, (0, x3))] [] h
theorem cut_168_1534 : fj_cut 168 1534 = some [1, 2, 3] := by decide +kernel
noncomputable def c_168_1534 (d : Nat) (x1 x2 x3 : Int) (h : fi_H) : fk_R := gG (fj_run d) 168 1534 [(1, (4, x1)), (2, (4, x2)), (3, (0, x3))] [] h
theorem cut_168_1550 : fj_cut 168 1550 = some [1, 2, 3] := by decide +kernel
noncomputable def c_168_1550 (d : Nat) (x1 x2 x3 : Int) (h : fi_H) : fk_R := gG (fj_run d) 168 1550 [(1, (4, x1)), (2, (4, x2)), (3, (0, x3))] [] h
theorem cut_168_1566 : fj_cut 168 1566 = some [1, 2, 3] := by decide +kernel
noncomputable def c_168_1566 (d : Nat) (x1 x2 x3 : Int) (h : fi_H) : fk_R := gG (fj_run d) 168 1566 [(1, (4, x1)), (2, (4, x2)), (3, (0, x3))] [] h
theorem cut_168_1579 : fj_cut 168 1579 = some [1, 3] := by decide +kernel
noncomputable def c_168_1579 (d : Nat) (x1 x3 : Int) (h : fi_H) : fk_R := gG (fj_run d) 168 1579 [(1, (4, x1)), (3, (0, x3))] [] h
theorem e_168_548 (d : Nat) (x1 x2 x3 : Int) {h : fi_H} (H : Shp h) : c_168_548 d x1 x2 x3 h =
  dv_ (fi_vt 216 (h 0 x2.toNat 0)) fun m4 => ca_ (fj_run d m4 h [(4, x2), (4, 173)]) 0
    (fun v2 h1 =>
    if v2 = 0 then
      c_168_1579 d x1 x3 h1
    else
      c_168_1579 d x1 0 h1)
    (fun q3 h1 => tx_ q3 h1) := by
  unfold c_168_548
  exact
    have D : fk_D 168 [(548, some [1, 2, 3], .aload_n 2, 1, 0, 0, 0), (549, none, .ldc 224, 2, 4, 173, 0), (551, none, .invokevirtual 194, 3, 1, 216, 1), (554, none, .ifCond .eq 1025, 3, 1579, 0, 0), (557, none, .iconst 0, 1, 0, 0, 0), (558, none, .istore_n 3, 1, 0, 0, 0), (559, none, .goto 1020, 3, 1579, 0, 0)] := fq_of2 cd_168 ow_168 cl_168 rfl (pc := 548) (by decide +kernel)
    j_aldn (pc := 548) D rfl rfl rfl fun D =>
    j_ldc (pc := 549) D rfl fun D =>
    j_ivu (pc := 551) (dd := 216) (a := [(4, 173)]) (rest := []) H.2.1 D rfl rfl rfl rfl rfl (fun m4 v2 h1 e1 D =>
      have T := fj_run_ok _ _ _ _ _ _ H.1 e1
      have H := shp_st H T
      j_ifeq (pc := 554) D rfl (fun q =>
        fk_jump cut_168_1579 rfl rfl) (fun q D =>
        j_ic (pc := 557) D rfl fun D =>
        j_istn (pc := 558) (L' := [(3, (0, 0)), (1, (4, x1)), (2, (4, x2))]) D rfl nl_168 rfl rfl fun D =>
        j_goto (pc := 559) D rfl <|
        fk_jump cut_168_1579 rfl rfl)) (fun m4 q3 h1 e1 =>
      j_tx (hx_168 _))
theorem e_168_562 (d : Nat) (x1 x2 x3 : Int) {h : fi_H} (H : Shp h) : c_168_562 d x1 x2 x3 h =
  dv_ (fi_vt 216 (h 0 x2.toNat 0)) fun m4 => ca_ (fj_run d m4 h [(4, x2), (4, 175)]) 0
    (fun v2 h1 =>
    if v2 = 0 then
      c_168_1579 d x1 x3 h1
    else
      c_168_1579 d x1 1 h1)
    (fun q3 h1 => tx_ q3 h1) := by
  unfold c_168_562
  exact
    have D : fk_D 168 [(562, some [1, 2, 3], .aload_n 2, 1, 0, 0, 0), (563, none, .ldc 226, 2, 4, 175, 0), (565, none, .invokevirtual 194, 3, 1, 216, 1), (568, none, .ifCond .eq 1011, 3, 1579, 0, 0), (571, none, .iconst 1, 1, 0, 1, 0), (572, none, .istore_n 3, 1, 0, 0, 0), (573, none, .goto 1006, 3, 1579, 0, 0)] := fq_of2 cd_168 ow_168 cl_168 rfl (pc := 562) (by decide +kernel)
    j_aldn (pc := 562) D rfl rfl rfl fun D =>
    j_ldc (pc := 563) D rfl fun D =>
    j_ivu (pc := 565) (dd := 216) (a := [(4, 175)]) (rest := []) H.2.1 D rfl rfl rfl rfl rfl (fun m4 v2 h1 e1 D =>
      have T := fj_run_ok _ _ _ _ _ _ H.1 e1
      have H := shp_st H T
      j_ifeq (pc := 568) D rfl (fun q =>
        fk_jump cut_168_1579 rfl rfl) (fun q D =>
        j_ic (pc := 571) D rfl fun D =>
        j_istn (pc := 572) (L' := [(3, (0, 1)), (1, (4, x1)), (2, (4, x2))]) D rfl nl_168 rfl rfl fun D =>
        j_goto (pc := 573) D rfl <|
        fk_jump cut_168_1579 rfl rfl)) (fun m4 q3 h1 e1 =>
      j_tx (hx_168 _))
theorem e_168_576 (d : Nat) (x1 x2 x3 : Int) {h : fi_H} (H : Shp h) : c_168_576 d x1 x2 x3 h =
  dv_ (fi_vt 216 (h 0 x2.toNat 0)) fun m4 => ca_ (fj_run d m4 h [(4, x2), (4, 177)]) 0
    (fun v2 h1 =>
    if v2 = 0 then
      c_168_1579 d x1 x3 h1
    else
      c_168_1579 d x1 2 h1)
    (fun q3 h1 => tx_ q3 h1) := by
  unfold c_168_576
  exact
    have D : fk_D 168 [(576, some [1, 2, 3], .aload_n 2, 1, 0, 0, 0), (577, none, .ldc 228, 2, 4, 177, 0), (579, none, .invokevirtual 194, 3, 1, 216, 1), (582, none, .ifCond .eq 997, 3, 1579, 0, 0), (585, none, .iconst 2, 1, 0, 2, 0), (586, none, .istore_n 3, 1, 0, 0, 0), (587, none, .goto 992, 3, 1579, 0, 0)] := fq_of2 cd_168 ow_168 cl_168 rfl (pc := 576) (by decide +kernel)
    j_aldn (pc := 576) D rfl rfl rfl fun D =>
    j_ldc (pc := 577) D rfl fun D =>
    j_ivu (pc := 579) (dd := 216) (a := [(4, 177)]) (rest := []) H.2.1 D rfl rfl rfl rfl rfl (fun m4 v2 h1 e1 D =>
      have T := fj_run_ok _ _ _ _ _ _ H.1 e1
      have H := shp_st H T
      j_ifeq (pc := 582) D rfl (fun q =>
        fk_jump cut_168_1579 rfl rfl) (fun q D =>
        j_ic (pc := 585) D rfl fun D =>
        j_istn (pc := 586) (L' := [(3, (0, 2)), (1, (4, x1)), (2, (4, x2))]) D rfl nl_168 rfl rfl fun D =>
        j_goto (pc := 587) D rfl <|
        fk_jump cut_168_1579 rfl rfl)) (fun m4 q3 h1 e1 =>
      j_tx (hx_168 _))
theorem e_168_590 (d : Nat) (x1 x2 x3 : Int) {h : fi_H} (H : Shp h) : c_168_590 d x1 x2 x3 h =
  dv_ (fi_vt 216 (h 0 x2.toNat 0)) fun m4 => ca_ (fj_run d m4 h [(4, x2), (4, 101)]) 0
    (fun v2 h1 =>
    if v2 = 0 then
      c_168_1579 d x1 x3 h1
    else
      c_168_1579 d x1 3 h1)
    (fun q3 h1 => tx_ q3 h1) := by
  unfold c_168_590
  exact
    have D : fk_D 168 [(590, some [1, 2, 3], .aload_n 2, 1, 0, 0, 0), (591, none, .ldc 230, 2, 4, 101, 0), (593, none, .invokevirtual 194, 3, 1, 216, 1), (596, none, .ifCond .eq 983, 3, 1579, 0, 0), (599, none, .iconst 3, 1, 0, 3, 0), (600, none, .istore_n 3, 1, 0, 0, 0), (601, none, .goto 978, 3, 1579, 0, 0)] := fq_of2 cd_168 ow_168 cl_168 rfl (pc := 590) (by decide +kernel)
    j_aldn (pc := 590) D rfl rfl rfl fun D =>
    j_ldc (pc := 591) D rfl fun D =>
    j_ivu (pc := 593) (dd := 216) (a := [(4, 101)]) (rest := []) H.2.1 D rfl rfl rfl rfl rfl (fun m4 v2 h1 e1 D =>
      have T := fj_run_ok _ _ _ _ _ _ H.1 e1
      have H := shp_st H T
      j_ifeq (pc := 596) D rfl (fun q =>
        fk_jump cut_168_1579 rfl rfl) (fun q D =>
        j_ic (pc := 599) D rfl fun D =>
        j_istn (pc := 600) (L' := [(3, (0, 3)), (1, (4, x1)), (2, (4, x2))]) D rfl nl_168 rfl rfl fun D =>
        j_goto (pc := 601) D rfl <|
        fk_jump cut_168_1579 rfl rfl)) (fun m4 q3 h1 e1 =>
      j_tx (hx_168 _))
theorem e_168_604 (d : Nat) (x1 x2 x3 : Int) {h : fi_H} (H : Shp h) : c_168_604 d x1 x2 x3 h =
  dv_ (fi_vt 216 (h 0 x2.toNat 0)) fun m4 => ca_ (fj_run d m4 h [(4, x2), (4, 103)]) 0
    (fun v2 h1 =>
    if v2 = 0 then
      c_168_1579 d x1 x3 h1
    else
      c_168_1579 d x1 4 h1)
    (fun q3 h1 => tx_ q3 h1) := by
  unfold c_168_604
  exact
    have D : fk_D 168 [(604, some [1, 2, 3], .aload_n 2, 1, 0, 0, 0), (605, none, .ldc 232, 2, 4, 103, 0), (607, none, .invokevirtual 194, 3, 1, 216, 1), (610, none, .ifCond .eq 969, 3, 1579, 0, 0), (613, none, .iconst 4, 1, 0, 4, 0), (614, none, .istore_n 3, 1, 0, 0, 0), (615, none, .goto 964, 3, 1579, 0, 0)] := fq_of2 cd_168 ow_168 cl_168 rfl (pc := 604) (by decide +kernel)
    j_aldn (pc := 604) D rfl rfl rfl fun D =>
    j_ldc (pc := 605) D rfl fun D =>
    j_ivu (pc := 607) (dd := 216) (a := [(4, 103)]) (rest := []) H.2.1 D rfl rfl rfl rfl rfl (fun m4 v2 h1 e1 D =>
      have T := fj_run_ok _ _ _ _ _ _ H.1 e1
      have H := shp_st H T
      j_ifeq (pc := 610) D rfl (fun q =>
        fk_jump cut_168_1579 rfl rfl) (fun q D =>
        j_ic (pc := 613) D rfl fun D =>
        j_istn (pc := 614) (L' := [(3, (0, 4)), (1, (4, x1)), (2, (4, x2))]) D rfl nl_168 rfl rfl fun D =>
        j_goto (pc := 615) D rfl <|
        fk_jump cut_168_1579 rfl rfl)) (fun m4 q3 h1 e1 =>
      j_tx (hx_168 _))
theorem e_168_618 (d : Nat) (x1 x2 x3 : Int) {h : fi_H} (H : Shp h) : c_168_618 d x1 x2 x3 h =
  dv_ (fi_vt 216 (h 0 x2.toNat 0)) fun m4 => ca_ (fj_run d m4 h [(4, x2), (4, 179)]) 0
    (fun v2 h1 =>
    if v2 = 0 then
      c_168_1579 d x1 x3 h1
    else
      c_168_1579 d x1 5 h1)
    (fun q3 h1 => tx_ q3 h1) := by
  unfold c_168_618
  exact
    have D : fk_D 168 [(618, some [1, 2, 3], .aload_n 2, 1, 0, 0, 0), (619, none, .ldc 234, 2, 4, 179, 0), (621, none, .invokevirtual 194, 3, 1, 216, 1), (624, none, .ifCond .eq 955, 3, 1579, 0, 0), (627, none, .iconst 5, 1, 0, 5, 0), (628, none, .istore_n 3, 1, 0, 0, 0), (629, none, .goto 950, 3, 1579, 0, 0)] := fq_of2 cd_168 ow_168 cl_168 rfl (pc := 618) (by decide +kernel)
    j_aldn (pc := 618) D rfl rfl rfl fun D =>
    j_ldc (pc := 619) D rfl fun D =>
    j_ivu (pc := 621) (dd := 216) (a := [(4, 179)]) (rest := []) H.2.1 D rfl rfl rfl rfl rfl (fun m4 v2 h1 e1 D =>
      have T := fj_run_ok _ _ _ _ _ _ H.1 e1
      have H := shp_st H T
      j_ifeq (pc := 624) D rfl (fun q =>
        fk_jump cut_168_1579 rfl rfl) (fun q D =>
        j_ic (pc := 627) D rfl fun D =>
        j_istn (pc := 628) (L' := [(3, (0, 5)), (1, (4, x1)), (2, (4, x2))]) D rfl nl_168 rfl rfl fun D =>
        j_goto (pc := 629) D rfl <|
        fk_jump cut_168_1579 rfl rfl)) (fun m4 q3 h1 e1 =>
      j_tx (hx_168 _))
theorem e_168_632 (d : Nat) (x1 x2 x3 : Int) {h : fi_H} (H : Shp h) : c_168_632 d x1 x2 x3 h =
  dv_ (fi_vt 216 (h 0 x2.toNat 0)) fun m4 => ca_ (fj_run d m4 h [(4, x2), (4, 181)]) 0
    (fun v2 h1 =>
    if v2 = 0 then
      c_168_1579 d x1 x3 h1
    else
      c_168_1579 d x1 6 h1)
    (fun q3 h1 => tx_ q3 h1) := by
  unfold c_168_632
  exact
    have D : fk_D 168 [(632, some [1, 2, 3], .aload_n 2, 1, 0, 0, 0), (633, none, .ldc 236, 2, 4, 181, 0), (635, none, .invokevirtual 194, 3, 1, 216, 1), (638, none, .ifCond .eq 941, 3, 1579, 0, 0), (641, none, .bipush 6, 2, 0, 6, 0), (643, none, .istore_n 3, 1, 0, 0, 0), (644, none, .goto 935, 3, 1579, 0, 0)] := fq_of2 cd_168 ow_168 cl_168 rfl (pc := 632) (by decide +kernel)
    j_aldn (pc := 632) D rfl rfl rfl fun D =>
    j_ldc (pc := 633) D rfl fun D =>
    j_ivu (pc := 635) (dd := 216) (a := [(4, 181)]) (rest := []) H.2.1 D rfl rfl rfl rfl rfl (fun m4 v2 h1 e1 D =>
      have T := fj_run_ok _ _ _ _ _ _ H.1 e1
      have H := shp_st H T
      j_ifeq (pc := 638) D rfl (fun q =>
        fk_jump cut_168_1579 rfl rfl) (fun q D =>
        j_bp (pc := 641) D rfl fun D =>
        j_istn (pc := 643) (L' := [(3, (0, 6)), (1, (4, x1)), (2, (4, x2))]) D rfl nl_168 rfl rfl fun D =>
        j_goto (pc := 644) D rfl <|
        fk_jump cut_168_1579 rfl rfl)) (fun m4 q3 h1 e1 =>
      j_tx (hx_168 _))
theorem e_168_647 (d : Nat) (x1 x2 x3 : Int) {h : fi_H} (H : Shp h) : c_168_647 d x1 x2 x3 h =
  dv_ (fi_vt 216 (h 0 x2.toNat 0)) fun m4 => ca_ (fj_run d m4 h [(4, x2), (4, 183)]) 0
    (fun v2 h1 =>
    if v2 = 0 then
      c_168_1579 d x1 x3 h1
    else
      c_168_1579 d x1 7 h1)
    (fun q3 h1 => tx_ q3 h1) := by
  unfold c_168_647
  exact
    have D : fk_D 168 [(647, some [1, 2, 3], .aload_n 2, 1, 0, 0, 0), (648, none, .ldc 238, 2, 4, 183, 0), (650, none, .invokevirtual 194, 3, 1, 216, 1), (653, none, .ifCond .eq 926, 3, 1579, 0, 0), (656, none, .bipush 7, 2, 0, 7, 0), (658, none, .istore_n 3, 1, 0, 0, 0), (659, none, .goto 920, 3, 1579, 0, 0)] := fq_of2 cd_168 ow_168 cl_168 rfl (pc := 647) (by decide +kernel)
    j_aldn (pc := 647) D rfl rfl rfl fun D =>
    j_ldc (pc := 648) D rfl fun D =>
    j_ivu (pc := 650) (dd := 216) (a := [(4, 183)]) (rest := []) H.2.1 D rfl rfl rfl rfl rfl (fun m4 v2 h1 e1 D =>
      have T := fj_run_ok _ _ _ _ _ _ H.1 e1
      have H := shp_st H T
      j_ifeq (pc := 653) D rfl (fun q =>
        fk_jump cut_168_1579 rfl rfl) (fun q D =>
        j_bp (pc := 656) D rfl fun D =>
        j_istn (pc := 658) (L' := [(3, (0, 7)), (1, (4, x1)), (2, (4, x2))]) D rfl nl_168 rfl rfl fun D =>
        j_goto (pc := 659) D rfl <|
        fk_jump cut_168_1579 rfl rfl)) (fun m4 q3 h1 e1 =>
      j_tx (hx_168 _))
theorem e_168_662 (d : Nat) (x1 x2 x3 : Int) {h : fi_H} (H : Shp h) : c_168_662 d x1 x2 x3 h =
  dv_ (fi_vt 216 (h 0 x2.toNat 0)) fun m4 => ca_ (fj_run d m4 h [(4, x2), (4, 185)]) 0
    (fun v2 h1 =>
    if v2 = 0 then
      c_168_1579 d x1 x3 h1
    else
      c_168_1579 d x1 8 h1)
    (fun q3 h1 => tx_ q3 h1) := by
  unfold c_168_662
  exact
    have D : fk_D 168 [(662, some [1, 2, 3], .aload_n 2, 1, 0, 0, 0), (663, none, .ldc 240, 2, 4, 185, 0), (665, none, .invokevirtual 194, 3, 1, 216, 1), (668, none, .ifCond .eq 911, 3, 1579, 0, 0), (671, none, .bipush 8, 2, 0, 8, 0), (673, none, .istore_n 3, 1, 0, 0, 0), (674, none, .goto 905, 3, 1579, 0, 0)] := fq_of2 cd_168 ow_168 cl_168 rfl (pc := 662) (by decide +kernel)
    j_aldn (pc := 662) D rfl rfl rfl fun D =>
    j_ldc (pc := 663) D rfl fun D =>
    j_ivu (pc := 665) (dd := 216) (a := [(4, 185)]) (rest := []) H.2.1 D rfl rfl rfl rfl rfl (fun m4 v2 h1 e1 D =>
      have T := fj_run_ok _ _ _ _ _ _ H.1 e1
      have H := shp_st H T
      j_ifeq (pc := 668) D rfl (fun q =>
        fk_jump cut_168_1579 rfl rfl) (fun q D =>
        j_bp (pc := 671) D rfl fun D =>
        j_istn (pc := 673) (L' := [(3, (0, 8)), (1, (4, x1)), (2, (4, x2))]) D rfl nl_168 rfl rfl fun D =>
        j_goto (pc := 674) D rfl <|
        fk_jump cut_168_1579 rfl rfl)) (fun m4 q3 h1 e1 =>
      j_tx (hx_168 _))
theorem e_168_677 (d : Nat) (x1 x2 x3 : Int) {h : fi_H} (H : Shp h) : c_168_677 d x1 x2 x3 h =
  dv_ (fi_vt 216 (h 0 x2.toNat 0)) fun m4 => ca_ (fj_run d m4 h [(4, x2), (4, 187)]) 0
    (fun v2 h1 =>
    if v2 = 0 then
      c_168_1579 d x1 x3 h1
    else
      c_168_1579 d x1 9 h1)
    (fun q3 h1 => tx_ q3 h1) := by
  unfold c_168_677
  exact
    have D : fk_D 168 [(677, some [1, 2, 3], .aload_n 2, 1, 0, 0, 0), (678, none, .ldc 242, 2, 4, 187, 0), (680, none, .invokevirtual 194, 3, 1, 216, 1), (683, none, .ifCond .eq 896, 3, 1579, 0, 0), (686, none, .bipush 9, 2, 0, 9, 0), (688, none, .istore_n 3, 1, 0, 0, 0), (689, none, .goto 890, 3, 1579, 0, 0)] := fq_of2 cd_168 ow_168 cl_168 rfl (pc := 677) (by decide +kernel)
    j_aldn (pc := 677) D rfl rfl rfl fun D =>
    j_ldc (pc := 678) D rfl fun D =>
    j_ivu (pc := 680) (dd := 216) (a := [(4, 187)]) (rest := []) H.2.1 D rfl rfl rfl rfl rfl (fun m4 v2 h1 e1 D =>
      have T := fj_run_ok _ _ _ _ _ _ H.1 e1
      have H := shp_st H T
      j_ifeq (pc := 683) D rfl (fun q =>
        fk_jump cut_168_1579 rfl rfl) (fun q D =>
        j_bp (pc := 686) D rfl fun D =>
        j_istn (pc := 688) (L' := [(3, (0, 9)), (1, (4, x1)), (2, (4, x2))]) D rfl nl_168 rfl rfl fun D =>
        j_goto (pc := 689) D rfl <|
        fk_jump cut_168_1579 rfl rfl)) (fun m4 q3 h1 e1 =>
      j_tx (hx_168 _))
theorem e_168_692 (d : Nat) (x1 x2 x3 : Int) {h : fi_H} (H : Shp h) : c_168_692 d x1 x2 x3 h =
  dv_ (fi_vt 216 (h 0 x2.toNat 0)) fun m4 => ca_ (fj_run d m4 h [(4, x2), (4, 189)]) 0
    (fun v2 h1 =>
    if v2 = 0 then
      c_168_1579 d x1 x3 h1
    else
      c_168_1579 d x1 10 h1)
    (fun q3 h1 => tx_ q3 h1) := by
  unfold c_168_692
  exact
    have D : fk_D 168 [(692, some [1, 2, 3], .aload_n 2, 1, 0, 0, 0), (693, none, .ldc 244, 2, 4, 189, 0), (695, none, .invokevirtual 194, 3, 1, 216, 1), (698, none, .ifCond .eq 881, 3, 1579, 0, 0), (701, none, .bipush 10, 2, 0, 10, 0), (703, none, .istore_n 3, 1, 0, 0, 0), (704, none, .goto 875, 3, 1579, 0, 0)] := fq_of2 cd_168 ow_168 cl_168 rfl (pc := 692) (by decide +kernel)
    j_aldn (pc := 692) D rfl rfl rfl fun D =>
    j_ldc (pc := 693) D rfl fun D =>
    j_ivu (pc := 695) (dd := 216) (a := [(4, 189)]) (rest := []) H.2.1 D rfl rfl rfl rfl rfl (fun m4 v2 h1 e1 D =>
      have T := fj_run_ok _ _ _ _ _ _ H.1 e1
      have H := shp_st H T
      j_ifeq (pc := 698) D rfl (fun q =>
        fk_jump cut_168_1579 rfl rfl) (fun q D =>
        j_bp (pc := 701) D rfl fun D =>
        j_istn (pc := 703) (L' := [(3, (0, 10)), (1, (4, x1)), (2, (4, x2))]) D rfl nl_168 rfl rfl fun D =>
        j_goto (pc := 704) D rfl <|
        fk_jump cut_168_1579 rfl rfl)) (fun m4 q3 h1 e1 =>
      j_tx (hx_168 _))
theorem e_168_707 (d : Nat) (x1 x2 x3 : Int) {h : fi_H} (H : Shp h) : c_168_707 d x1 x2 x3 h =
  dv_ (fi_vt 216 (h 0 x2.toNat 0)) fun m4 => ca_ (fj_run d m4 h [(4, x2), (4, 191)]) 0
    (fun v2 h1 =>
    if v2 = 0 then
      c_168_1579 d x1 x3 h1
    else
      c_168_1579 d x1 11 h1)
    (fun q3 h1 => tx_ q3 h1) := by
  unfold c_168_707
  exact
    have D : fk_D 168 [(707, some [1, 2, 3], .aload_n 2, 1, 0, 0, 0), (708, none, .ldc 246, 2, 4, 191, 0), (710, none, .invokevirtual 194, 3, 1, 216, 1), (713, none, .ifCond .eq 866, 3, 1579, 0, 0), (716, none, .bipush 11, 2, 0, 11, 0), (718, none, .istore_n 3, 1, 0, 0, 0), (719, none, .goto 860, 3, 1579, 0, 0)] := fq_of2 cd_168 ow_168 cl_168 rfl (pc := 707) (by decide +kernel)
    j_aldn (pc := 707) D rfl rfl rfl fun D =>
    j_ldc (pc := 708) D rfl fun D =>
    j_ivu (pc := 710) (dd := 216) (a := [(4, 191)]) (rest := []) H.2.1 D rfl rfl rfl rfl rfl (fun m4 v2 h1 e1 D =>
      have T := fj_run_ok _ _ _ _ _ _ H.1 e1
      have H := shp_st H T
      j_ifeq (pc := 713) D rfl (fun q =>
        fk_jump cut_168_1579 rfl rfl) (fun q D =>
        j_bp (pc := 716) D rfl fun D =>
        j_istn (pc := 718) (L' := [(3, (0, 11)), (1, (4, x1)), (2, (4, x2))]) D rfl nl_168 rfl rfl fun D =>
        j_goto (pc := 719) D rfl <|
        fk_jump cut_168_1579 rfl rfl)) (fun m4 q3 h1 e1 =>
      j_tx (hx_168 _))
theorem e_168_722 (d : Nat) (x1 x2 x3 : Int) {h : fi_H} (H : Shp h) : c_168_722 d x1 x2 x3 h =
  dv_ (fi_vt 216 (h 0 x2.toNat 0)) fun m4 => ca_ (fj_run d m4 h [(4, x2), (4, 193)]) 0
    (fun v2 h1 =>
    if v2 = 0 then
      c_168_1579 d x1 x3 h1
    else
      c_168_1579 d x1 12 h1)
    (fun q3 h1 => tx_ q3 h1) := by
  unfold c_168_722
  exact
    have D : fk_D 168 [(722, some [1, 2, 3], .aload_n 2, 1, 0, 0, 0), (723, none, .ldc 248, 2, 4, 193, 0), (725, none, .invokevirtual 194, 3, 1, 216, 1), (728, none, .ifCond .eq 851, 3, 1579, 0, 0), (731, none, .bipush 12, 2, 0, 12, 0), (733, none, .istore_n 3, 1, 0, 0, 0), (734, none, .goto 845, 3, 1579, 0, 0)] := fq_of2 cd_168 ow_168 cl_168 rfl (pc := 722) (by decide +kernel)
    j_aldn (pc := 722) D rfl rfl rfl fun D =>
    j_ldc (pc := 723) D rfl fun D =>
    j_ivu (pc := 725) (dd := 216) (a := [(4, 193)]) (rest := []) H.2.1 D rfl rfl rfl rfl rfl (fun m4 v2 h1 e1 D =>
      have T := fj_run_ok _ _ _ _ _ _ H.1 e1
      have H := shp_st H T
      j_ifeq (pc := 728) D rfl (fun q =>
        fk_jump cut_168_1579 rfl rfl) (fun q D =>
        j_bp (pc := 731) D rfl fun D =>
        j_istn (pc := 733) (L' := [(3, (0, 12)), (1, (4, x1)), (2, (4, x2))]) D rfl nl_168 rfl rfl fun D =>
        j_goto (pc := 734) D rfl <|
        fk_jump cut_168_1579 rfl rfl)) (fun m4 q3 h1 e1 =>
      j_tx (hx_168 _))
theorem e_168_737 (d : Nat) (x1 x2 x3 : Int) {h : fi_H} (H : Shp h) : c_168_737 d x1 x2 x3 h =
  dv_ (fi_vt 216 (h 0 x2.toNat 0)) fun m4 => ca_ (fj_run d m4 h [(4, x2), (4, 171)]) 0
    (fun v2 h1 =>
    if v2 = 0 then
      c_168_1579 d x1 x3 h1
    else
      c_168_1579 d x1 13 h1)
    (fun q3 h1 => tx_ q3 h1) := by
  unfold c_168_737
  exact
    have D : fk_D 168 [(737, some [1, 2, 3], .aload_n 2, 1, 0, 0, 0), (738, none, .ldc 250, 2, 4, 171, 0), (740, none, .invokevirtual 194, 3, 1, 216, 1), (743, none, .ifCond .eq 836, 3, 1579, 0, 0), (746, none, .bipush 13, 2, 0, 13, 0), (748, none, .istore_n 3, 1, 0, 0, 0), (749, none, .goto 830, 3, 1579, 0, 0)] := fq_of2 cd_168 ow_168 cl_168 rfl (pc := 737) (by decide +kernel)
    j_aldn (pc := 737) D rfl rfl rfl fun D =>
    j_ldc (pc := 738) D rfl fun D =>
    j_ivu (pc := 740) (dd := 216) (a := [(4, 171)]) (rest := []) H.2.1 D rfl rfl rfl rfl rfl (fun m4 v2 h1 e1 D =>
      have T := fj_run_ok _ _ _ _ _ _ H.1 e1
      have H := shp_st H T
      j_ifeq (pc := 743) D rfl (fun q =>
        fk_jump cut_168_1579 rfl rfl) (fun q D =>
        j_bp (pc := 746) D rfl fun D =>
        j_istn (pc := 748) (L' := [(3, (0, 13)), (1, (4, x1)), (2, (4, x2))]) D rfl nl_168 rfl rfl fun D =>
        j_goto (pc := 749) D rfl <|
        fk_jump cut_168_1579 rfl rfl)) (fun m4 q3 h1 e1 =>
      j_tx (hx_168 _))
theorem e_168_752 (d : Nat) (x1 x2 x3 : Int) {h : fi_H} (H : Shp h) : c_168_752 d x1 x2 x3 h =
  dv_ (fi_vt 216 (h 0 x2.toNat 0)) fun m4 => ca_ (fj_run d m4 h [(4, x2), (4, 167)]) 0
    (fun v2 h1 =>
    if v2 = 0 then
      c_168_1579 d x1 x3 h1
    else
      c_168_1579 d x1 14 h1)
    (fun q3 h1 => tx_ q3 h1) := by
  unfold c_168_752
  exact
    have D : fk_D 168 [(752, some [1, 2, 3], .aload_n 2, 1, 0, 0, 0), (753, none, .ldc 252, 2, 4, 167, 0), (755, none, .invokevirtual 194, 3, 1, 216, 1), (758, none, .ifCond .eq 821, 3, 1579, 0, 0), (761, none, .bipush 14, 2, 0, 14, 0), (763, none, .istore_n 3, 1, 0, 0, 0), (764, none, .goto 815, 3, 1579, 0, 0)] := fq_of2 cd_168 ow_168 cl_168 rfl (pc := 752) (by decide +kernel)
    j_aldn (pc := 752) D rfl rfl rfl fun D =>
    j_ldc (pc := 753) D rfl fun D =>
    j_ivu (pc := 755) (dd := 216) (a := [(4, 167)]) (rest := []) H.2.1 D rfl rfl rfl rfl rfl (fun m4 v2 h1 e1 D =>
      have T := fj_run_ok _ _ _ _ _ _ H.1 e1
      have H := shp_st H T
      j_ifeq (pc := 758) D rfl (fun q =>
        fk_jump cut_168_1579 rfl rfl) (fun q D =>
        j_bp (pc := 761) D rfl fun D =>
        j_istn (pc := 763) (L' := [(3, (0, 14)), (1, (4, x1)), (2, (4, x2))]) D rfl nl_168 rfl rfl fun D =>
        j_goto (pc := 764) D rfl <|
        fk_jump cut_168_1579 rfl rfl)) (fun m4 q3 h1 e1 =>
      j_tx (hx_168 _))
theorem e_168_767 (d : Nat) (x1 x2 x3 : Int) {h : fi_H} (H : Shp h) : c_168_767 d x1 x2 x3 h =
  dv_ (fi_vt 216 (h 0 x2.toNat 0)) fun m4 => ca_ (fj_run d m4 h [(4, x2), (4, 195)]) 0
    (fun v2 h1 =>
    if v2 = 0 then
      c_168_1579 d x1 x3 h1
    else
      c_168_1579 d x1 15 h1)
    (fun q3 h1 => tx_ q3 h1) := by
  unfold c_168_767
  exact
    have D : fk_D 168 [(767, some [1, 2, 3], .aload_n 2, 1, 0, 0, 0), (768, none, .ldc 254, 2, 4, 195, 0), (770, none, .invokevirtual 194, 3, 1, 216, 1), (773, none, .ifCond .eq 806, 3, 1579, 0, 0), (776, none, .bipush 15, 2, 0, 15, 0), (778, none, .istore_n 3, 1, 0, 0, 0), (779, none, .goto 800, 3, 1579, 0, 0)] := fq_of2 cd_168 ow_168 cl_168 rfl (pc := 767) (by decide +kernel)
    j_aldn (pc := 767) D rfl rfl rfl fun D =>
    j_ldc (pc := 768) D rfl fun D =>
    j_ivu (pc := 770) (dd := 216) (a := [(4, 195)]) (rest := []) H.2.1 D rfl rfl rfl rfl rfl (fun m4 v2 h1 e1 D =>
      have T := fj_run_ok _ _ _ _ _ _ H.1 e1
      have H := shp_st H T
      j_ifeq (pc := 773) D rfl (fun q =>
        fk_jump cut_168_1579 rfl rfl) (fun q D =>
        j_bp (pc := 776) D rfl fun D =>
        j_istn (pc := 778) (L' := [(3, (0, 15)), (1, (4, x1)), (2, (4, x2))]) D rfl nl_168 rfl rfl fun D =>
        j_goto (pc := 779) D rfl <|
        fk_jump cut_168_1579 rfl rfl)) (fun m4 q3 h1 e1 =>
      j_tx (hx_168 _))
theorem e_168_782 (d : Nat) (x1 x2 x3 : Int) {h : fi_H} (H : Shp h) : c_168_782 d x1 x2 x3 h =
  dv_ (fi_vt 216 (h 0 x2.toNat 0)) fun m4 => ca_ (fj_run d m4 h [(4, x2), (4, 197)]) 0
    (fun v2 h1 =>
    if v2 = 0 then
      c_168_1579 d x1 x3 h1
    else
      c_168_1579 d x1 16 h1)
    (fun q3 h1 => tx_ q3 h1) := by
  unfold c_168_782
  exact
    have D : fk_D 168 [(782, some [1, 2, 3], .aload_n 2, 1, 0, 0, 0), (783, none, .ldc_w 256, 3, 4, 197, 0), (786, none, .invokevirtual 194, 3, 1, 216, 1), (789, none, .ifCond .eq 790, 3, 1579, 0, 0), (792, none, .bipush 16, 2, 0, 16, 0), (794, none, .istore_n 3, 1, 0, 0, 0), (795, none, .goto 784, 3, 1579, 0, 0)] := fq_of2 cd_168 ow_168 cl_168 rfl (pc := 782) (by decide +kernel)
    j_aldn (pc := 782) D rfl rfl rfl fun D =>
    j_ldcw (pc := 783) D rfl fun D =>
    j_ivu (pc := 786) (dd := 216) (a := [(4, 197)]) (rest := []) H.2.1 D rfl rfl rfl rfl rfl (fun m4 v2 h1 e1 D =>
      have T := fj_run_ok _ _ _ _ _ _ H.1 e1
      have H := shp_st H T
      j_ifeq (pc := 789) D rfl (fun q =>
        fk_jump cut_168_1579 rfl rfl) (fun q D =>
        j_bp (pc := 792) D rfl fun D =>
        j_istn (pc := 794) (L' := [(3, (0, 16)), (1, (4, x1)), (2, (4, x2))]) D rfl nl_168 rfl rfl fun D =>
        j_goto (pc := 795) D rfl <|
        fk_jump cut_168_1579 rfl rfl)) (fun m4 q3 h1 e1 =>
      j_tx (hx_168 _))
theorem e_168_798 (d : Nat) (x1 x2 x3 : Int) {h : fi_H} (H : Shp h) : c_168_798 d x1 x2 x3 h =
  dv_ (fi_vt 216 (h 0 x2.toNat 0)) fun m4 => ca_ (fj_run d m4 h [(4, x2), (4, 149)]) 0
    (fun v2 h1 =>
    if v2 = 0 then
      c_168_1579 d x1 x3 h1
    else
      c_168_1579 d x1 17 h1)
    (fun q3 h1 => tx_ q3 h1) := by
  unfold c_168_798
  exact
    have D : fk_D 168 [(798, some [1, 2, 3], .aload_n 2, 1, 0, 0, 0), (799, none, .ldc_w 258, 3, 4, 149, 0), (802, none, .invokevirtual 194, 3, 1, 216, 1), (805, none, .ifCond .eq 774, 3, 1579, 0, 0), (808, none, .bipush 17, 2, 0, 17, 0), (810, none, .istore_n 3, 1, 0, 0, 0), (811, none, .goto 768, 3, 1579, 0, 0)] := fq_of2 cd_168 ow_168 cl_168 rfl (pc := 798) (by decide +kernel)
    j_aldn (pc := 798) D rfl rfl rfl fun D =>
    j_ldcw (pc := 799) D rfl fun D =>
    j_ivu (pc := 802) (dd := 216) (a := [(4, 149)]) (rest := []) H.2.1 D rfl rfl rfl rfl rfl (fun m4 v2 h1 e1 D =>
      have T := fj_run_ok _ _ _ _ _ _ H.1 e1
      have H := shp_st H T
      j_ifeq (pc := 805) D rfl (fun q =>
        fk_jump cut_168_1579 rfl rfl) (fun q D =>
        j_bp (pc := 808) D rfl fun D =>
        j_istn (pc := 810) (L' := [(3, (0, 17)), (1, (4, x1)), (2, (4, x2))]) D rfl nl_168 rfl rfl fun D =>
        j_goto (pc := 811) D rfl <|
        fk_jump cut_168_1579 rfl rfl)) (fun m4 q3 h1 e1 =>
      j_tx (hx_168 _))
theorem e_168_814 (d : Nat) (x1 x2 x3 : Int) {h : fi_H} (H : Shp h) : c_168_814 d x1 x2 x3 h =
  dv_ (fi_vt 216 (h 0 x2.toNat 0)) fun m4 => ca_ (fj_run d m4 h [(4, x2), (4, 199)]) 0
    (fun v2 h1 =>
    if v2 = 0 then
      c_168_1579 d x1 x3 h1
    else
      c_168_1579 d x1 18 h1)
    (fun q3 h1 => tx_ q3 h1) := by
  unfold c_168_814
  exact
    have D : fk_D 168 [(814, some [1, 2, 3], .aload_n 2, 1, 0, 0, 0), (815, none, .ldc_w 260, 3, 4, 199, 0), (818, none, .invokevirtual 194, 3, 1, 216, 1), (821, none, .ifCond .eq 758, 3, 1579, 0, 0), (824, none, .bipush 18, 2, 0, 18, 0), (826, none, .istore_n 3, 1, 0, 0, 0), (827, none, .goto 752, 3, 1579, 0, 0)] := fq_of2 cd_168 ow_168 cl_168 rfl (pc := 814) (by decide +kernel)
    j_aldn (pc := 814) D rfl rfl rfl fun D =>
    j_ldcw (pc := 815) D rfl fun D =>
    j_ivu (pc := 818) (dd := 216) (a := [(4, 199)]) (rest := []) H.2.1 D rfl rfl rfl rfl rfl (fun m4 v2 h1 e1 D =>
      have T := fj_run_ok _ _ _ _ _ _ H.1 e1
      have H := shp_st H T
      j_ifeq (pc := 821) D rfl (fun q =>
        fk_jump cut_168_1579 rfl rfl) (fun q D =>
        j_bp (pc := 824) D rfl fun D =>
        j_istn (pc := 826) (L' := [(3, (0, 18)), (1, (4, x1)), (2, (4, x2))]) D rfl nl_168 rfl rfl fun D =>
        j_goto (pc := 827) D rfl <|
        fk_jump cut_168_1579 rfl rfl)) (fun m4 q3 h1 e1 =>
      j_tx (hx_168 _))
theorem e_168_830 (d : Nat) (x1 x2 x3 : Int) {h : fi_H} (H : Shp h) : c_168_830 d x1 x2 x3 h =
  dv_ (fi_vt 216 (h 0 x2.toNat 0)) fun m4 => ca_ (fj_run d m4 h [(4, x2), (4, 201)]) 0
    (fun v2 h1 =>
    if v2 = 0 then
      c_168_1579 d x1 x3 h1
    else
      c_168_1579 d x1 19 h1)
    (fun q3 h1 => tx_ q3 h1) := by
  unfold c_168_830
  exact
    have D : fk_D 168 [(830, some [1, 2, 3], .aload_n 2, 1, 0, 0, 0), (831, none, .ldc_w 262, 3, 4, 201, 0), (834, none, .invokevirtual 194, 3, 1, 216, 1), (837, none, .ifCond .eq 742, 3, 1579, 0, 0), (840, none, .bipush 19, 2, 0, 19, 0), (842, none, .istore_n 3, 1, 0, 0, 0), (843, none, .goto 736, 3, 1579, 0, 0)] := fq_of2 cd_168 ow_168 cl_168 rfl (pc := 830) (by decide +kernel)
    j_aldn (pc := 830) D rfl rfl rfl fun D =>
    j_ldcw (pc := 831) D rfl fun D =>
    j_ivu (pc := 834) (dd := 216) (a := [(4, 201)]) (rest := []) H.2.1 D rfl rfl rfl rfl rfl (fun m4 v2 h1 e1 D =>
      have T := fj_run_ok _ _ _ _ _ _ H.1 e1
      have H := shp_st H T
      j_ifeq (pc := 837) D rfl (fun q =>
        fk_jump cut_168_1579 rfl rfl) (fun q D =>
        j_bp (pc := 840) D rfl fun D =>
        j_istn (pc := 842) (L' := [(3, (0, 19)), (1, (4, x1)), (2, (4, x2))]) D rfl nl_168 rfl rfl fun D =>
        j_goto (pc := 843) D rfl <|
        fk_jump cut_168_1579 rfl rfl)) (fun m4 q3 h1 e1 =>
      j_tx (hx_168 _))
theorem e_168_846 (d : Nat) (x1 x2 x3 : Int) {h : fi_H} (H : Shp h) : c_168_846 d x1 x2 x3 h =
  dv_ (fi_vt 216 (h 0 x2.toNat 0)) fun m4 => ca_ (fj_run d m4 h [(4, x2), (4, 99)]) 0
    (fun v2 h1 =>
    if v2 = 0 then
      c_168_1579 d x1 x3 h1
    else
      c_168_1579 d x1 20 h1)
    (fun q3 h1 => tx_ q3 h1) := by
  unfold c_168_846
  exact
    have D : fk_D 168 [(846, some [1, 2, 3], .aload_n 2, 1, 0, 0, 0), (847, none, .ldc_w 264, 3, 4, 99, 0), (850, none, .invokevirtual 194, 3, 1, 216, 1), (853, none, .ifCond .eq 726, 3, 1579, 0, 0), (856, none, .bipush 20, 2, 0, 20, 0), (858, none, .istore_n 3, 1, 0, 0, 0), (859, none, .goto 720, 3, 1579, 0, 0)] := fq_of2 cd_168 ow_168 cl_168 rfl (pc := 846) (by decide +kernel)
    j_aldn (pc := 846) D rfl rfl rfl fun D =>
    j_ldcw (pc := 847) D rfl fun D =>
    j_ivu (pc := 850) (dd := 216) (a := [(4, 99)]) (rest := []) H.2.1 D rfl rfl rfl rfl rfl (fun m4 v2 h1 e1 D =>
      have T := fj_run_ok _ _ _ _ _ _ H.1 e1
      have H := shp_st H T
      j_ifeq (pc := 853) D rfl (fun q =>
        fk_jump cut_168_1579 rfl rfl) (fun q D =>
        j_bp (pc := 856) D rfl fun D =>
        j_istn (pc := 858) (L' := [(3, (0, 20)), (1, (4, x1)), (2, (4, x2))]) D rfl nl_168 rfl rfl fun D =>
        j_goto (pc := 859) D rfl <|
        fk_jump cut_168_1579 rfl rfl)) (fun m4 q3 h1 e1 =>
      j_tx (hx_168 _))
theorem e_168_862 (d : Nat) (x1 x2 x3 : Int) {h : fi_H} (H : Shp h) : c_168_862 d x1 x2 x3 h =
  dv_ (fi_vt 216 (h 0 x2.toNat 0)) fun m4 => ca_ (fj_run d m4 h [(4, x2), (4, 203)]) 0
    (fun v2 h1 =>
    if v2 = 0 then
      c_168_1579 d x1 x3 h1
    else
      c_168_1579 d x1 21 h1)
    (fun q3 h1 => tx_ q3 h1) := by
  unfold c_168_862
  exact
    have D : fk_D 168 [(862, some [1, 2, 3], .aload_n 2, 1, 0, 0, 0), (863, none, .ldc_w 266, 3, 4, 203, 0), (866, none, .invokevirtual 194, 3, 1, 216, 1), (869, none, .ifCond .eq 710, 3, 1579, 0, 0), (872, none, .bipush 21, 2, 0, 21, 0), (874, none, .istore_n 3, 1, 0, 0, 0), (875, none, .goto 704, 3, 1579, 0, 0)] := fq_of2 cd_168 ow_168 cl_168 rfl (pc := 862) (by decide +kernel)
    j_aldn (pc := 862) D rfl rfl rfl fun D =>
    j_ldcw (pc := 863) D rfl fun D =>
    j_ivu (pc := 866) (dd := 216) (a := [(4, 203)]) (rest := []) H.2.1 D rfl rfl rfl rfl rfl (fun m4 v2 h1 e1 D =>
      have T := fj_run_ok _ _ _ _ _ _ H.1 e1
      have H := shp_st H T
      j_ifeq (pc := 869) D rfl (fun q =>
        fk_jump cut_168_1579 rfl rfl) (fun q D =>
        j_bp (pc := 872) D rfl fun D =>
        j_istn (pc := 874) (L' := [(3, (0, 21)), (1, (4, x1)), (2, (4, x2))]) D rfl nl_168 rfl rfl fun D =>
        j_goto (pc := 875) D rfl <|
        fk_jump cut_168_1579 rfl rfl)) (fun m4 q3 h1 e1 =>
      j_tx (hx_168 _))
theorem e_168_878 (d : Nat) (x1 x2 x3 : Int) {h : fi_H} (H : Shp h) : c_168_878 d x1 x2 x3 h =
  dv_ (fi_vt 216 (h 0 x2.toNat 0)) fun m4 => ca_ (fj_run d m4 h [(4, x2), (4, 119)]) 0
    (fun v2 h1 =>
    if v2 = 0 then
      c_168_1579 d x1 x3 h1
    else
      c_168_1579 d x1 22 h1)
    (fun q3 h1 => tx_ q3 h1) := by
  unfold c_168_878
  exact
    have D : fk_D 168 [(878, some [1, 2, 3], .aload_n 2, 1, 0, 0, 0), (879, none, .ldc_w 268, 3, 4, 119, 0), (882, none, .invokevirtual 194, 3, 1, 216, 1), (885, none, .ifCond .eq 694, 3, 1579, 0, 0), (888, none, .bipush 22, 2, 0, 22, 0), (890, none, .istore_n 3, 1, 0, 0, 0), (891, none, .goto 688, 3, 1579, 0, 0)] := fq_of2 cd_168 ow_168 cl_168 rfl (pc := 878) (by decide +kernel)
    j_aldn (pc := 878) D rfl rfl rfl fun D =>
    j_ldcw (pc := 879) D rfl fun D =>
    j_ivu (pc := 882) (dd := 216) (a := [(4, 119)]) (rest := []) H.2.1 D rfl rfl rfl rfl rfl (fun m4 v2 h1 e1 D =>
      have T := fj_run_ok _ _ _ _ _ _ H.1 e1
      have H := shp_st H T
      j_ifeq (pc := 885) D rfl (fun q =>
        fk_jump cut_168_1579 rfl rfl) (fun q D =>
        j_bp (pc := 888) D rfl fun D =>
        j_istn (pc := 890) (L' := [(3, (0, 22)), (1, (4, x1)), (2, (4, x2))]) D rfl nl_168 rfl rfl fun D =>
        j_goto (pc := 891) D rfl <|
        fk_jump cut_168_1579 rfl rfl)) (fun m4 q3 h1 e1 =>
      j_tx (hx_168 _))
theorem e_168_894 (d : Nat) (x1 x2 x3 : Int) {h : fi_H} (H : Shp h) : c_168_894 d x1 x2 x3 h =
  dv_ (fi_vt 216 (h 0 x2.toNat 0)) fun m4 => ca_ (fj_run d m4 h [(4, x2), (4, 205)]) 0
    (fun v2 h1 =>
    if v2 = 0 then
      c_168_1579 d x1 x3 h1
    else
      c_168_1579 d x1 23 h1)
    (fun q3 h1 => tx_ q3 h1) := by
  unfold c_168_894
  exact
    have D : fk_D 168 [(894, some [1, 2, 3], .aload_n 2, 1, 0, 0, 0), (895, none, .ldc_w 270, 3, 4, 205, 0), (898, none, .invokevirtual 194, 3, 1, 216, 1), (901, none, .ifCond .eq 678, 3, 1579, 0, 0), (904, none, .bipush 23, 2, 0, 23, 0), (906, none, .istore_n 3, 1, 0, 0, 0), (907, none, .goto 672, 3, 1579, 0, 0)] := fq_of2 cd_168 ow_168 cl_168 rfl (pc := 894) (by decide +kernel)
    j_aldn (pc := 894) D rfl rfl rfl fun D =>
    j_ldcw (pc := 895) D rfl fun D =>
    j_ivu (pc := 898) (dd := 216) (a := [(4, 205)]) (rest := []) H.2.1 D rfl rfl rfl rfl rfl (fun m4 v2 h1 e1 D =>
      have T := fj_run_ok _ _ _ _ _ _ H.1 e1
      have H := shp_st H T
      j_ifeq (pc := 901) D rfl (fun q =>
        fk_jump cut_168_1579 rfl rfl) (fun q D =>
        j_bp (pc := 904) D rfl fun D =>
        j_istn (pc := 906) (L' := [(3, (0, 23)), (1, (4, x1)), (2, (4, x2))]) D rfl nl_168 rfl rfl fun D =>
        j_goto (pc := 907) D rfl <|
        fk_jump cut_168_1579 rfl rfl)) (fun m4 q3 h1 e1 =>
      j_tx (hx_168 _))
theorem e_168_910 (d : Nat) (x1 x2 x3 : Int) {h : fi_H} (H : Shp h) : c_168_910 d x1 x2 x3 h =
  dv_ (fi_vt 216 (h 0 x2.toNat 0)) fun m4 => ca_ (fj_run d m4 h [(4, x2), (4, 91)]) 0
    (fun v2 h1 =>
    if v2 = 0 then
      c_168_1579 d x1 x3 h1
    else
      c_168_1579 d x1 24 h1)
    (fun q3 h1 => tx_ q3 h1) := by
  unfold c_168_910
  exact
    have D : fk_D 168 [(910, some [1, 2, 3], .aload_n 2, 1, 0, 0, 0), (911, none, .ldc_w 272, 3, 4, 91, 0), (914, none, .invokevirtual 194, 3, 1, 216, 1), (917, none, .ifCond .eq 662, 3, 1579, 0, 0), (920, none, .bipush 24, 2, 0, 24, 0), (922, none, .istore_n 3, 1, 0, 0, 0), (923, none, .goto 656, 3, 1579, 0, 0)] := fq_of2 cd_168 ow_168 cl_168 rfl (pc := 910) (by decide +kernel)
    j_aldn (pc := 910) D rfl rfl rfl fun D =>
    j_ldcw (pc := 911) D rfl fun D =>
    j_ivu (pc := 914) (dd := 216) (a := [(4, 91)]) (rest := []) H.2.1 D rfl rfl rfl rfl rfl (fun m4 v2 h1 e1 D =>
      have T := fj_run_ok _ _ _ _ _ _ H.1 e1
      have H := shp_st H T
      j_ifeq (pc := 917) D rfl (fun q =>
        fk_jump cut_168_1579 rfl rfl) (fun q D =>
        j_bp (pc := 920) D rfl fun D =>
        j_istn (pc := 922) (L' := [(3, (0, 24)), (1, (4, x1)), (2, (4, x2))]) D rfl nl_168 rfl rfl fun D =>
        j_goto (pc := 923) D rfl <|
        fk_jump cut_168_1579 rfl rfl)) (fun m4 q3 h1 e1 =>
      j_tx (hx_168 _))
theorem e_168_926 (d : Nat) (x1 x2 x3 : Int) {h : fi_H} (H : Shp h) : c_168_926 d x1 x2 x3 h =
  dv_ (fi_vt 216 (h 0 x2.toNat 0)) fun m4 => ca_ (fj_run d m4 h [(4, x2), (4, 93)]) 0
    (fun v2 h1 =>
    if v2 = 0 then
      c_168_1579 d x1 x3 h1
    else
      c_168_1579 d x1 25 h1)
    (fun q3 h1 => tx_ q3 h1) := by
  unfold c_168_926
  exact
    have D : fk_D 168 [(926, some [1, 2, 3], .aload_n 2, 1, 0, 0, 0), (927, none, .ldc_w 274, 3, 4, 93, 0), (930, none, .invokevirtual 194, 3, 1, 216, 1), (933, none, .ifCond .eq 646, 3, 1579, 0, 0), (936, none, .bipush 25, 2, 0, 25, 0), (938, none, .istore_n 3, 1, 0, 0, 0), (939, none, .goto 640, 3, 1579, 0, 0)] := fq_of2 cd_168 ow_168 cl_168 rfl (pc := 926) (by decide +kernel)
    j_aldn (pc := 926) D rfl rfl rfl fun D =>
    j_ldcw (pc := 927) D rfl fun D =>
    j_ivu (pc := 930) (dd := 216) (a := [(4, 93)]) (rest := []) H.2.1 D rfl rfl rfl rfl rfl (fun m4 v2 h1 e1 D =>
      have T := fj_run_ok _ _ _ _ _ _ H.1 e1
      have H := shp_st H T
      j_ifeq (pc := 933) D rfl (fun q =>
        fk_jump cut_168_1579 rfl rfl) (fun q D =>
        j_bp (pc := 936) D rfl fun D =>
        j_istn (pc := 938) (L' := [(3, (0, 25)), (1, (4, x1)), (2, (4, x2))]) D rfl nl_168 rfl rfl fun D =>
        j_goto (pc := 939) D rfl <|
        fk_jump cut_168_1579 rfl rfl)) (fun m4 q3 h1 e1 =>
      j_tx (hx_168 _))
theorem e_168_942 (d : Nat) (x1 x2 x3 : Int) {h : fi_H} (H : Shp h) : c_168_942 d x1 x2 x3 h =
  dv_ (fi_vt 216 (h 0 x2.toNat 0)) fun m4 => ca_ (fj_run d m4 h [(4, x2), (4, 95)]) 0
    (fun v2 h1 =>
    if v2 = 0 then
      c_168_1579 d x1 x3 h1
    else
      c_168_1579 d x1 26 h1)
    (fun q3 h1 => tx_ q3 h1) := by
  unfold c_168_942
  exact
    have D : fk_D 168 [(942, some [1, 2, 3], .aload_n 2, 1, 0, 0, 0), (943, none, .ldc_w 276, 3, 4, 95, 0), (946, none, .invokevirtual 194, 3, 1, 216, 1), (949, none, .ifCond .eq 630, 3, 1579, 0, 0), (952, none, .bipush 26, 2, 0, 26, 0), (954, none, .istore_n 3, 1, 0, 0, 0), (955, none, .goto 624, 3, 1579, 0, 0)] := fq_of2 cd_168 ow_168 cl_168 rfl (pc := 942) (by decide +kernel)
    j_aldn (pc := 942) D rfl rfl rfl fun D =>
    j_ldcw (pc := 943) D rfl fun D =>
    j_ivu (pc := 946) (dd := 216) (a := [(4, 95)]) (rest := []) H.2.1 D rfl rfl rfl rfl rfl (fun m4 v2 h1 e1 D =>
      have T := fj_run_ok _ _ _ _ _ _ H.1 e1
      have H := shp_st H T
      j_ifeq (pc := 949) D rfl (fun q =>
        fk_jump cut_168_1579 rfl rfl) (fun q D =>
        j_bp (pc := 952) D rfl fun D =>
        j_istn (pc := 954) (L' := [(3, (0, 26)), (1, (4, x1)), (2, (4, x2))]) D rfl nl_168 rfl rfl fun D =>
        j_goto (pc := 955) D rfl <|
        fk_jump cut_168_1579 rfl rfl)) (fun m4 q3 h1 e1 =>
      j_tx (hx_168 _))
theorem e_168_958 (d : Nat) (x1 x2 x3 : Int) {h : fi_H} (H : Shp h) : c_168_958 d x1 x2 x3 h =
  dv_ (fi_vt 216 (h 0 x2.toNat 0)) fun m4 => ca_ (fj_run d m4 h [(4, x2), (4, 97)]) 0
    (fun v2 h1 =>
    if v2 = 0 then
      c_168_1579 d x1 x3 h1
    else
      c_168_1579 d x1 27 h1)
    (fun q3 h1 => tx_ q3 h1) := by
  unfold c_168_958
  exact
    have D : fk_D 168 [(958, some [1, 2, 3], .aload_n 2, 1, 0, 0, 0), (959, none, .ldc_w 278, 3, 4, 97, 0), (962, none, .invokevirtual 194, 3, 1, 216, 1), (965, none, .ifCond .eq 614, 3, 1579, 0, 0), (968, none, .bipush 27, 2, 0, 27, 0), (970, none, .istore_n 3, 1, 0, 0, 0), (971, none, .goto 608, 3, 1579, 0, 0)] := fq_of2 cd_168 ow_168 cl_168 rfl (pc := 958) (by decide +kernel)
    j_aldn (pc := 958) D rfl rfl rfl fun D =>
    j_ldcw (pc := 959) D rfl fun D =>
    j_ivu (pc := 962) (dd := 216) (a := [(4, 97)]) (rest := []) H.2.1 D rfl rfl rfl rfl rfl (fun m4 v2 h1 e1 D =>
      have T := fj_run_ok _ _ _ _ _ _ H.1 e1
      have H := shp_st H T
      j_ifeq (pc := 965) D rfl (fun q =>
        fk_jump cut_168_1579 rfl rfl) (fun q D =>
        j_bp (pc := 968) D rfl fun D =>
        j_istn (pc := 970) (L' := [(3, (0, 27)), (1, (4, x1)), (2, (4, x2))]) D rfl nl_168 rfl rfl fun D =>
        j_goto (pc := 971) D rfl <|
        fk_jump cut_168_1579 rfl rfl)) (fun m4 q3 h1 e1 =>
      j_tx (hx_168 _))
theorem e_168_974 (d : Nat) (x1 x2 x3 : Int) {h : fi_H} (H : Shp h) : c_168_974 d x1 x2 x3 h =
  dv_ (fi_vt 216 (h 0 x2.toNat 0)) fun m4 => ca_ (fj_run d m4 h [(4, x2), (4, 207)]) 0
    (fun v2 h1 =>
    if v2 = 0 then
      c_168_1579 d x1 x3 h1
    else
      c_168_1579 d x1 28 h1)
    (fun q3 h1 => tx_ q3 h1) := by
  unfold c_168_974
  exact
    have D : fk_D 168 [(974, some [1, 2, 3], .aload_n 2, 1, 0, 0, 0), (975, none, .ldc_w 280, 3, 4, 207, 0), (978, none, .invokevirtual 194, 3, 1, 216, 1), (981, none, .ifCond .eq 598, 3, 1579, 0, 0), (984, none, .bipush 28, 2, 0, 28, 0), (986, none, .istore_n 3, 1, 0, 0, 0), (987, none, .goto 592, 3, 1579, 0, 0)] := fq_of2 cd_168 ow_168 cl_168 rfl (pc := 974) (by decide +kernel)
    j_aldn (pc := 974) D rfl rfl rfl fun D =>
    j_ldcw (pc := 975) D rfl fun D =>
    j_ivu (pc := 978) (dd := 216) (a := [(4, 207)]) (rest := []) H.2.1 D rfl rfl rfl rfl rfl (fun m4 v2 h1 e1 D =>
      have T := fj_run_ok _ _ _ _ _ _ H.1 e1
      have H := shp_st H T
      j_ifeq (pc := 981) D rfl (fun q =>
        fk_jump cut_168_1579 rfl rfl) (fun q D =>
        j_bp (pc := 984) D rfl fun D =>
        j_istn (pc := 986) (L' := [(3, (0, 28)), (1, (4, x1)), (2, (4, x2))]) D rfl nl_168 rfl rfl fun D =>
        j_goto (pc := 987) D rfl <|
        fk_jump cut_168_1579 rfl rfl)) (fun m4 q3 h1 e1 =>
      j_tx (hx_168 _))
theorem e_168_990 (d : Nat) (x1 x2 x3 : Int) {h : fi_H} (H : Shp h) : c_168_990 d x1 x2 x3 h =
  dv_ (fi_vt 216 (h 0 x2.toNat 0)) fun m4 => ca_ (fj_run d m4 h [(4, x2), (4, 209)]) 0
    (fun v2 h1 =>
    if v2 = 0 then
      c_168_1579 d x1 x3 h1
    else
      c_168_1579 d x1 29 h1)
    (fun q3 h1 => tx_ q3 h1) := by
  unfold c_168_990
  exact
    have D : fk_D 168 [(990, some [1, 2, 3], .aload_n 2, 1, 0, 0, 0), (991, none, .ldc_w 282, 3, 4, 209, 0), (994, none, .invokevirtual 194, 3, 1, 216, 1), (997, none, .ifCond .eq 582, 3, 1579, 0, 0), (1000, none, .bipush 29, 2, 0, 29, 0), (1002, none, .istore_n 3, 1, 0, 0, 0), (1003, none, .goto 576, 3, 1579, 0, 0)] := fq_of2 cd_168 ow_168 cl_168 rfl (pc := 990) (by decide +kernel)
    j_aldn (pc := 990) D rfl rfl rfl fun D =>
    j_ldcw (pc := 991) D rfl fun D =>
    j_ivu (pc := 994) (dd := 216) (a := [(4, 209)]) (rest := []) H.2.1 D rfl rfl rfl rfl rfl (fun m4 v2 h1 e1 D =>
      have T := fj_run_ok _ _ _ _ _ _ H.1 e1
      have H := shp_st H T
      j_ifeq (pc := 997) D rfl (fun q =>
        fk_jump cut_168_1579 rfl rfl) (fun q D =>
        j_bp (pc := 1000) D rfl fun D =>
        j_istn (pc := 1002) (L' := [(3, (0, 29)), (1, (4, x1)), (2, (4, x2))]) D rfl nl_168 rfl rfl fun D =>
        j_goto (pc := 1003) D rfl <|
        fk_jump cut_168_1579 rfl rfl)) (fun m4 q3 h1 e1 =>
      j_tx (hx_168 _))
theorem e_168_1006 (d : Nat) (x1 x2 x3 : Int) {h : fi_H} (H : Shp h) : c_168_1006 d x1 x2 x3 h =
  dv_ (fi_vt 216 (h 0 x2.toNat 0)) fun m4 => ca_ (fj_run d m4 h [(4, x2), (4, 211)]) 0
    (fun v2 h1 =>
    if v2 = 0 then
      c_168_1579 d x1 x3 h1
    else
      c_168_1579 d x1 30 h1)
    (fun q3 h1 => tx_ q3 h1) := by
  unfold c_168_1006
  exact
    have D : fk_D 168 [(1006, some [1, 2, 3], .aload_n 2, 1, 0, 0, 0), (1007, none, .ldc_w 284, 3, 4, 211, 0), (1010, none, .invokevirtual 194, 3, 1, 216, 1), (1013, none, .ifCond .eq 566, 3, 1579, 0, 0), (1016, none, .bipush 30, 2, 0, 30, 0), (1018, none, .istore_n 3, 1, 0, 0, 0), (1019, none, .goto 560, 3, 1579, 0, 0)] := fq_of2 cd_168 ow_168 cl_168 rfl (pc := 1006) (by decide +kernel)
    j_aldn (pc := 1006) D rfl rfl rfl fun D =>
    j_ldcw (pc := 1007) D rfl fun D =>
    j_ivu (pc := 1010) (dd := 216) (a := [(4, 211)]) (rest := []) H.2.1 D rfl rfl rfl rfl rfl (fun m4 v2 h1 e1 D =>
      have T := fj_run_ok _ _ _ _ _ _ H.1 e1
      have H := shp_st H T
      j_ifeq (pc := 1013) D rfl (fun q =>
        fk_jump cut_168_1579 rfl rfl) (fun q D =>
        j_bp (pc := 1016) D rfl fun D =>
        j_istn (pc := 1018) (L' := [(3, (0, 30)), (1, (4, x1)), (2, (4, x2))]) D rfl nl_168 rfl rfl fun D =>
        j_goto (pc := 1019) D rfl <|
        fk_jump cut_168_1579 rfl rfl)) (fun m4 q3 h1 e1 =>
      j_tx (hx_168 _))
theorem e_168_1022 (d : Nat) (x1 x2 x3 : Int) {h : fi_H} (H : Shp h) : c_168_1022 d x1 x2 x3 h =
  dv_ (fi_vt 216 (h 0 x2.toNat 0)) fun m4 => ca_ (fj_run d m4 h [(4, x2), (4, 131)]) 0
    (fun v2 h1 =>
    if v2 = 0 then
      c_168_1579 d x1 x3 h1
    else
      c_168_1579 d x1 31 h1)
    (fun q3 h1 => tx_ q3 h1) := by
  unfold c_168_1022
  exact
    have D : fk_D 168 [(1022, some [1, 2, 3], .aload_n 2, 1, 0, 0, 0), (1023, none, .ldc_w 286, 3, 4, 131, 0), (1026, none, .invokevirtual 194, 3, 1, 216, 1), (1029, none, .ifCond .eq 550, 3, 1579, 0, 0), (1032, none, .bipush 31, 2, 0, 31, 0), (1034, none, .istore_n 3, 1, 0, 0, 0), (1035, none, .goto 544, 3, 1579, 0, 0)] := fq_of2 cd_168 ow_168 cl_168 rfl (pc := 1022) (by decide +kernel)
    j_aldn (pc := 1022) D rfl rfl rfl fun D =>
    j_ldcw (pc := 1023) D rfl fun D =>
    j_ivu (pc := 1026) (dd := 216) (a := [(4, 131)]) (rest := []) H.2.1 D rfl rfl rfl rfl rfl (fun m4 v2 h1 e1 D =>
      have T := fj_run_ok _ _ _ _ _ _ H.1 e1
      have H := shp_st H T
      j_ifeq (pc := 1029) D rfl (fun q =>
        fk_jump cut_168_1579 rfl rfl) (fun q D =>
        j_bp (pc := 1032) D rfl fun D =>
        j_istn (pc := 1034) (L' := [(3, (0, 31)), (1, (4, x1)), (2, (4, x2))]) D rfl nl_168 rfl rfl fun D =>
        j_goto (pc := 1035) D rfl <|
        fk_jump cut_168_1579 rfl rfl)) (fun m4 q3 h1 e1 =>
      j_tx (hx_168 _))
theorem e_168_1038 (d : Nat) (x1 x2 x3 : Int) {h : fi_H} (H : Shp h) : c_168_1038 d x1 x2 x3 h =
  dv_ (fi_vt 216 (h 0 x2.toNat 0)) fun m4 => ca_ (fj_run d m4 h [(4, x2), (4, 133)]) 0
    (fun v2 h1 =>
    if v2 = 0 then
      c_168_1579 d x1 x3 h1
    else
      c_168_1579 d x1 32 h1)
    (fun q3 h1 => tx_ q3 h1) := by
  unfold c_168_1038
  exact
    have D : fk_D 168 [(1038, some [1, 2, 3], .aload_n 2, 1, 0, 0, 0), (1039, none, .ldc_w 288, 3, 4, 133, 0), (1042, none, .invokevirtual 194, 3, 1, 216, 1), (1045, none, .ifCond .eq 534, 3, 1579, 0, 0), (1048, none, .bipush 32, 2, 0, 32, 0), (1050, none, .istore_n 3, 1, 0, 0, 0), (1051, none, .goto 528, 3, 1579, 0, 0)] := fq_of2 cd_168 ow_168 cl_168 rfl (pc := 1038) (by decide +kernel)
    j_aldn (pc := 1038) D rfl rfl rfl fun D =>
    j_ldcw (pc := 1039) D rfl fun D =>
    j_ivu (pc := 1042) (dd := 216) (a := [(4, 133)]) (rest := []) H.2.1 D rfl rfl rfl rfl rfl (fun m4 v2 h1 e1 D =>
      have T := fj_run_ok _ _ _ _ _ _ H.1 e1
      have H := shp_st H T
      j_ifeq (pc := 1045) D rfl (fun q =>
        fk_jump cut_168_1579 rfl rfl) (fun q D =>
        j_bp (pc := 1048) D rfl fun D =>
        j_istn (pc := 1050) (L' := [(3, (0, 32)), (1, (4, x1)), (2, (4, x2))]) D rfl nl_168 rfl rfl fun D =>
        j_goto (pc := 1051) D rfl <|
        fk_jump cut_168_1579 rfl rfl)) (fun m4 q3 h1 e1 =>
      j_tx (hx_168 _))
theorem e_168_1054 (d : Nat) (x1 x2 x3 : Int) {h : fi_H} (H : Shp h) : c_168_1054 d x1 x2 x3 h =
  dv_ (fi_vt 216 (h 0 x2.toNat 0)) fun m4 => ca_ (fj_run d m4 h [(4, x2), (4, 213)]) 0
    (fun v2 h1 =>
    if v2 = 0 then
      c_168_1579 d x1 x3 h1
    else
      c_168_1579 d x1 33 h1)
    (fun q3 h1 => tx_ q3 h1) := by
  unfold c_168_1054
  exact
    have D : fk_D 168 [(1054, some [1, 2, 3], .aload_n 2, 1, 0, 0, 0), (1055, none, .ldc_w 290, 3, 4, 213, 0), (1058, none, .invokevirtual 194, 3, 1, 216, 1), (1061, none, .ifCond .eq 518, 3, 1579, 0, 0), (1064, none, .bipush 33, 2, 0, 33, 0), (1066, none, .istore_n 3, 1, 0, 0, 0), (1067, none, .goto 512, 3, 1579, 0, 0)] := fq_of2 cd_168 ow_168 cl_168 rfl (pc := 1054) (by decide +kernel)
    j_aldn (pc := 1054) D rfl rfl rfl fun D =>
    j_ldcw (pc := 1055) D rfl fun D =>
    j_ivu (pc := 1058) (dd := 216) (a := [(4, 213)]) (rest := []) H.2.1 D rfl rfl rfl rfl rfl (fun m4 v2 h1 e1 D =>
      have T := fj_run_ok _ _ _ _ _ _ H.1 e1
      have H := shp_st H T
      j_ifeq (pc := 1061) D rfl (fun q =>
        fk_jump cut_168_1579 rfl rfl) (fun q D =>
        j_bp (pc := 1064) D rfl fun D =>
        j_istn (pc := 1066) (L' := [(3, (0, 33)), (1, (4, x1)), (2, (4, x2))]) D rfl nl_168 rfl rfl fun D =>
        j_goto (pc := 1067) D rfl <|
        fk_jump cut_168_1579 rfl rfl)) (fun m4 q3 h1 e1 =>
      j_tx (hx_168 _))
theorem e_168_1070 (d : Nat) (x1 x2 x3 : Int) {h : fi_H} (H : Shp h) : c_168_1070 d x1 x2 x3 h =
  dv_ (fi_vt 216 (h 0 x2.toNat 0)) fun m4 => ca_ (fj_run d m4 h [(4, x2), (4, 215)]) 0
    (fun v2 h1 =>
    if v2 = 0 then
      c_168_1579 d x1 x3 h1
    else
      c_168_1579 d x1 34 h1)
    (fun q3 h1 => tx_ q3 h1) := by
  unfold c_168_1070
  exact
    have D : fk_D 168 [(1070, some [1, 2, 3], .aload_n 2, 1, 0, 0, 0), (1071, none, .ldc_w 292, 3, 4, 215, 0), (1074, none, .invokevirtual 194, 3, 1, 216, 1), (1077, none, .ifCond .eq 502, 3, 1579, 0, 0), (1080, none, .bipush 34, 2, 0, 34, 0), (1082, none, .istore_n 3, 1, 0, 0, 0), (1083, none, .goto 496, 3, 1579, 0, 0)] := fq_of2 cd_168 ow_168 cl_168 rfl (pc := 1070) (by decide +kernel)
    j_aldn (pc := 1070) D rfl rfl rfl fun D =>
    j_ldcw (pc := 1071) D rfl fun D =>
    j_ivu (pc := 1074) (dd := 216) (a := [(4, 215)]) (rest := []) H.2.1 D rfl rfl rfl rfl rfl (fun m4 v2 h1 e1 D =>
      have T := fj_run_ok _ _ _ _ _ _ H.1 e1
      have H := shp_st H T
      j_ifeq (pc := 1077) D rfl (fun q =>
        fk_jump cut_168_1579 rfl rfl) (fun q D =>
        j_bp (pc := 1080) D rfl fun D =>
        j_istn (pc := 1082) (L' := [(3, (0, 34)), (1, (4, x1)), (2, (4, x2))]) D rfl nl_168 rfl rfl fun D =>
        j_goto (pc := 1083) D rfl <|
        fk_jump cut_168_1579 rfl rfl)) (fun m4 q3 h1 e1 =>
      j_tx (hx_168 _))
theorem e_168_1086 (d : Nat) (x1 x2 x3 : Int) {h : fi_H} (H : Shp h) : c_168_1086 d x1 x2 x3 h =
  dv_ (fi_vt 216 (h 0 x2.toNat 0)) fun m4 => ca_ (fj_run d m4 h [(4, x2), (4, 217)]) 0
    (fun v2 h1 =>
    if v2 = 0 then
      c_168_1579 d x1 x3 h1
    else
      c_168_1579 d x1 35 h1)
    (fun q3 h1 => tx_ q3 h1) := by
  unfold c_168_1086
  exact
    have D : fk_D 168 [(1086, some [1, 2, 3], .aload_n 2, 1, 0, 0, 0), (1087, none, .ldc_w 294, 3, 4, 217, 0), (1090, none, .invokevirtual 194, 3, 1, 216, 1), (1093, none, .ifCond .eq 486, 3, 1579, 0, 0), (1096, none, .bipush 35, 2, 0, 35, 0), (1098, none, .istore_n 3, 1, 0, 0, 0), (1099, none, .goto 480, 3, 1579, 0, 0)] := fq_of2 cd_168 ow_168 cl_168 rfl (pc := 1086) (by decide +kernel)
    j_aldn (pc := 1086) D rfl rfl rfl fun D =>
    j_ldcw (pc := 1087) D rfl fun D =>
    j_ivu (pc := 1090) (dd := 216) (a := [(4, 217)]) (rest := []) H.2.1 D rfl rfl rfl rfl rfl (fun m4 v2 h1 e1 D =>
      have T := fj_run_ok _ _ _ _ _ _ H.1 e1
      have H := shp_st H T
      j_ifeq (pc := 1093) D rfl (fun q =>
        fk_jump cut_168_1579 rfl rfl) (fun q D =>
        j_bp (pc := 1096) D rfl fun D =>
        j_istn (pc := 1098) (L' := [(3, (0, 35)), (1, (4, x1)), (2, (4, x2))]) D rfl nl_168 rfl rfl fun D =>
        j_goto (pc := 1099) D rfl <|
        fk_jump cut_168_1579 rfl rfl)) (fun m4 q3 h1 e1 =>
      j_tx (hx_168 _))
theorem e_168_1102 (d : Nat) (x1 x2 x3 : Int) {h : fi_H} (H : Shp h) : c_168_1102 d x1 x2 x3 h =
  dv_ (fi_vt 216 (h 0 x2.toNat 0)) fun m4 => ca_ (fj_run d m4 h [(4, x2), (4, 219)]) 0
    (fun v2 h1 =>
    if v2 = 0 then
      c_168_1579 d x1 x3 h1
    else
      c_168_1579 d x1 36 h1)
    (fun q3 h1 => tx_ q3 h1) := by
  unfold c_168_1102
  exact
    have D : fk_D 168 [(1102, some [1, 2, 3], .aload_n 2, 1, 0, 0, 0), (1103, none, .ldc_w 296, 3, 4, 219, 0), (1106, none, .invokevirtual 194, 3, 1, 216, 1), (1109, none, .ifCond .eq 470, 3, 1579, 0, 0), (1112, none, .bipush 36, 2, 0, 36, 0), (1114, none, .istore_n 3, 1, 0, 0, 0), (1115, none, .goto 464, 3, 1579, 0, 0)] := fq_of2 cd_168 ow_168 cl_168 rfl (pc := 1102) (by decide +kernel)
    j_aldn (pc := 1102) D rfl rfl rfl fun D =>
    j_ldcw (pc := 1103) D rfl fun D =>
    j_ivu (pc := 1106) (dd := 216) (a := [(4, 219)]) (rest := []) H.2.1 D rfl rfl rfl rfl rfl (fun m4 v2 h1 e1 D =>
      have T := fj_run_ok _ _ _ _ _ _ H.1 e1
      have H := shp_st H T
      j_ifeq (pc := 1109) D rfl (fun q =>
        fk_jump cut_168_1579 rfl rfl) (fun q D =>
        j_bp (pc := 1112) D rfl fun D =>
        j_istn (pc := 1114) (L' := [(3, (0, 36)), (1, (4, x1)), (2, (4, x2))]) D rfl nl_168 rfl rfl fun D =>
        j_goto (pc := 1115) D rfl <|
        fk_jump cut_168_1579 rfl rfl)) (fun m4 q3 h1 e1 =>
      j_tx (hx_168 _))
theorem e_168_1118 (d : Nat) (x1 x2 x3 : Int) {h : fi_H} (H : Shp h) : c_168_1118 d x1 x2 x3 h =
  dv_ (fi_vt 216 (h 0 x2.toNat 0)) fun m4 => ca_ (fj_run d m4 h [(4, x2), (4, 221)]) 0
    (fun v2 h1 =>
    if v2 = 0 then
      c_168_1579 d x1 x3 h1
    else
      c_168_1579 d x1 37 h1)
    (fun q3 h1 => tx_ q3 h1) := by
  unfold c_168_1118
  exact
    have D : fk_D 168 [(1118, some [1, 2, 3], .aload_n 2, 1, 0, 0, 0), (1119, none, .ldc_w 298, 3, 4, 221, 0), (1122, none, .invokevirtual 194, 3, 1, 216, 1), (1125, none, .ifCond .eq 454, 3, 1579, 0, 0), (1128, none, .bipush 37, 2, 0, 37, 0), (1130, none, .istore_n 3, 1, 0, 0, 0), (1131, none, .goto 448, 3, 1579, 0, 0)] := fq_of2 cd_168 ow_168 cl_168 rfl (pc := 1118) (by decide +kernel)
    j_aldn (pc := 1118) D rfl rfl rfl fun D =>
    j_ldcw (pc := 1119) D rfl fun D =>
    j_ivu (pc := 1122) (dd := 216) (a := [(4, 221)]) (rest := []) H.2.1 D rfl rfl rfl rfl rfl (fun m4 v2 h1 e1 D =>
      have T := fj_run_ok _ _ _ _ _ _ H.1 e1
      have H := shp_st H T
      j_ifeq (pc := 1125) D rfl (fun q =>
        fk_jump cut_168_1579 rfl rfl) (fun q D =>
        j_bp (pc := 1128) D rfl fun D =>
        j_istn (pc := 1130) (L' := [(3, (0, 37)), (1, (4, x1)), (2, (4, x2))]) D rfl nl_168 rfl rfl fun D =>
        j_goto (pc := 1131) D rfl <|
        fk_jump cut_168_1579 rfl rfl)) (fun m4 q3 h1 e1 =>
      j_tx (hx_168 _))
theorem e_168_1134 (d : Nat) (x1 x2 x3 : Int) {h : fi_H} (H : Shp h) : c_168_1134 d x1 x2 x3 h =
  dv_ (fi_vt 216 (h 0 x2.toNat 0)) fun m4 => ca_ (fj_run d m4 h [(4, x2), (4, 223)]) 0
    (fun v2 h1 =>
    if v2 = 0 then
      c_168_1579 d x1 x3 h1
    else
      c_168_1579 d x1 38 h1)
    (fun q3 h1 => tx_ q3 h1) := by
  unfold c_168_1134
  exact
    have D : fk_D 168 [(1134, some [1, 2, 3], .aload_n 2, 1, 0, 0, 0), (1135, none, .ldc_w 300, 3, 4, 223, 0), (1138, none, .invokevirtual 194, 3, 1, 216, 1), (1141, none, .ifCond .eq 438, 3, 1579, 0, 0), (1144, none, .bipush 38, 2, 0, 38, 0), (1146, none, .istore_n 3, 1, 0, 0, 0), (1147, none, .goto 432, 3, 1579, 0, 0)] := fq_of2 cd_168 ow_168 cl_168 rfl (pc := 1134) (by decide +kernel)
    j_aldn (pc := 1134) D rfl rfl rfl fun D =>
    j_ldcw (pc := 1135) D rfl fun D =>
    j_ivu (pc := 1138) (dd := 216) (a := [(4, 223)]) (rest := []) H.2.1 D rfl rfl rfl rfl rfl (fun m4 v2 h1 e1 D =>
      have T := fj_run_ok _ _ _ _ _ _ H.1 e1
      have H := shp_st H T
      j_ifeq (pc := 1141) D rfl (fun q =>
        fk_jump cut_168_1579 rfl rfl) (fun q D =>
        j_bp (pc := 1144) D rfl fun D =>
        j_istn (pc := 1146) (L' := [(3, (0, 38)), (1, (4, x1)), (2, (4, x2))]) D rfl nl_168 rfl rfl fun D =>
        j_goto (pc := 1147) D rfl <|
        fk_jump cut_168_1579 rfl rfl)) (fun m4 q3 h1 e1 =>
      j_tx (hx_168 _))
theorem e_168_1150 (d : Nat) (x1 x2 x3 : Int) {h : fi_H} (H : Shp h) : c_168_1150 d x1 x2 x3 h =
  dv_ (fi_vt 216 (h 0 x2.toNat 0)) fun m4 => ca_ (fj_run d m4 h [(4, x2), (4, 225)]) 0
    (fun v2 h1 =>
    if v2 = 0 then
      c_168_1579 d x1 x3 h1
    else
      c_168_1579 d x1 39 h1)
    (fun q3 h1 => tx_ q3 h1) := by
  unfold c_168_1150
  exact
    have D : fk_D 168 [(1150, some [1, 2, 3], .aload_n 2, 1, 0, 0, 0), (1151, none, .ldc_w 302, 3, 4, 225, 0), (1154, none, .invokevirtual 194, 3, 1, 216, 1), (1157, none, .ifCond .eq 422, 3, 1579, 0, 0), (1160, none, .bipush 39, 2, 0, 39, 0), (1162, none, .istore_n 3, 1, 0, 0, 0), (1163, none, .goto 416, 3, 1579, 0, 0)] := fq_of2 cd_168 ow_168 cl_168 rfl (pc := 1150) (by decide +kernel)
    j_aldn (pc := 1150) D rfl rfl rfl fun D =>
    j_ldcw (pc := 1151) D rfl fun D =>
    j_ivu (pc := 1154) (dd := 216) (a := [(4, 225)]) (rest := []) H.2.1 D rfl rfl rfl rfl rfl (fun m4 v2 h1 e1 D =>
      have T := fj_run_ok _ _ _ _ _ _ H.1 e1
      have H := shp_st H T
      j_ifeq (pc := 1157) D rfl (fun q =>
        fk_jump cut_168_1579 rfl rfl) (fun q D =>
        j_bp (pc := 1160) D rfl fun D =>
        j_istn (pc := 1162) (L' := [(3, (0, 39)), (1, (4, x1)), (2, (4, x2))]) D rfl nl_168 rfl rfl fun D =>
        j_goto (pc := 1163) D rfl <|
        fk_jump cut_168_1579 rfl rfl)) (fun m4 q3 h1 e1 =>
      j_tx (hx_168 _))
theorem e_168_1166 (d : Nat) (x1 x2 x3 : Int) {h : fi_H} (H : Shp h) : c_168_1166 d x1 x2 x3 h =
  dv_ (fi_vt 216 (h 0 x2.toNat 0)) fun m4 => ca_ (fj_run d m4 h [(4, x2), (4, 227)]) 0
    (fun v2 h1 =>
    if v2 = 0 then
      c_168_1579 d x1 x3 h1
    else
      c_168_1579 d x1 40 h1)
    (fun q3 h1 => tx_ q3 h1) := by
  unfold c_168_1166
  exact
    have D : fk_D 168 [(1166, some [1, 2, 3], .aload_n 2, 1, 0, 0, 0), (1167, none, .ldc_w 304, 3, 4, 227, 0), (1170, none, .invokevirtual 194, 3, 1, 216, 1), (1173, none, .ifCond .eq 406, 3, 1579, 0, 0), (1176, none, .bipush 40, 2, 0, 40, 0), (1178, none, .istore_n 3, 1, 0, 0, 0), (1179, none, .goto 400, 3, 1579, 0, 0)] := fq_of2 cd_168 ow_168 cl_168 rfl (pc := 1166) (by decide +kernel)
    j_aldn (pc := 1166) D rfl rfl rfl fun D =>
    j_ldcw (pc := 1167) D rfl fun D =>
    j_ivu (pc := 1170) (dd := 216) (a := [(4, 227)]) (rest := []) H.2.1 D rfl rfl rfl rfl rfl (fun m4 v2 h1 e1 D =>
      have T := fj_run_ok _ _ _ _ _ _ H.1 e1
      have H := shp_st H T
      j_ifeq (pc := 1173) D rfl (fun q =>
        fk_jump cut_168_1579 rfl rfl) (fun q D =>
        j_bp (pc := 1176) D rfl fun D =>
        j_istn (pc := 1178) (L' := [(3, (0, 40)), (1, (4, x1)), (2, (4, x2))]) D rfl nl_168 rfl rfl fun D =>
        j_goto (pc := 1179) D rfl <|
        fk_jump cut_168_1579 rfl rfl)) (fun m4 q3 h1 e1 =>
      j_tx (hx_168 _))
theorem e_168_1182 (d : Nat) (x1 x2 x3 : Int) {h : fi_H} (H : Shp h) : c_168_1182 d x1 x2 x3 h =
  dv_ (fi_vt 216 (h 0 x2.toNat 0)) fun m4 => ca_ (fj_run d m4 h [(4, x2), (4, 229)]) 0
    (fun v2 h1 =>
    if v2 = 0 then
      c_168_1579 d x1 x3 h1
    else
      c_168_1579 d x1 41 h1)
    (fun q3 h1 => tx_ q3 h1) := by
  unfold c_168_1182
  exact
    have D : fk_D 168 [(1182, some [1, 2, 3], .aload_n 2, 1, 0, 0, 0), (1183, none, .ldc_w 306, 3, 4, 229, 0), (1186, none, .invokevirtual 194, 3, 1, 216, 1), (1189, none, .ifCond .eq 390, 3, 1579, 0, 0), (1192, none, .bipush 41, 2, 0, 41, 0), (1194, none, .istore_n 3, 1, 0, 0, 0), (1195, none, .goto 384, 3, 1579, 0, 0)] := fq_of2 cd_168 ow_168 cl_168 rfl (pc := 1182) (by decide +kernel)
    j_aldn (pc := 1182) D rfl rfl rfl fun D =>
    j_ldcw (pc := 1183) D rfl fun D =>
    j_ivu (pc := 1186) (dd := 216) (a := [(4, 229)]) (rest := []) H.2.1 D rfl rfl rfl rfl rfl (fun m4 v2 h1 e1 D =>
      have T := fj_run_ok _ _ _ _ _ _ H.1 e1
      have H := shp_st H T
      j_ifeq (pc := 1189) D rfl (fun q =>
        fk_jump cut_168_1579 rfl rfl) (fun q D =>
        j_bp (pc := 1192) D rfl fun D =>
        j_istn (pc := 1194) (L' := [(3, (0, 41)), (1, (4, x1)), (2, (4, x2))]) D rfl nl_168 rfl rfl fun D =>
        j_goto (pc := 1195) D rfl <|
        fk_jump cut_168_1579 rfl rfl)) (fun m4 q3 h1 e1 =>
      j_tx (hx_168 _))
theorem e_168_1198 (d : Nat) (x1 x2 x3 : Int) {h : fi_H} (H : Shp h) : c_168_1198 d x1 x2 x3 h =
  dv_ (fi_vt 216 (h 0 x2.toNat 0)) fun m4 => ca_ (fj_run d m4 h [(4, x2), (4, 231)]) 0
    (fun v2 h1 =>
    if v2 = 0 then
      c_168_1579 d x1 x3 h1
    else
      c_168_1579 d x1 42 h1)
    (fun q3 h1 => tx_ q3 h1) := by
  unfold c_168_1198
  exact
    have D : fk_D 168 [(1198, some [1, 2, 3], .aload_n 2, 1, 0, 0, 0), (1199, none, .ldc_w 308, 3, 4, 231, 0), (1202, none, .invokevirtual 194, 3, 1, 216, 1), (1205, none, .ifCond .eq 374, 3, 1579, 0, 0), (1208, none, .bipush 42, 2, 0, 42, 0), (1210, none, .istore_n 3, 1, 0, 0, 0), (1211, none, .goto 368, 3, 1579, 0, 0)] := fq_of2 cd_168 ow_168 cl_168 rfl (pc := 1198) (by decide +kernel)
    j_aldn (pc := 1198) D rfl rfl rfl fun D =>
    j_ldcw (pc := 1199) D rfl fun D =>
    j_ivu (pc := 1202) (dd := 216) (a := [(4, 231)]) (rest := []) H.2.1 D rfl rfl rfl rfl rfl (fun m4 v2 h1 e1 D =>
      have T := fj_run_ok _ _ _ _ _ _ H.1 e1
      have H := shp_st H T
      j_ifeq (pc := 1205) D rfl (fun q =>
        fk_jump cut_168_1579 rfl rfl) (fun q D =>
        j_bp (pc := 1208) D rfl fun D =>
        j_istn (pc := 1210) (L' := [(3, (0, 42)), (1, (4, x1)), (2, (4, x2))]) D rfl nl_168 rfl rfl fun D =>
        j_goto (pc := 1211) D rfl <|
        fk_jump cut_168_1579 rfl rfl)) (fun m4 q3 h1 e1 =>
      j_tx (hx_168 _))
theorem e_168_1214 (d : Nat) (x1 x2 x3 : Int) {h : fi_H} (H : Shp h) : c_168_1214 d x1 x2 x3 h =
  dv_ (fi_vt 216 (h 0 x2.toNat 0)) fun m4 => ca_ (fj_run d m4 h [(4, x2), (4, 233)]) 0
    (fun v2 h1 =>
    if v2 = 0 then
      c_168_1579 d x1 x3 h1
    else
      c_168_1579 d x1 43 h1)
    (fun q3 h1 => tx_ q3 h1) := by
  unfold c_168_1214
  exact
    have D : fk_D 168 [(1214, some [1, 2, 3], .aload_n 2, 1, 0, 0, 0), (1215, none, .ldc_w 310, 3, 4, 233, 0), (1218, none, .invokevirtual 194, 3, 1, 216, 1), (1221, none, .ifCond .eq 358, 3, 1579, 0, 0), (1224, none, .bipush 43, 2, 0, 43, 0), (1226, none, .istore_n 3, 1, 0, 0, 0), (1227, none, .goto 352, 3, 1579, 0, 0)] := fq_of2 cd_168 ow_168 cl_168 rfl (pc := 1214) (by decide +kernel)
    j_aldn (pc := 1214) D rfl rfl rfl fun D =>
    j_ldcw (pc := 1215) D rfl fun D =>
    j_ivu (pc := 1218) (dd := 216) (a := [(4, 233)]) (rest := []) H.2.1 D rfl rfl rfl rfl rfl (fun m4 v2 h1 e1 D =>
      have T := fj_run_ok _ _ _ _ _ _ H.1 e1
      have H := shp_st H T
      j_ifeq (pc := 1221) D rfl (fun q =>
        fk_jump cut_168_1579 rfl rfl) (fun q D =>
        j_bp (pc := 1224) D rfl fun D =>
        j_istn (pc := 1226) (L' := [(3, (0, 43)), (1, (4, x1)), (2, (4, x2))]) D rfl nl_168 rfl rfl fun D =>
        j_goto (pc := 1227) D rfl <|
        fk_jump cut_168_1579 rfl rfl)) (fun m4 q3 h1 e1 =>
      j_tx (hx_168 _))
theorem e_168_1230 (d : Nat) (x1 x2 x3 : Int) {h : fi_H} (H : Shp h) : c_168_1230 d x1 x2 x3 h =
  dv_ (fi_vt 216 (h 0 x2.toNat 0)) fun m4 => ca_ (fj_run d m4 h [(4, x2), (4, 235)]) 0
    (fun v2 h1 =>
    if v2 = 0 then
      c_168_1579 d x1 x3 h1
    else
      c_168_1579 d x1 44 h1)
    (fun q3 h1 => tx_ q3 h1) := by
  unfold c_168_1230
  exact
    have D : fk_D 168 [(1230, some [1, 2, 3], .aload_n 2, 1, 0, 0, 0), (1231, none, .ldc_w 312, 3, 4, 235, 0), (1234, none, .invokevirtual 194, 3, 1, 216, 1), (1237, none, .ifCond .eq 342, 3, 1579, 0, 0), (1240, none, .bipush 44, 2, 0, 44, 0), (1242, none, .istore_n 3, 1, 0, 0, 0), (1243, none, .goto 336, 3, 1579, 0, 0)] := fq_of2 cd_168 ow_168 cl_168 rfl (pc := 1230) (by decide +kernel)
    j_aldn (pc := 1230) D rfl rfl rfl fun D =>
    j_ldcw (pc := 1231) D rfl fun D =>
    j_ivu (pc := 1234) (dd := 216) (a := [(4, 235)]) (rest := []) H.2.1 D rfl rfl rfl rfl rfl (fun m4 v2 h1 e1 D =>
      have T := fj_run_ok _ _ _ _ _ _ H.1 e1
      have H := shp_st H T
      j_ifeq (pc := 1237) D rfl (fun q =>
        fk_jump cut_168_1579 rfl rfl) (fun q D =>
        j_bp (pc := 1240) D rfl fun D =>
        j_istn (pc := 1242) (L' := [(3, (0, 44)), (1, (4, x1)), (2, (4, x2))]) D rfl nl_168 rfl rfl fun D =>
        j_goto (pc := 1243) D rfl <|
        fk_jump cut_168_1579 rfl rfl)) (fun m4 q3 h1 e1 =>
      j_tx (hx_168 _))
theorem e_168_1246 (d : Nat) (x1 x2 x3 : Int) {h : fi_H} (H : Shp h) : c_168_1246 d x1 x2 x3 h =
  dv_ (fi_vt 216 (h 0 x2.toNat 0)) fun m4 => ca_ (fj_run d m4 h [(4, x2), (4, 237)]) 0
    (fun v2 h1 =>
    if v2 = 0 then
      c_168_1579 d x1 x3 h1
    else
      c_168_1579 d x1 45 h1)
    (fun q3 h1 => tx_ q3 h1) := by
  unfold c_168_1246
  exact
    have D : fk_D 168 [(1246, some [1, 2, 3], .aload_n 2, 1, 0, 0, 0), (1247, none, .ldc_w 314, 3, 4, 237, 0), (1250, none, .invokevirtual 194, 3, 1, 216, 1), (1253, none, .ifCond .eq 326, 3, 1579, 0, 0), (1256, none, .bipush 45, 2, 0, 45, 0), (1258, none, .istore_n 3, 1, 0, 0, 0), (1259, none, .goto 320, 3, 1579, 0, 0)] := fq_of2 cd_168 ow_168 cl_168 rfl (pc := 1246) (by decide +kernel)
    j_aldn (pc := 1246) D rfl rfl rfl fun D =>
    j_ldcw (pc := 1247) D rfl fun D =>
    j_ivu (pc := 1250) (dd := 216) (a := [(4, 237)]) (rest := []) H.2.1 D rfl rfl rfl rfl rfl (fun m4 v2 h1 e1 D =>
      have T := fj_run_ok _ _ _ _ _ _ H.1 e1
      have H := shp_st H T
      j_ifeq (pc := 1253) D rfl (fun q =>
        fk_jump cut_168_1579 rfl rfl) (fun q D =>
        j_bp (pc := 1256) D rfl fun D =>
        j_istn (pc := 1258) (L' := [(3, (0, 45)), (1, (4, x1)), (2, (4, x2))]) D rfl nl_168 rfl rfl fun D =>
        j_goto (pc := 1259) D rfl <|
        fk_jump cut_168_1579 rfl rfl)) (fun m4 q3 h1 e1 =>
      j_tx (hx_168 _))
theorem e_168_1262 (d : Nat) (x1 x2 x3 : Int) {h : fi_H} (H : Shp h) : c_168_1262 d x1 x2 x3 h =
  dv_ (fi_vt 216 (h 0 x2.toNat 0)) fun m4 => ca_ (fj_run d m4 h [(4, x2), (4, 239)]) 0
    (fun v2 h1 =>
    if v2 = 0 then
      c_168_1579 d x1 x3 h1
    else
      c_168_1579 d x1 46 h1)
    (fun q3 h1 => tx_ q3 h1) := by
  unfold c_168_1262
  exact
    have D : fk_D 168 [(1262, some [1, 2, 3], .aload_n 2, 1, 0, 0, 0), (1263, none, .ldc_w 316, 3, 4, 239, 0), (1266, none, .invokevirtual 194, 3, 1, 216, 1), (1269, none, .ifCond .eq 310, 3, 1579, 0, 0), (1272, none, .bipush 46, 2, 0, 46, 0), (1274, none, .istore_n 3, 1, 0, 0, 0), (1275, none, .goto 304, 3, 1579, 0, 0)] := fq_of2 cd_168 ow_168 cl_168 rfl (pc := 1262) (by decide +kernel)
    j_aldn (pc := 1262) D rfl rfl rfl fun D =>
    j_ldcw (pc := 1263) D rfl fun D =>
    j_ivu (pc := 1266) (dd := 216) (a := [(4, 239)]) (rest := []) H.2.1 D rfl rfl rfl rfl rfl (fun m4 v2 h1 e1 D =>
      have T := fj_run_ok _ _ _ _ _ _ H.1 e1
      have H := shp_st H T
      j_ifeq (pc := 1269) D rfl (fun q =>
        fk_jump cut_168_1579 rfl rfl) (fun q D =>
        j_bp (pc := 1272) D rfl fun D =>
        j_istn (pc := 1274) (L' := [(3, (0, 46)), (1, (4, x1)), (2, (4, x2))]) D rfl nl_168 rfl rfl fun D =>
        j_goto (pc := 1275) D rfl <|
        fk_jump cut_168_1579 rfl rfl)) (fun m4 q3 h1 e1 =>
      j_tx (hx_168 _))
theorem e_168_1278 (d : Nat) (x1 x2 x3 : Int) {h : fi_H} (H : Shp h) : c_168_1278 d x1 x2 x3 h =
  dv_ (fi_vt 216 (h 0 x2.toNat 0)) fun m4 => ca_ (fj_run d m4 h [(4, x2), (4, 241)]) 0
    (fun v2 h1 =>
    if v2 = 0 then
      c_168_1579 d x1 x3 h1
    else
      c_168_1579 d x1 47 h1)
    (fun q3 h1 => tx_ q3 h1) := by
  unfold c_168_1278
  exact
    have D : fk_D 168 [(1278, some [1, 2, 3], .aload_n 2, 1, 0, 0, 0), (1279, none, .ldc_w 318, 3, 4, 241, 0), (1282, none, .invokevirtual 194, 3, 1, 216, 1), (1285, none, .ifCond .eq 294, 3, 1579, 0, 0), (1288, none, .bipush 47, 2, 0, 47, 0), (1290, none, .istore_n 3, 1, 0, 0, 0), (1291, none, .goto 288, 3, 1579, 0, 0)] := fq_of2 cd_168 ow_168 cl_168 rfl (pc := 1278) (by decide +kernel)
    j_aldn (pc := 1278) D rfl rfl rfl fun D =>
    j_ldcw (pc := 1279) D rfl fun D =>
    j_ivu (pc := 1282) (dd := 216) (a := [(4, 241)]) (rest := []) H.2.1 D rfl rfl rfl rfl rfl (fun m4 v2 h1 e1 D =>
      have T := fj_run_ok _ _ _ _ _ _ H.1 e1
      have H := shp_st H T
      j_ifeq (pc := 1285) D rfl (fun q =>
        fk_jump cut_168_1579 rfl rfl) (fun q D =>
        j_bp (pc := 1288) D rfl fun D =>
        j_istn (pc := 1290) (L' := [(3, (0, 47)), (1, (4, x1)), (2, (4, x2))]) D rfl nl_168 rfl rfl fun D =>
        j_goto (pc := 1291) D rfl <|
        fk_jump cut_168_1579 rfl rfl)) (fun m4 q3 h1 e1 =>
      j_tx (hx_168 _))
theorem e_168_1294 (d : Nat) (x1 x2 x3 : Int) {h : fi_H} (H : Shp h) : c_168_1294 d x1 x2 x3 h =
  dv_ (fi_vt 216 (h 0 x2.toNat 0)) fun m4 => ca_ (fj_run d m4 h [(4, x2), (4, 147)]) 0
    (fun v2 h1 =>
    if v2 = 0 then
      c_168_1579 d x1 x3 h1
    else
      c_168_1579 d x1 48 h1)
    (fun q3 h1 => tx_ q3 h1) := by
  unfold c_168_1294
  exact
    have D : fk_D 168 [(1294, some [1, 2, 3], .aload_n 2, 1, 0, 0, 0), (1295, none, .ldc_w 320, 3, 4, 147, 0), (1298, none, .invokevirtual 194, 3, 1, 216, 1), (1301, none, .ifCond .eq 278, 3, 1579, 0, 0), (1304, none, .bipush 48, 2, 0, 48, 0), (1306, none, .istore_n 3, 1, 0, 0, 0), (1307, none, .goto 272, 3, 1579, 0, 0)] := fq_of2 cd_168 ow_168 cl_168 rfl (pc := 1294) (by decide +kernel)
    j_aldn (pc := 1294) D rfl rfl rfl fun D =>
    j_ldcw (pc := 1295) D rfl fun D =>
    j_ivu (pc := 1298) (dd := 216) (a := [(4, 147)]) (rest := []) H.2.1 D rfl rfl rfl rfl rfl (fun m4 v2 h1 e1 D =>
      have T := fj_run_ok _ _ _ _ _ _ H.1 e1
      have H := shp_st H T
      j_ifeq (pc := 1301) D rfl (fun q =>
        fk_jump cut_168_1579 rfl rfl) (fun q D =>
        j_bp (pc := 1304) D rfl fun D =>
        j_istn (pc := 1306) (L' := [(3, (0, 48)), (1, (4, x1)), (2, (4, x2))]) D rfl nl_168 rfl rfl fun D =>
        j_goto (pc := 1307) D rfl <|
        fk_jump cut_168_1579 rfl rfl)) (fun m4 q3 h1 e1 =>
      j_tx (hx_168 _))
theorem e_168_1310 (d : Nat) (x1 x2 x3 : Int) {h : fi_H} (H : Shp h) : c_168_1310 d x1 x2 x3 h =
  dv_ (fi_vt 216 (h 0 x2.toNat 0)) fun m4 => ca_ (fj_run d m4 h [(4, x2), (4, 151)]) 0
    (fun v2 h1 =>
    if v2 = 0 then
      c_168_1579 d x1 x3 h1
    else
      c_168_1579 d x1 49 h1)
    (fun q3 h1 => tx_ q3 h1) := by
  unfold c_168_1310
  exact
    have D : fk_D 168 [(1310, some [1, 2, 3], .aload_n 2, 1, 0, 0, 0), (1311, none, .ldc_w 322, 3, 4, 151, 0), (1314, none, .invokevirtual 194, 3, 1, 216, 1), (1317, none, .ifCond .eq 262, 3, 1579, 0, 0), (1320, none, .bipush 49, 2, 0, 49, 0), (1322, none, .istore_n 3, 1, 0, 0, 0), (1323, none, .goto 256, 3, 1579, 0, 0)] := fq_of2 cd_168 ow_168 cl_168 rfl (pc := 1310) (by decide +kernel)
    j_aldn (pc := 1310) D rfl rfl rfl fun D =>
    j_ldcw (pc := 1311) D rfl fun D =>
    j_ivu (pc := 1314) (dd := 216) (a := [(4, 151)]) (rest := []) H.2.1 D rfl rfl rfl rfl rfl (fun m4 v2 h1 e1 D =>
      have T := fj_run_ok _ _ _ _ _ _ H.1 e1
      have H := shp_st H T
      j_ifeq (pc := 1317) D rfl (fun q =>
        fk_jump cut_168_1579 rfl rfl) (fun q D =>
        j_bp (pc := 1320) D rfl fun D =>
        j_istn (pc := 1322) (L' := [(3, (0, 49)), (1, (4, x1)), (2, (4, x2))]) D rfl nl_168 rfl rfl fun D =>
        j_goto (pc := 1323) D rfl <|
        fk_jump cut_168_1579 rfl rfl)) (fun m4 q3 h1 e1 =>
      j_tx (hx_168 _))
theorem e_168_1326 (d : Nat) (x1 x2 x3 : Int) {h : fi_H} (H : Shp h) : c_168_1326 d x1 x2 x3 h =
  dv_ (fi_vt 216 (h 0 x2.toNat 0)) fun m4 => ca_ (fj_run d m4 h [(4, x2), (4, 153)]) 0
    (fun v2 h1 =>
    if v2 = 0 then
      c_168_1579 d x1 x3 h1
    else
      c_168_1579 d x1 50 h1)
    (fun q3 h1 => tx_ q3 h1) := by
  unfold c_168_1326
  exact
    have D : fk_D 168 [(1326, some [1, 2, 3], .aload_n 2, 1, 0, 0, 0), (1327, none, .ldc_w 324, 3, 4, 153, 0), (1330, none, .invokevirtual 194, 3, 1, 216, 1), (1333, none, .ifCond .eq 246, 3, 1579, 0, 0), (1336, none, .bipush 50, 2, 0, 50, 0), (1338, none, .istore_n 3, 1, 0, 0, 0), (1339, none, .goto 240, 3, 1579, 0, 0)] := fq_of2 cd_168 ow_168 cl_168 rfl (pc := 1326) (by decide +kernel)
    j_aldn (pc := 1326) D rfl rfl rfl fun D =>
    j_ldcw (pc := 1327) D rfl fun D =>
    j_ivu (pc := 1330) (dd := 216) (a := [(4, 153)]) (rest := []) H.2.1 D rfl rfl rfl rfl rfl (fun m4 v2 h1 e1 D =>
      have T := fj_run_ok _ _ _ _ _ _ H.1 e1
      have H := shp_st H T
      j_ifeq (pc := 1333) D rfl (fun q =>
        fk_jump cut_168_1579 rfl rfl) (fun q D =>
        j_bp (pc := 1336) D rfl fun D =>
        j_istn (pc := 1338) (L' := [(3, (0, 50)), (1, (4, x1)), (2, (4, x2))]) D rfl nl_168 rfl rfl fun D =>
        j_goto (pc := 1339) D rfl <|
        fk_jump cut_168_1579 rfl rfl)) (fun m4 q3 h1 e1 =>
      j_tx (hx_168 _))
theorem e_168_1342 (d : Nat) (x1 x2 x3 : Int) {h : fi_H} (H : Shp h) : c_168_1342 d x1 x2 x3 h =
  dv_ (fi_vt 216 (h 0 x2.toNat 0)) fun m4 => ca_ (fj_run d m4 h [(4, x2), (4, 155)]) 0
    (fun v2 h1 =>
    if v2 = 0 then
      c_168_1579 d x1 x3 h1
    else
      c_168_1579 d x1 51 h1)
    (fun q3 h1 => tx_ q3 h1) := by
  unfold c_168_1342
  exact
    have D : fk_D 168 [(1342, some [1, 2, 3], .aload_n 2, 1, 0, 0, 0), (1343, none, .ldc_w 326, 3, 4, 155, 0), (1346, none, .invokevirtual 194, 3, 1, 216, 1), (1349, none, .ifCond .eq 230, 3, 1579, 0, 0), (1352, none, .bipush 51, 2, 0, 51, 0), (1354, none, .istore_n 3, 1, 0, 0, 0), (1355, none, .goto 224, 3, 1579, 0, 0)] := fq_of2 cd_168 ow_168 cl_168 rfl (pc := 1342) (by decide +kernel)
    j_aldn (pc := 1342) D rfl rfl rfl fun D =>
    j_ldcw (pc := 1343) D rfl fun D =>
    j_ivu (pc := 1346) (dd := 216) (a := [(4, 155)]) (rest := []) H.2.1 D rfl rfl rfl rfl rfl (fun m4 v2 h1 e1 D =>
      have T := fj_run_ok _ _ _ _ _ _ H.1 e1
      have H := shp_st H T
      j_ifeq (pc := 1349) D rfl (fun q =>
        fk_jump cut_168_1579 rfl rfl) (fun q D =>
        j_bp (pc := 1352) D rfl fun D =>
        j_istn (pc := 1354) (L' := [(3, (0, 51)), (1, (4, x1)), (2, (4, x2))]) D rfl nl_168 rfl rfl fun D =>
        j_goto (pc := 1355) D rfl <|
        fk_jump cut_168_1579 rfl rfl)) (fun m4 q3 h1 e1 =>
      j_tx (hx_168 _))
theorem e_168_1358 (d : Nat) (x1 x2 x3 : Int) {h : fi_H} (H : Shp h) : c_168_1358 d x1 x2 x3 h =
  dv_ (fi_vt 216 (h 0 x2.toNat 0)) fun m4 => ca_ (fj_run d m4 h [(4, x2), (4, 157)]) 0
    (fun v2 h1 =>
    if v2 = 0 then
      c_168_1579 d x1 x3 h1
    else
      c_168_1579 d x1 52 h1)
    (fun q3 h1 => tx_ q3 h1) := by
  unfold c_168_1358
  exact
    have D : fk_D 168 [(1358, some [1, 2, 3], .aload_n 2, 1, 0, 0, 0), (1359, none, .ldc_w 328, 3, 4, 157, 0), (1362, none, .invokevirtual 194, 3, 1, 216, 1), (1365, none, .ifCond .eq 214, 3, 1579, 0, 0), (1368, none, .bipush 52, 2, 0, 52, 0), (1370, none, .istore_n 3, 1, 0, 0, 0), (1371, none, .goto 208, 3, 1579, 0, 0)] := fq_of2 cd_168 ow_168 cl_168 rfl (pc := 1358) (by decide +kernel)
    j_aldn (pc := 1358) D rfl rfl rfl fun D =>
    j_ldcw (pc := 1359) D rfl fun D =>
    j_ivu (pc := 1362) (dd := 216) (a := [(4, 157)]) (rest := []) H.2.1 D rfl rfl rfl rfl rfl (fun m4 v2 h1 e1 D =>
      have T := fj_run_ok _ _ _ _ _ _ H.1 e1
      have H := shp_st H T
      j_ifeq (pc := 1365) D rfl (fun q =>
        fk_jump cut_168_1579 rfl rfl) (fun q D =>
        j_bp (pc := 1368) D rfl fun D =>
        j_istn (pc := 1370) (L' := [(3, (0, 52)), (1, (4, x1)), (2, (4, x2))]) D rfl nl_168 rfl rfl fun D =>
        j_goto (pc := 1371) D rfl <|
        fk_jump cut_168_1579 rfl rfl)) (fun m4 q3 h1 e1 =>
      j_tx (hx_168 _))
theorem e_168_1374 (d : Nat) (x1 x2 x3 : Int) {h : fi_H} (H : Shp h) : c_168_1374 d x1 x2 x3 h =
  dv_ (fi_vt 216 (h 0 x2.toNat 0)) fun m4 => ca_ (fj_run d m4 h [(4, x2), (4, 169)]) 0
    (fun v2 h1 =>
    if v2 = 0 then
      c_168_1579 d x1 x3 h1
    else
      c_168_1579 d x1 53 h1)
    (fun q3 h1 => tx_ q3 h1) := by
  unfold c_168_1374
  exact
    have D : fk_D 168 [(1374, some [1, 2, 3], .aload_n 2, 1, 0, 0, 0), (1375, none, .ldc_w 330, 3, 4, 169, 0), (1378, none, .invokevirtual 194, 3, 1, 216, 1), (1381, none, .ifCond .eq 198, 3, 1579, 0, 0), (1384, none, .bipush 53, 2, 0, 53, 0), (1386, none, .istore_n 3, 1, 0, 0, 0), (1387, none, .goto 192, 3, 1579, 0, 0)] := fq_of2 cd_168 ow_168 cl_168 rfl (pc := 1374) (by decide +kernel)
    j_aldn (pc := 1374) D rfl rfl rfl fun D =>
    j_ldcw (pc := 1375) D rfl fun D =>
    j_ivu (pc := 1378) (dd := 216) (a := [(4, 169)]) (rest := []) H.2.1 D rfl rfl rfl rfl rfl (fun m4 v2 h1 e1 D =>
      have T := fj_run_ok _ _ _ _ _ _ H.1 e1
      have H := shp_st H T
      j_ifeq (pc := 1381) D rfl (fun q =>
        fk_jump cut_168_1579 rfl rfl) (fun q D =>
        j_bp (pc := 1384) D rfl fun D =>
        j_istn (pc := 1386) (L' := [(3, (0, 53)), (1, (4, x1)), (2, (4, x2))]) D rfl nl_168 rfl rfl fun D =>
        j_goto (pc := 1387) D rfl <|
        fk_jump cut_168_1579 rfl rfl)) (fun m4 q3 h1 e1 =>
      j_tx (hx_168 _))
theorem e_168_1390 (d : Nat) (x1 x2 x3 : Int) {h : fi_H} (H : Shp h) : c_168_1390 d x1 x2 x3 h =
  dv_ (fi_vt 216 (h 0 x2.toNat 0)) fun m4 => ca_ (fj_run d m4 h [(4, x2), (4, 243)]) 0
    (fun v2 h1 =>
    if v2 = 0 then
      c_168_1579 d x1 x3 h1
    else
      c_168_1579 d x1 54 h1)
    (fun q3 h1 => tx_ q3 h1) := by
  unfold c_168_1390
  exact
    have D : fk_D 168 [(1390, some [1, 2, 3], .aload_n 2, 1, 0, 0, 0), (1391, none, .ldc_w 332, 3, 4, 243, 0), (1394, none, .invokevirtual 194, 3, 1, 216, 1), (1397, none, .ifCond .eq 182, 3, 1579, 0, 0), (1400, none, .bipush 54, 2, 0, 54, 0), (1402, none, .istore_n 3, 1, 0, 0, 0), (1403, none, .goto 176, 3, 1579, 0, 0)] := fq_of2 cd_168 ow_168 cl_168 rfl (pc := 1390) (by decide +kernel)
    j_aldn (pc := 1390) D rfl rfl rfl fun D =>
    j_ldcw (pc := 1391) D rfl fun D =>
    j_ivu (pc := 1394) (dd := 216) (a := [(4, 243)]) (rest := []) H.2.1 D rfl rfl rfl rfl rfl (fun m4 v2 h1 e1 D =>
      have T := fj_run_ok _ _ _ _ _ _ H.1 e1
      have H := shp_st H T
      j_ifeq (pc := 1397) D rfl (fun q =>
        fk_jump cut_168_1579 rfl rfl) (fun q D =>
        j_bp (pc := 1400) D rfl fun D =>
        j_istn (pc := 1402) (L' := [(3, (0, 54)), (1, (4, x1)), (2, (4, x2))]) D rfl nl_168 rfl rfl fun D =>
        j_goto (pc := 1403) D rfl <|
        fk_jump cut_168_1579 rfl rfl)) (fun m4 q3 h1 e1 =>
      j_tx (hx_168 _))
theorem e_168_1406 (d : Nat) (x1 x2 x3 : Int) {h : fi_H} (H : Shp h) : c_168_1406 d x1 x2 x3 h =
  dv_ (fi_vt 216 (h 0 x2.toNat 0)) fun m4 => ca_ (fj_run d m4 h [(4, x2), (4, 245)]) 0
    (fun v2 h1 =>
    if v2 = 0 then
      c_168_1579 d x1 x3 h1
    else
      c_168_1579 d x1 55 h1)
    (fun q3 h1 => tx_ q3 h1) := by
  unfold c_168_1406
  exact
    have D : fk_D 168 [(1406, some [1, 2, 3], .aload_n 2, 1, 0, 0, 0), (1407, none, .ldc_w 334, 3, 4, 245, 0), (1410, none, .invokevirtual 194, 3, 1, 216, 1), (1413, none, .ifCond .eq 166, 3, 1579, 0, 0), (1416, none, .bipush 55, 2, 0, 55, 0), (1418, none, .istore_n 3, 1, 0, 0, 0), (1419, none, .goto 160, 3, 1579, 0, 0)] := fq_of2 cd_168 ow_168 cl_168 rfl (pc := 1406) (by decide +kernel)
    j_aldn (pc := 1406) D rfl rfl rfl fun D =>
    j_ldcw (pc := 1407) D rfl fun D =>
    j_ivu (pc := 1410) (dd := 216) (a := [(4, 245)]) (rest := []) H.2.1 D rfl rfl rfl rfl rfl (fun m4 v2 h1 e1 D =>
      have T := fj_run_ok _ _ _ _ _ _ H.1 e1
      have H := shp_st H T
      j_ifeq (pc := 1413) D rfl (fun q =>
        fk_jump cut_168_1579 rfl rfl) (fun q D =>
        j_bp (pc := 1416) D rfl fun D =>
        j_istn (pc := 1418) (L' := [(3, (0, 55)), (1, (4, x1)), (2, (4, x2))]) D rfl nl_168 rfl rfl fun D =>
        j_goto (pc := 1419) D rfl <|
        fk_jump cut_168_1579 rfl rfl)) (fun m4 q3 h1 e1 =>
      j_tx (hx_168 _))
theorem e_168_1422 (d : Nat) (x1 x2 x3 : Int) {h : fi_H} (H : Shp h) : c_168_1422 d x1 x2 x3 h =
  dv_ (fi_vt 216 (h 0 x2.toNat 0)) fun m4 => ca_ (fj_run d m4 h [(4, x2), (4, 247)]) 0
    (fun v2 h1 =>
    if v2 = 0 then
      c_168_1579 d x1 x3 h1
    else
      c_168_1579 d x1 56 h1)
    (fun q3 h1 => tx_ q3 h1) := by
  unfold c_168_1422
  exact
    have D : fk_D 168 [(1422, some [1, 2, 3], .aload_n 2, 1, 0, 0, 0), (1423, none, .ldc_w 336, 3, 4, 247, 0), (1426, none, .invokevirtual 194, 3, 1, 216, 1), (1429, none, .ifCond .eq 150, 3, 1579, 0, 0), (1432, none, .bipush 56, 2, 0, 56, 0), (1434, none, .istore_n 3, 1, 0, 0, 0), (1435, none, .goto 144, 3, 1579, 0, 0)] := fq_of2 cd_168 ow_168 cl_168 rfl (pc := 1422) (by decide +kernel)
    j_aldn (pc := 1422) D rfl rfl rfl fun D =>
    j_ldcw (pc := 1423) D rfl fun D =>
    j_ivu (pc := 1426) (dd := 216) (a := [(4, 247)]) (rest := []) H.2.1 D rfl rfl rfl rfl rfl (fun m4 v2 h1 e1 D =>
      have T := fj_run_ok _ _ _ _ _ _ H.1 e1
      have H := shp_st H T
      j_ifeq (pc := 1429) D rfl (fun q =>
        fk_jump cut_168_1579 rfl rfl) (fun q D =>
        j_bp (pc := 1432) D rfl fun D =>
        j_istn (pc := 1434) (L' := [(3, (0, 56)), (1, (4, x1)), (2, (4, x2))]) D rfl nl_168 rfl rfl fun D =>
        j_goto (pc := 1435) D rfl <|
        fk_jump cut_168_1579 rfl rfl)) (fun m4 q3 h1 e1 =>
      j_tx (hx_168 _))
theorem e_168_1438 (d : Nat) (x1 x2 x3 : Int) {h : fi_H} (H : Shp h) : c_168_1438 d x1 x2 x3 h =
  dv_ (fi_vt 216 (h 0 x2.toNat 0)) fun m4 => ca_ (fj_run d m4 h [(4, x2), (4, 249)]) 0
    (fun v2 h1 =>
    if v2 = 0 then
      c_168_1579 d x1 x3 h1
    else
      c_168_1579 d x1 57 h1)
    (fun q3 h1 => tx_ q3 h1) := by
  unfold c_168_1438
  exact
    have D : fk_D 168 [(1438, some [1, 2, 3], .aload_n 2, 1, 0, 0, 0), (1439, none, .ldc_w 338, 3, 4, 249, 0), (1442, none, .invokevirtual 194, 3, 1, 216, 1), (1445, none, .ifCond .eq 134, 3, 1579, 0, 0), (1448, none, .bipush 57, 2, 0, 57, 0), (1450, none, .istore_n 3, 1, 0, 0, 0), (1451, none, .goto 128, 3, 1579, 0, 0)] := fq_of2 cd_168 ow_168 cl_168 rfl (pc := 1438) (by decide +kernel)
    j_aldn (pc := 1438) D rfl rfl rfl fun D =>
    j_ldcw (pc := 1439) D rfl fun D =>
    j_ivu (pc := 1442) (dd := 216) (a := [(4, 249)]) (rest := []) H.2.1 D rfl rfl rfl rfl rfl (fun m4 v2 h1 e1 D =>
      have T := fj_run_ok _ _ _ _ _ _ H.1 e1
      have H := shp_st H T
      j_ifeq (pc := 1445) D rfl (fun q =>
        fk_jump cut_168_1579 rfl rfl) (fun q D =>
        j_bp (pc := 1448) D rfl fun D =>
        j_istn (pc := 1450) (L' := [(3, (0, 57)), (1, (4, x1)), (2, (4, x2))]) D rfl nl_168 rfl rfl fun D =>
        j_goto (pc := 1451) D rfl <|
        fk_jump cut_168_1579 rfl rfl)) (fun m4 q3 h1 e1 =>
      j_tx (hx_168 _))
theorem e_168_1454 (d : Nat) (x1 x2 x3 : Int) {h : fi_H} (H : Shp h) : c_168_1454 d x1 x2 x3 h =
  dv_ (fi_vt 216 (h 0 x2.toNat 0)) fun m4 => ca_ (fj_run d m4 h [(4, x2), (4, 251)]) 0
    (fun v2 h1 =>
    if v2 = 0 then
      c_168_1579 d x1 x3 h1
    else
      c_168_1579 d x1 58 h1)
    (fun q3 h1 => tx_ q3 h1) := by
  unfold c_168_1454
  exact
    have D : fk_D 168 [(1454, some [1, 2, 3], .aload_n 2, 1, 0, 0, 0), (1455, none, .ldc_w 340, 3, 4, 251, 0), (1458, none, .invokevirtual 194, 3, 1, 216, 1), (1461, none, .ifCond .eq 118, 3, 1579, 0, 0), (1464, none, .bipush 58, 2, 0, 58, 0), (1466, none, .istore_n 3, 1, 0, 0, 0), (1467, none, .goto 112, 3, 1579, 0, 0)] := fq_of2 cd_168 ow_168 cl_168 rfl (pc := 1454) (by decide +kernel)
    j_aldn (pc := 1454) D rfl rfl rfl fun D =>
    j_ldcw (pc := 1455) D rfl fun D =>
    j_ivu (pc := 1458) (dd := 216) (a := [(4, 251)]) (rest := []) H.2.1 D rfl rfl rfl rfl rfl (fun m4 v2 h1 e1 D =>
      have T := fj_run_ok _ _ _ _ _ _ H.1 e1
      have H := shp_st H T
      j_ifeq (pc := 1461) D rfl (fun q =>
        fk_jump cut_168_1579 rfl rfl) (fun q D =>
        j_bp (pc := 1464) D rfl fun D =>
        j_istn (pc := 1466) (L' := [(3, (0, 58)), (1, (4, x1)), (2, (4, x2))]) D rfl nl_168 rfl rfl fun D =>
        j_goto (pc := 1467) D rfl <|
        fk_jump cut_168_1579 rfl rfl)) (fun m4 q3 h1 e1 =>
      j_tx (hx_168 _))
theorem e_168_1470 (d : Nat) (x1 x2 x3 : Int) {h : fi_H} (H : Shp h) : c_168_1470 d x1 x2 x3 h =
  dv_ (fi_vt 216 (h 0 x2.toNat 0)) fun m4 => ca_ (fj_run d m4 h [(4, x2), (4, 253)]) 0
    (fun v2 h1 =>
    if v2 = 0 then
      c_168_1579 d x1 x3 h1
    else
      c_168_1579 d x1 59 h1)
    (fun q3 h1 => tx_ q3 h1) := by
  unfold c_168_1470
  exact
    have D : fk_D 168 [(1470, some [1, 2, 3], .aload_n 2, 1, 0, 0, 0), (1471, none, .ldc_w 342, 3, 4, 253, 0), (1474, none, .invokevirtual 194, 3, 1, 216, 1), (1477, none, .ifCond .eq 102, 3, 1579, 0, 0), (1480, none, .bipush 59, 2, 0, 59, 0), (1482, none, .istore_n 3, 1, 0, 0, 0), (1483, none, .goto 96, 3, 1579, 0, 0)] := fq_of2 cd_168 ow_168 cl_168 rfl (pc := 1470) (by decide +kernel)
    j_aldn (pc := 1470) D rfl rfl rfl fun D =>
    j_ldcw (pc := 1471) D rfl fun D =>
    j_ivu (pc := 1474) (dd := 216) (a := [(4, 253)]) (rest := []) H.2.1 D rfl rfl rfl rfl rfl (fun m4 v2 h1 e1 D =>
      have T := fj_run_ok _ _ _ _ _ _ H.1 e1
      have H := shp_st H T
      j_ifeq (pc := 1477) D rfl (fun q =>
        fk_jump cut_168_1579 rfl rfl) (fun q D =>
        j_bp (pc := 1480) D rfl fun D =>
        j_istn (pc := 1482) (L' := [(3, (0, 59)), (1, (4, x1)), (2, (4, x2))]) D rfl nl_168 rfl rfl fun D =>
        j_goto (pc := 1483) D rfl <|
        fk_jump cut_168_1579 rfl rfl)) (fun m4 q3 h1 e1 =>
      j_tx (hx_168 _))
theorem e_168_1486 (d : Nat) (x1 x2 x3 : Int) {h : fi_H} (H : Shp h) : c_168_1486 d x1 x2 x3 h =
  dv_ (fi_vt 216 (h 0 x2.toNat 0)) fun m4 => ca_ (fj_run d m4 h [(4, x2), (4, 255)]) 0
    (fun v2 h1 =>
    if v2 = 0 then
      c_168_1579 d x1 x3 h1
    else
      c_168_1579 d x1 60 h1)
    (fun q3 h1 => tx_ q3 h1) := by
  unfold c_168_1486
  exact
    have D : fk_D 168 [(1486, some [1, 2, 3], .aload_n 2, 1, 0, 0, 0), (1487, none, .ldc_w 344, 3, 4, 255, 0), (1490, none, .invokevirtual 194, 3, 1, 216, 1), (1493, none, .ifCond .eq 86, 3, 1579, 0, 0), (1496, none, .bipush 60, 2, 0, 60, 0), (1498, none, .istore_n 3, 1, 0, 0, 0), (1499, none, .goto 80, 3, 1579, 0, 0)] := fq_of2 cd_168 ow_168 cl_168 rfl (pc := 1486) (by decide +kernel)
    j_aldn (pc := 1486) D rfl rfl rfl fun D =>
    j_ldcw (pc := 1487) D rfl fun D =>
    j_ivu (pc := 1490) (dd := 216) (a := [(4, 255)]) (rest := []) H.2.1 D rfl rfl rfl rfl rfl (fun m4 v2 h1 e1 D =>
      have T := fj_run_ok _ _ _ _ _ _ H.1 e1
      have H := shp_st H T
      j_ifeq (pc := 1493) D rfl (fun q =>
        fk_jump cut_168_1579 rfl rfl) (fun q D =>
        j_bp (pc := 1496) D rfl fun D =>
        j_istn (pc := 1498) (L' := [(3, (0, 60)), (1, (4, x1)), (2, (4, x2))]) D rfl nl_168 rfl rfl fun D =>
        j_goto (pc := 1499) D rfl <|
        fk_jump cut_168_1579 rfl rfl)) (fun m4 q3 h1 e1 =>
      j_tx (hx_168 _))
theorem e_168_1502 (d : Nat) (x1 x2 x3 : Int) {h : fi_H} (H : Shp h) : c_168_1502 d x1 x2 x3 h =
  dv_ (fi_vt 216 (h 0 x2.toNat 0)) fun m4 => ca_ (fj_run d m4 h [(4, x2), (4, 257)]) 0
    (fun v2 h1 =>
    if v2 = 0 then
      c_168_1579 d x1 x3 h1
    else
      c_168_1579 d x1 61 h1)
    (fun q3 h1 => tx_ q3 h1) := by
  unfold c_168_1502
  exact
    have D : fk_D 168 [(1502, some [1, 2, 3], .aload_n 2, 1, 0, 0, 0), (1503, none, .ldc_w 346, 3, 4, 257, 0), (1506, none, .invokevirtual 194, 3, 1, 216, 1), (1509, none, .ifCond .eq 70, 3, 1579, 0, 0), (1512, none, .bipush 61, 2, 0, 61, 0), (1514, none, .istore_n 3, 1, 0, 0, 0), (1515, none, .goto 64, 3, 1579, 0, 0)] := fq_of2 cd_168 ow_168 cl_168 rfl (pc := 1502) (by decide +kernel)
    j_aldn (pc := 1502) D rfl rfl rfl fun D =>
    j_ldcw (pc := 1503) D rfl fun D =>
    j_ivu (pc := 1506) (dd := 216) (a := [(4, 257)]) (rest := []) H.2.1 D rfl rfl rfl rfl rfl (fun m4 v2 h1 e1 D =>
      have T := fj_run_ok _ _ _ _ _ _ H.1 e1
      have H := shp_st H T
      j_ifeq (pc := 1509) D rfl (fun q =>
        fk_jump cut_168_1579 rfl rfl) (fun q D =>
        j_bp (pc := 1512) D rfl fun D =>
        j_istn (pc := 1514) (L' := [(3, (0, 61)), (1, (4, x1)), (2, (4, x2))]) D rfl nl_168 rfl rfl fun D =>
        j_goto (pc := 1515) D rfl <|
        fk_jump cut_168_1579 rfl rfl)) (fun m4 q3 h1 e1 =>
      j_tx (hx_168 _))
theorem e_168_1518 (d : Nat) (x1 x2 x3 : Int) {h : fi_H} (H : Shp h) : c_168_1518 d x1 x2 x3 h =
  dv_ (fi_vt 216 (h 0 x2.toNat 0)) fun m4 => ca_ (fj_run d m4 h [(4, x2), (4, 259)]) 0
    (fun v2 h1 =>
    if v2 = 0 then
      c_168_1579 d x1 x3 h1
    else
      c_168_1579 d x1 62 h1)
    (fun q3 h1 => tx_ q3 h1) := by
  unfold c_168_1518
  exact
    have D : fk_D 168 [(1518, some [1, 2, 3], .aload_n 2, 1, 0, 0, 0), (1519, none, .ldc_w 348, 3, 4, 259, 0), (1522, none, .invokevirtual 194, 3, 1, 216, 1), (1525, none, .ifCond .eq 54, 3, 1579, 0, 0), (1528, none, .bipush 62, 2, 0, 62, 0), (1530, none, .istore_n 3, 1, 0, 0, 0), (1531, none, .goto 48, 3, 1579, 0, 0)] := fq_of2 cd_168 ow_168 cl_168 rfl (pc := 1518) (by decide +kernel)
    j_aldn (pc := 1518) D rfl rfl rfl fun D =>
    j_ldcw (pc := 1519) D rfl fun D =>
    j_ivu (pc := 1522) (dd := 216) (a := [(4, 259)]) (rest := []) H.2.1 D rfl rfl rfl rfl rfl (fun m4 v2 h1 e1 D =>
      have T := fj_run_ok _ _ _ _ _ _ H.1 e1
      have H := shp_st H T
      j_ifeq (pc := 1525) D rfl (fun q =>
        fk_jump cut_168_1579 rfl rfl) (fun q D =>
        j_bp (pc := 1528) D rfl fun D =>
        j_istn (pc := 1530) (L' := [(3, (0, 62)), (1, (4, x1)), (2, (4, x2))]) D rfl nl_168 rfl rfl fun D =>
        j_goto (pc := 1531) D rfl <|
        fk_jump cut_168_1579 rfl rfl)) (fun m4 q3 h1 e1 =>
      j_tx (hx_168 _))
theorem e_168_1534 (d : Nat) (x1 x2 x3 : Int) {h : fi_H} (H : Shp h) : c_168_1534 d x1 x2 x3 h =
  dv_ (fi_vt 216 (h 0 x2.toNat 0)) fun m4 => ca_ (fj_run d m4 h [(4, x2), (4, 159)]) 0
    (fun v2 h1 =>
    if v2 = 0 then
      c_168_1579 d x1 x3 h1
    else
      c_168_1579 d x1 63 h1)
    (fun q3 h1 => tx_ q3 h1) := by
  unfold c_168_1534
  exact
    have D : fk_D 168 [(1534, some [1, 2, 3], .aload_n 2, 1, 0, 0, 0), (1535, none, .ldc_w 350, 3, 4, 159, 0), (1538, none, .invokevirtual 194, 3, 1, 216, 1), (1541, none, .ifCond .eq 38, 3, 1579, 0, 0), (1544, none, .bipush 63, 2, 0, 63, 0), (1546, none, .istore_n 3, 1, 0, 0, 0), (1547, none, .goto 32, 3, 1579, 0, 0)] := fq_of2 cd_168 ow_168 cl_168 rfl (pc := 1534) (by decide +kernel)
    j_aldn (pc := 1534) D rfl rfl rfl fun D =>
    j_ldcw (pc := 1535) D rfl fun D =>
    j_ivu (pc := 1538) (dd := 216) (a := [(4, 159)]) (rest := []) H.2.1 D rfl rfl rfl rfl rfl (fun m4 v2 h1 e1 D =>
      have T := fj_run_ok _ _ _ _ _ _ H.1 e1
      have H := shp_st H T
      j_ifeq (pc := 1541) D rfl (fun q =>
        fk_jump cut_168_1579 rfl rfl) (fun q D =>
        j_bp (pc := 1544) D rfl fun D =>
        j_istn (pc := 1546) (L' := [(3, (0, 63)), (1, (4, x1)), (2, (4, x2))]) D rfl nl_168 rfl rfl fun D =>
        j_goto (pc := 1547) D rfl <|
        fk_jump cut_168_1579 rfl rfl)) (fun m4 q3 h1 e1 =>
      j_tx (hx_168 _))
theorem e_168_1550 (d : Nat) (x1 x2 x3 : Int) {h : fi_H} (H : Shp h) : c_168_1550 d x1 x2 x3 h =
  dv_ (fi_vt 216 (h 0 x2.toNat 0)) fun m4 => ca_ (fj_run d m4 h [(4, x2), (4, 261)]) 0
    (fun v2 h1 =>
    if v2 = 0 then
      c_168_1579 d x1 x3 h1
    else
      c_168_1579 d x1 64 h1)
    (fun q3 h1 => tx_ q3 h1) := by
  unfold c_168_1550
  exact
    have D : fk_D 168 [(1550, some [1, 2, 3], .aload_n 2, 1, 0, 0, 0), (1551, none, .ldc_w 352, 3, 4, 261, 0), (1554, none, .invokevirtual 194, 3, 1, 216, 1), (1557, none, .ifCond .eq 22, 3, 1579, 0, 0), (1560, none, .bipush 64, 2, 0, 64, 0), (1562, none, .istore_n 3, 1, 0, 0, 0), (1563, none, .goto 16, 3, 1579, 0, 0)] := fq_of2 cd_168 ow_168 cl_168 rfl (pc := 1550) (by decide +kernel)
    j_aldn (pc := 1550) D rfl rfl rfl fun D =>
    j_ldcw (pc := 1551) D rfl fun D =>
    j_ivu (pc := 1554) (dd := 216) (a := [(4, 261)]) (rest := []) H.2.1 D rfl rfl rfl rfl rfl (fun m4 v2 h1 e1 D =>
      have T := fj_run_ok _ _ _ _ _ _ H.1 e1
      have H := shp_st H T
      j_ifeq (pc := 1557) D rfl (fun q =>
        fk_jump cut_168_1579 rfl rfl) (fun q D =>
        j_bp (pc := 1560) D rfl fun D =>
        j_istn (pc := 1562) (L' := [(3, (0, 64)), (1, (4, x1)), (2, (4, x2))]) D rfl nl_168 rfl rfl fun D =>
        j_goto (pc := 1563) D rfl <|
        fk_jump cut_168_1579 rfl rfl)) (fun m4 q3 h1 e1 =>
      j_tx (hx_168 _))
theorem e_168_1566 (d : Nat) (x1 x2 x3 : Int) {h : fi_H} (H : Shp h) : c_168_1566 d x1 x2 x3 h =
  dv_ (fi_vt 216 (h 0 x2.toNat 0)) fun m4 => ca_ (fj_run d m4 h [(4, x2), (4, 263)]) 0
    (fun v2 h1 =>
    if v2 = 0 then
      c_168_1579 d x1 x3 h1
    else
      c_168_1579 d x1 65 h1)
    (fun q3 h1 => tx_ q3 h1) := by
  unfold c_168_1566
  exact
    have D : fk_D 168 [(1566, some [1, 2, 3], .aload_n 2, 1, 0, 0, 0), (1567, none, .ldc_w 354, 3, 4, 263, 0), (1570, none, .invokevirtual 194, 3, 1, 216, 1), (1573, none, .ifCond .eq 6, 3, 1579, 0, 0), (1576, none, .bipush 65, 2, 0, 65, 0), (1578, none, .istore_n 3, 1, 0, 0, 0)] := fq_of2 cd_168 ow_168 cl_168 rfl (pc := 1566) (by decide +kernel)
    j_aldn (pc := 1566) D rfl rfl rfl fun D =>
    j_ldcw (pc := 1567) D rfl fun D =>
    j_ivu (pc := 1570) (dd := 216) (a := [(4, 263)]) (rest := []) H.2.1 D rfl rfl rfl rfl rfl (fun m4 v2 h1 e1 D =>
      have T := fj_run_ok _ _ _ _ _ _ H.1 e1
      have H := shp_st H T
      j_ifeq (pc := 1573) D rfl (fun q =>
        fk_jump cut_168_1579 rfl rfl) (fun q D =>
        j_bp (pc := 1576) D rfl fun D =>
        j_istn (pc := 1578) (L' := [(3, (0, 65)), (1, (4, x1)), (2, (4, x2))]) D rfl nl_168 rfl rfl fun D =>
        fk_jump cut_168_1579 rfl rfl)) (fun m4 q3 h1 e1 =>
      j_tx (hx_168 _))
theorem e_168_1579 (d : Nat) (x1 x3 : Int) {h : fi_H} (H : Shp h) : c_168_1579 d x1 x3 h =
  if x3 = 0 then
    some (.inl (some (0, 1)), h)
  else if x3 = 1 then
    some (.inl (some (0, 1)), h)
  else if x3 = 2 then
    some (.inl (some (0, 1)), h)
  else if x3 = 3 then
    some (.inl (some (0, 1)), h)
  else if x3 = 4 then
    some (.inl (some (0, 1)), h)
  else if x3 = 5 then
    some (.inl (some (0, 1)), h)
  else if x3 = 6 then
    some (.inl (some (0, 1)), h)
  else if x3 = 7 then
    some (.inl (some (0, 1)), h)
  else if x3 = 8 then
    some (.inl (some (0, 1)), h)
  else if x3 = 9 then
    some (.inl (some (0, 1)), h)
  else if x3 = 10 then
    some (.inl (some (0, 1)), h)
  else if x3 = 11 then
    some (.inl (some (0, 1)), h)
  else if x3 = 12 then
    some (.inl (some (0, 1)), h)
  else if x3 = 13 then
    some (.inl (some (0, 1)), h)
  else if x3 = 14 then
    some (.inl (some (0, 1)), h)
  else if x3 = 15 then
    some (.inl (some (0, 1)), h)
  else if x3 = 16 then
    some (.inl (some (0, 1)), h)
  else if x3 = 17 then
    some (.inl (some (0, 1)), h)
  else if x3 = 18 then
    some (.inl (some (0, 1)), h)
  else if x3 = 19 then
    some (.inl (some (0, 1)), h)
  else if x3 = 20 then
    some (.inl (some (0, 1)), h)
  else if x3 = 21 then
    some (.inl (some (0, 1)), h)
  else if x3 = 22 then
    some (.inl (some (0, 1)), h)
  else if x3 = 23 then
    some (.inl (some (0, 1)), h)
  else if x3 = 24 then
    some (.inl (some (0, 1)), h)
  else if x3 = 25 then
    some (.inl (some (0, 1)), h)
  else if x3 = 26 then
    some (.inl (some (0, 1)), h)
  else if x3 = 27 then
    some (.inl (some (0, 1)), h)
  else if x3 = 28 then
    some (.inl (some (0, 1)), h)
  else if x3 = 29 then
    some (.inl (some (0, 1)), h)
  else if x3 = 30 then
    some (.inl (some (0, 1)), h)
  else if x3 = 31 then
    some (.inl (some (0, 1)), h)
  else if x3 = 32 then
    some (.inl (some (0, 1)), h)
  else if x3 = 33 then
    some (.inl (some (0, 1)), h)
  else if x3 = 34 then
    some (.inl (some (0, 1)), h)
  else if x3 = 35 then
    some (.inl (some (0, 1)), h)
  else if x3 = 36 then
    some (.inl (some (0, 1)), h)
  else if x3 = 37 then
    some (.inl (some (0, 1)), h)
  else if x3 = 38 then
    some (.inl (some (0, 1)), h)
  else if x3 = 39 then
    some (.inl (some (0, 1)), h)
  else if x3 = 40 then
    some (.inl (some (0, 1)), h)
  else if x3 = 41 then
    some (.inl (some (0, 1)), h)
  else if x3 = 42 then
    some (.inl (some (0, 1)), h)
  else if x3 = 43 then
    some (.inl (some (0, 1)), h)
  else if x3 = 44 then
    some (.inl (some (0, 1)), h)
  else if x3 = 45 then
    some (.inl (some (0, 1)), h)
  else if x3 = 46 then
    some (.inl (some (0, 1)), h)
  else if x3 = 47 then
    some (.inl (some (0, 1)), h)
  else if x3 = 48 then
    some (.inl (some (0, 1)), h)
  else if x3 = 49 then
    some (.inl (some (0, 1)), h)
  else if x3 = 50 then
    some (.inl (some (0, 1)), h)
  else if x3 = 51 then
    some (.inl (some (0, 1)), h)
  else if x3 = 52 then
    some (.inl (some (0, 1)), h)
  else if x3 = 53 then
    some (.inl (some (0, 1)), h)
  else if x3 = 54 then
    some (.inl (some (0, 1)), h)
  else if x3 = 55 then
    some (.inl (some (0, 1)), h)
  else if x3 = 56 then
    some (.inl (some (0, 1)), h)
  else if x3 = 57 then
    some (.inl (some (0, 1)), h)
  else if x3 = 58 then
    some (.inl (some (0, 1)), h)
  else if x3 = 59 then
    some (.inl (some (0, 1)), h)
  else if x3 = 60 then
    some (.inl (some (0, 1)), h)
  else if x3 = 61 then
    some (.inl (some (0, 1)), h)
  else if x3 = 62 then
    some (.inl (some (0, 1)), h)
  else if x3 = 63 then
    some (.inl (some (0, 1)), h)
  else if x3 = 64 then
    some (.inl (some (0, 1)), h)
  else if x3 = 65 then
    some (.inl (some (0, 1)), h)
  else 
    ca_ (fj_run d 180 h [(4, x1)]) 4
      (fun v2 h1 =>
      if v2 = 0 then
        some (.inl (some (0, 0)), h1)
      else
        some (.inl (some (0, 1)), h1))
      (fun q3 h1 => tx_ q3 h1) := by
  unfold c_168_1579
  exact
    have D : fk_D 168 [(1579, some [1, 3], .iload_n 3, 1, 0, 0, 0), (1580, none, .tableswitch 282 0 65 #[280, 280, 280, 280, 280, 280, 280, 280, 280, 280, 280, 280, 280, 280, 280, 280, 280, 280, 280, 280, 280, 280, 280, 280, 280, 280, 280, 280, 280, 280, 280, 280, 280, 280, 280, 280, 280, 280, 280, 280, 280, 280, 280, 280, 280, 280, 280, 280, 280, 280, 280, 280, 280, 280, 280, 280, 280, 280, 280, 280, 280, 280, 280, 280, 280, 280], 280, 0, 0, 0)] := fq_of3 cd_168 ow_168 cl_168 rfl (pc := 1579) (by decide +kernel)
    j_ildn (pc := 1579) D rfl rfl rfl fun D =>
    have N : fk_ni (x3) [] := trivial
    j_tc (pc := 1580) 0 (t := 1860) D N rfl (by decide +kernel) (fun q =>
      have D : fk_D 168 [(1860, none, .iconst 1, 1, 0, 1, 0), (1861, none, .ireturn, 1, 0, 0, 0)] := fq_of2 cd_168 ow_168 cl_168 rfl (pc := 1860) (by decide +kernel)
      j_ic (pc := 1860) D rfl fun D =>
      j_zret D rt_168 (gy (by decide))) (fun N =>
      j_tc 1 (t := 1860) D N rfl (by decide +kernel) (fun q =>
        have D : fk_D 168 [(1860, none, .iconst 1, 1, 0, 1, 0), (1861, none, .ireturn, 1, 0, 0, 0)] := fq_of2 cd_168 ow_168 cl_168 rfl (pc := 1860) (by decide +kernel)
        j_ic (pc := 1860) D rfl fun D =>
        j_zret D rt_168 (gy (by decide))) (fun N =>
        j_tc 2 (t := 1860) D N rfl (by decide +kernel) (fun q =>
          have D : fk_D 168 [(1860, none, .iconst 1, 1, 0, 1, 0), (1861, none, .ireturn, 1, 0, 0, 0)] := fq_of2 cd_168 ow_168 cl_168 rfl (pc := 1860) (by decide +kernel)
          j_ic (pc := 1860) D rfl fun D =>
          j_zret D rt_168 (gy (by decide))) (fun N =>
          j_tc 3 (t := 1860) D N rfl (by decide +kernel) (fun q =>
            have D : fk_D 168 [(1860, none, .iconst 1, 1, 0, 1, 0), (1861, none, .ireturn, 1, 0, 0, 0)] := fq_of2 cd_168 ow_168 cl_168 rfl (pc := 1860) (by decide +kernel)
            j_ic (pc := 1860) D rfl fun D =>
            j_zret D rt_168 (gy (by decide))) (fun N =>
            j_tc 4 (t := 1860) D N rfl (by decide +kernel) (fun q =>
              have D : fk_D 168 [(1860, none, .iconst 1, 1, 0, 1, 0), (1861, none, .ireturn, 1, 0, 0, 0)] := fq_of2 cd_168 ow_168 cl_168 rfl (pc := 1860) (by decide +kernel)
              j_ic (pc := 1860) D rfl fun D =>
              j_zret D rt_168 (gy (by decide))) (fun N =>
              j_tc 5 (t := 1860) D N rfl (by decide +kernel) (fun q =>
                have D : fk_D 168 [(1860, none, .iconst 1, 1, 0, 1, 0), (1861, none, .ireturn, 1, 0, 0, 0)] := fq_of2 cd_168 ow_168 cl_168 rfl (pc := 1860) (by decide +kernel)
                j_ic (pc := 1860) D rfl fun D =>
                j_zret D rt_168 (gy (by decide))) (fun N =>
                j_tc 6 (t := 1860) D N rfl (by decide +kernel) (fun q =>
                  have D : fk_D 168 [(1860, none, .iconst 1, 1, 0, 1, 0), (1861, none, .ireturn, 1, 0, 0, 0)] := fq_of2 cd_168 ow_168 cl_168 rfl (pc := 1860) (by decide +kernel)
                  j_ic (pc := 1860) D rfl fun D =>
                  j_zret D rt_168 (gy (by decide))) (fun N =>
                  j_tc 7 (t := 1860) D N rfl (by decide +kernel) (fun q =>
                    have D : fk_D 168 [(1860, none, .iconst 1, 1, 0, 1, 0), (1861, none, .ireturn, 1, 0, 0, 0)] := fq_of2 cd_168 ow_168 cl_168 rfl (pc := 1860) (by decide +kernel)
                    j_ic (pc := 1860) D rfl fun D =>
                    j_zret D rt_168 (gy (by decide))) (fun N =>
                    j_tc 8 (t := 1860) D N rfl (by decide +kernel) (fun q =>
                      have D : fk_D 168 [(1860, none, .iconst 1, 1, 0, 1, 0), (1861, none, .ireturn, 1, 0, 0, 0)] := fq_of2 cd_168 ow_168 cl_168 rfl (pc := 1860) (by decide +kernel)
                      j_ic (pc := 1860) D rfl fun D =>
                      j_zret D rt_168 (gy (by decide))) (fun N =>
                      j_tc 9 (t := 1860) D N rfl (by decide +kernel) (fun q =>
                        have D : fk_D 168 [(1860, none, .iconst 1, 1, 0, 1, 0), (1861, none, .ireturn, 1, 0, 0, 0)] := fq_of2 cd_168 ow_168 cl_168 rfl (pc := 1860) (by decide +kernel)
                        j_ic (pc := 1860) D rfl fun D =>
                        j_zret D rt_168 (gy (by decide))) (fun N =>
                        j_tc 10 (t := 1860) D N rfl (by decide +kernel) (fun q =>
                          have D : fk_D 168 [(1860, none, .iconst 1, 1, 0, 1, 0), (1861, none, .ireturn, 1, 0, 0, 0)] := fq_of2 cd_168 ow_168 cl_168 rfl (pc := 1860) (by decide +kernel)
                          j_ic (pc := 1860) D rfl fun D =>
                          j_zret D rt_168 (gy (by decide))) (fun N =>
                          j_tc 11 (t := 1860) D N rfl (by decide +kernel) (fun q =>
                            have D : fk_D 168 [(1860, none, .iconst 1, 1, 0, 1, 0), (1861, none, .ireturn, 1, 0, 0, 0)] := fq_of2 cd_168 ow_168 cl_168 rfl (pc := 1860) (by decide +kernel)
                            j_ic (pc := 1860) D rfl fun D =>
                            j_zret D rt_168 (gy (by decide))) (fun N =>
                            j_tc 12 (t := 1860) D N rfl (by decide +kernel) (fun q =>
                              have D : fk_D 168 [(1860, none, .iconst 1, 1, 0, 1, 0), (1861, none, .ireturn, 1, 0, 0, 0)] := fq_of2 cd_168 ow_168 cl_168 rfl (pc := 1860) (by decide +kernel)
                              j_ic (pc := 1860) D rfl fun D =>
                              j_zret D rt_168 (gy (by decide))) (fun N =>
                              j_tc 13 (t := 1860) D N rfl (by decide +kernel) (fun q =>
                                have D : fk_D 168 [(1860, none, .iconst 1, 1, 0, 1, 0), (1861, none, .ireturn, 1, 0, 0, 0)] := fq_of2 cd_168 ow_168 cl_168 rfl (pc := 1860) (by decide +kernel)
                                j_ic (pc := 1860) D rfl fun D =>
                                j_zret D rt_168 (gy (by decide))) (fun N =>
                                j_tc 14 (t := 1860) D N rfl (by decide +kernel) (fun q =>
                                  have D : fk_D 168 [(1860, none, .iconst 1, 1, 0, 1, 0), (1861, none, .ireturn, 1, 0, 0, 0)] := fq_of2 cd_168 ow_168 cl_168 rfl (pc := 1860) (by decide +kernel)
                                  j_ic (pc := 1860) D rfl fun D =>
                                  j_zret D rt_168 (gy (by decide))) (fun N =>
                                  j_tc 15 (t := 1860) D N rfl (by decide +kernel) (fun q =>
                                    have D : fk_D 168 [(1860, none, .iconst 1, 1, 0, 1, 0), (1861, none, .ireturn, 1, 0, 0, 0)] := fq_of2 cd_168 ow_168 cl_168 rfl (pc := 1860) (by decide +kernel)
                                    j_ic (pc := 1860) D rfl fun D =>
                                    j_zret D rt_168 (gy (by decide))) (fun N =>
                                    j_tc 16 (t := 1860) D N rfl (by decide +kernel) (fun q =>
                                      have D : fk_D 168 [(1860, none, .iconst 1, 1, 0, 1, 0), (1861, none, .ireturn, 1, 0, 0, 0)] := fq_of2 cd_168 ow_168 cl_168 rfl (pc := 1860) (by decide +kernel)
                                      j_ic (pc := 1860) D rfl fun D =>
                                      j_zret D rt_168 (gy (by decide))) (fun N =>
                                      j_tc 17 (t := 1860) D N rfl (by decide +kernel) (fun q =>
                                        have D : fk_D 168 [(1860, none, .iconst 1, 1, 0, 1, 0), (1861, none, .ireturn, 1, 0, 0, 0)] := fq_of2 cd_168 ow_168 cl_168 rfl (pc := 1860) (by decide +kernel)
                                        j_ic (pc := 1860) D rfl fun D =>
                                        j_zret D rt_168 (gy (by decide))) (fun N =>
                                        j_tc 18 (t := 1860) D N rfl (by decide +kernel) (fun q =>
                                          have D : fk_D 168 [(1860, none, .iconst 1, 1, 0, 1, 0), (1861, none, .ireturn, 1, 0, 0, 0)] := fq_of2 cd_168 ow_168 cl_168 rfl (pc := 1860) (by decide +kernel)
                                          j_ic (pc := 1860) D rfl fun D =>
                                          j_zret D rt_168 (gy (by decide))) (fun N =>
                                          j_tc 19 (t := 1860) D N rfl (by decide +kernel) (fun q =>
                                            have D : fk_D 168 [(1860, none, .iconst 1, 1, 0, 1, 0), (1861, none, .ireturn, 1, 0, 0, 0)] := fq_of2 cd_168 ow_168 cl_168 rfl (pc := 1860) (by decide +kernel)
                                            j_ic (pc := 1860) D rfl fun D =>
                                            j_zret D rt_168 (gy (by decide))) (fun N =>
                                            j_tc 20 (t := 1860) D N rfl (by decide +kernel) (fun q =>
                                              have D : fk_D 168 [(1860, none, .iconst 1, 1, 0, 1, 0), (1861, none, .ireturn, 1, 0, 0, 0)] := fq_of2 cd_168 ow_168 cl_168 rfl (pc := 1860) (by decide +kernel)
                                              j_ic (pc := 1860) D rfl fun D =>
                                              j_zret D rt_168 (gy (by decide))) (fun N =>
                                              j_tc 21 (t := 1860) D N rfl (by decide +kernel) (fun q =>
                                                have D : fk_D 168 [(1860, none, .iconst 1, 1, 0, 1, 0), (1861, none, .ireturn, 1, 0, 0, 0)] := fq_of2 cd_168 ow_168 cl_168 rfl (pc := 1860) (by decide +kernel)
                                                j_ic (pc := 1860) D rfl fun D =>
                                                j_zret D rt_168 (gy (by decide))) (fun N =>
                                                j_tc 22 (t := 1860) D N rfl (by decide +kernel) (fun q =>
                                                  have D : fk_D 168 [(1860, none, .iconst 1, 1, 0, 1, 0), (1861, none, .ireturn, 1, 0, 0, 0)] := fq_of2 cd_168 ow_168 cl_168 rfl (pc := 1860) (by decide +kernel)
                                                  j_ic (pc := 1860) D rfl fun D =>
                                                  j_zret D rt_168 (gy (by decide))) (fun N =>
                                                  j_tc 23 (t := 1860) D N rfl (by decide +kernel) (fun q =>
                                                    have D : fk_D 168 [(1860, none, .iconst 1, 1, 0, 1, 0), (1861, none, .ireturn, 1, 0, 0, 0)] := fq_of2 cd_168 ow_168 cl_168 rfl (pc := 1860) (by decide +kernel)
                                                    j_ic (pc := 1860) D rfl fun D =>
                                                    j_zret D rt_168 (gy (by decide))) (fun N =>
                                                    j_tc 24 (t := 1860) D N rfl (by decide +kernel) (fun q =>
                                                      have D : fk_D 168 [(1860, none, .iconst 1, 1, 0, 1, 0), (1861, none, .ireturn, 1, 0, 0, 0)] := fq_of2 cd_168 ow_168 cl_168 rfl (pc := 1860) (by decide +kernel)
                                                      j_ic (pc := 1860) D rfl fun D =>
                                                      j_zret D rt_168 (gy (by decide))) (fun N =>
                                                      j_tc 25 (t := 1860) D N rfl (by decide +kernel) (fun q =>
                                                        have D : fk_D 168 [(1860, none, .iconst 1, 1, 0, 1, 0), (1861, none, .ireturn, 1, 0, 0, 0)] := fq_of2 cd_168 ow_168 cl_168 rfl (pc := 1860) (by decide +kernel)
                                                        j_ic (pc := 1860) D rfl fun D =>
                                                        j_zret D rt_168 (gy (by decide))) (fun N =>
                                                        j_tc 26 (t := 1860) D N rfl (by decide +kernel) (fun q =>
                                                          have D : fk_D 168 [(1860, none, .iconst 1, 1, 0, 1, 0), (1861, none, .ireturn, 1, 0, 0, 0)] := fq_of2 cd_168 ow_168 cl_168 rfl (pc := 1860) (by decide +kernel)
                                                          j_ic (pc := 1860) D rfl fun D =>
                                                          j_zret D rt_168 (gy (by decide))) (fun N =>
                                                          j_tc 27 (t := 1860) D N rfl (by decide +kernel) (fun q =>
                                                            have D : fk_D 168 [(1860, none, .iconst 1, 1, 0, 1, 0), (1861, none, .ireturn, 1, 0, 0, 0)] := fq_of2 cd_168 ow_168 cl_168 rfl (pc := 1860) (by decide +kernel)
                                                            j_ic (pc := 1860) D rfl fun D =>
                                                            j_zret D rt_168 (gy (by decide))) (fun N =>
                                                            j_tc 28 (t := 1860) D N rfl (by decide +kernel) (fun q =>
                                                              have D : fk_D 168 [(1860, none, .iconst 1, 1, 0, 1, 0), (1861, none, .ireturn, 1, 0, 0, 0)] := fq_of2 cd_168 ow_168 cl_168 rfl (pc := 1860) (by decide +kernel)
                                                              j_ic (pc := 1860) D rfl fun D =>
                                                              j_zret D rt_168 (gy (by decide))) (fun N =>
                                                              j_tc 29 (t := 1860) D N rfl (by decide +kernel) (fun q =>
                                                                have D : fk_D 168 [(1860, none, .iconst 1, 1, 0, 1, 0), (1861, none, .ireturn, 1, 0, 0, 0)] := fq_of2 cd_168 ow_168 cl_168 rfl (pc := 1860) (by decide +kernel)
                                                                j_ic (pc := 1860) D rfl fun D =>
                                                                j_zret D rt_168 (gy (by decide))) (fun N =>
                                                                j_tc 30 (t := 1860) D N rfl (by decide +kernel) (fun q =>
                                                                  have D : fk_D 168 [(1860, none, .iconst 1, 1, 0, 1, 0), (1861, none, .ireturn, 1, 0, 0, 0)] := fq_of2 cd_168 ow_168 cl_168 rfl (pc := 1860) (by decide +kernel)
                                                                  j_ic (pc := 1860) D rfl fun D =>
                                                                  j_zret D rt_168 (gy (by decide))) (fun N =>
                                                                  j_tc 31 (t := 1860) D N rfl (by decide +kernel) (fun q =>
                                                                    have D : fk_D 168 [(1860, none, .iconst 1, 1, 0, 1, 0), (1861, none, .ireturn, 1, 0, 0, 0)] := fq_of2 cd_168 ow_168 cl_168 rfl (pc := 1860) (by decide +kernel)
                                                                    j_ic (pc := 1860) D rfl fun D =>
                                                                    j_zret D rt_168 (gy (by decide))) (fun N =>
                                                                    j_tc 32 (t := 1860) D N rfl (by decide +kernel) (fun q =>
                                                                      have D : fk_D 168 [(1860, none, .iconst 1, 1, 0, 1, 0), (1861, none, .ireturn, 1, 0, 0, 0)] := fq_of2 cd_168 ow_168 cl_168 rfl (pc := 1860) (by decide +kernel)
                                                                      j_ic (pc := 1860) D rfl fun D =>
                                                                      j_zret D rt_168 (gy (by decide))) (fun N =>
                                                                      j_tc 33 (t := 1860) D N rfl (by decide +kernel) (fun q =>
                                                                        have D : fk_D 168 [(1860, none, .iconst 1, 1, 0, 1, 0), (1861, none, .ireturn, 1, 0, 0, 0)] := fq_of2 cd_168 ow_168 cl_168 rfl (pc := 1860) (by decide +kernel)
                                                                        j_ic (pc := 1860) D rfl fun D =>
                                                                        j_zret D rt_168 (gy (by decide))) (fun N =>
                                                                        j_tc 34 (t := 1860) D N rfl (by decide +kernel) (fun q =>
                                                                          have D : fk_D 168 [(1860, none, .iconst 1, 1, 0, 1, 0), (1861, none, .ireturn, 1, 0, 0, 0)] := fq_of2 cd_168 ow_168 cl_168 rfl (pc := 1860) (by decide +kernel)
                                                                          j_ic (pc := 1860) D rfl fun D =>
                                                                          j_zret D rt_168 (gy (by decide))) (fun N =>
                                                                          j_tc 35 (t := 1860) D N rfl (by decide +kernel) (fun q =>
                                                                            have D : fk_D 168 [(1860, none, .iconst 1, 1, 0, 1, 0), (1861, none, .ireturn, 1, 0, 0, 0)] := fq_of2 cd_168 ow_168 cl_168 rfl (pc := 1860) (by decide +kernel)
                                                                            j_ic (pc := 1860) D rfl fun D =>
                                                                            j_zret D rt_168 (gy (by decide))) (fun N =>
                                                                            j_tc 36 (t := 1860) D N rfl (by decide +kernel) (fun q =>
                                                                              have D : fk_D 168 [(1860, none, .iconst 1, 1, 0, 1, 0), (1861, none, .ireturn, 1, 0, 0, 0)] := fq_of2 cd_168 ow_168 cl_168 rfl (pc := 1860) (by decide +kernel)
                                                                              j_ic (pc := 1860) D rfl fun D =>
                                                                              j_zret D rt_168 (gy (by decide))) (fun N =>
                                                                              j_tc 37 (t := 1860) D N rfl (by decide +kernel) (fun q =>
                                                                                have D : fk_D 168 [(1860, none, .iconst 1, 1, 0, 1, 0), (1861, none, .ireturn, 1, 0, 0, 0)] := fq_of2 cd_168 ow_168 cl_168 rfl (pc := 1860) (by decide +kernel)
                                                                                j_ic (pc := 1860) D rfl fun D =>
                                                                                j_zret D rt_168 (gy (by decide))) (fun N =>
                                                                                j_tc 38 (t := 1860) D N rfl (by decide +kernel) (fun q =>
                                                                                  have D : fk_D 168 [(1860, none, .iconst 1, 1, 0, 1, 0), (1861, none, .ireturn, 1, 0, 0, 0)] := fq_of2 cd_168 ow_168 cl_168 rfl (pc := 1860) (by decide +kernel)
                                                                                  j_ic (pc := 1860) D rfl fun D =>
                                                                                  j_zret D rt_168 (gy (by decide))) (fun N =>
                                                                                  j_tc 39 (t := 1860) D N rfl (by decide +kernel) (fun q =>
                                                                                    have D : fk_D 168 [(1860, none, .iconst 1, 1, 0, 1, 0), (1861, none, .ireturn, 1, 0, 0, 0)] := fq_of2 cd_168 ow_168 cl_168 rfl (pc := 1860) (by decide +kernel)
                                                                                    j_ic (pc := 1860) D rfl fun D =>
                                                                                    j_zret D rt_168 (gy (by decide))) (fun N =>
                                                                                    j_tc 40 (t := 1860) D N rfl (by decide +kernel) (fun q =>
                                                                                      have D : fk_D 168 [(1860, none, .iconst 1, 1, 0, 1, 0), (1861, none, .ireturn, 1, 0, 0, 0)] := fq_of2 cd_168 ow_168 cl_168 rfl (pc := 1860) (by decide +kernel)
                                                                                      j_ic (pc := 1860) D rfl fun D =>
                                                                                      j_zret D rt_168 (gy (by decide))) (fun N =>
                                                                                      j_tc 41 (t := 1860) D N rfl (by decide +kernel) (fun q =>
                                                                                        have D : fk_D 168 [(1860, none, .iconst 1, 1, 0, 1, 0), (1861, none, .ireturn, 1, 0, 0, 0)] := fq_of2 cd_168 ow_168 cl_168 rfl (pc := 1860) (by decide +kernel)
                                                                                        j_ic (pc := 1860) D rfl fun D =>
                                                                                        j_zret D rt_168 (gy (by decide))) (fun N =>
                                                                                        j_tc 42 (t := 1860) D N rfl (by decide +kernel) (fun q =>
                                                                                          have D : fk_D 168 [(1860, none, .iconst 1, 1, 0, 1, 0), (1861, none, .ireturn, 1, 0, 0, 0)] := fq_of2 cd_168 ow_168 cl_168 rfl (pc := 1860) (by decide +kernel)
                                                                                          j_ic (pc := 1860) D rfl fun D =>
                                                                                          j_zret D rt_168 (gy (by decide))) (fun N =>
                                                                                          j_tc 43 (t := 1860) D N rfl (by decide +kernel) (fun q =>
                                                                                            have D : fk_D 168 [(1860, none, .iconst 1, 1, 0, 1, 0), (1861, none, .ireturn, 1, 0, 0, 0)] := fq_of2 cd_168 ow_168 cl_168 rfl (pc := 1860) (by decide +kernel)
                                                                                            j_ic (pc := 1860) D rfl fun D =>
                                                                                            j_zret D rt_168 (gy (by decide))) (fun N =>
                                                                                            j_tc 44 (t := 1860) D N rfl (by decide +kernel) (fun q =>
                                                                                              have D : fk_D 168 [(1860, none, .iconst 1, 1, 0, 1, 0), (1861, none, .ireturn, 1, 0, 0, 0)] := fq_of2 cd_168 ow_168 cl_168 rfl (pc := 1860) (by decide +kernel)
                                                                                              j_ic (pc := 1860) D rfl fun D =>
                                                                                              j_zret D rt_168 (gy (by decide))) (fun N =>
                                                                                              j_tc 45 (t := 1860) D N rfl (by decide +kernel) (fun q =>
                                                                                                have D : fk_D 168 [(1860, none, .iconst 1, 1, 0, 1, 0), (1861, none, .ireturn, 1, 0, 0, 0)] := fq_of2 cd_168 ow_168 cl_168 rfl (pc := 1860) (by decide +kernel)
                                                                                                j_ic (pc := 1860) D rfl fun D =>
                                                                                                j_zret D rt_168 (gy (by decide))) (fun N =>
                                                                                                j_tc 46 (t := 1860) D N rfl (by decide +kernel) (fun q =>
                                                                                                  have D : fk_D 168 [(1860, none, .iconst 1, 1, 0, 1, 0), (1861, none, .ireturn, 1, 0, 0, 0)] := fq_of2 cd_168 ow_168 cl_168 rfl (pc := 1860) (by decide +kernel)
                                                                                                  j_ic (pc := 1860) D rfl fun D =>
                                                                                                  j_zret D rt_168 (gy (by decide))) (fun N =>
                                                                                                  j_tc 47 (t := 1860) D N rfl (by decide +kernel) (fun q =>
                                                                                                    have D : fk_D 168 [(1860, none, .iconst 1, 1, 0, 1, 0), (1861, none, .ireturn, 1, 0, 0, 0)] := fq_of2 cd_168 ow_168 cl_168 rfl (pc := 1860) (by decide +kernel)
                                                                                                    j_ic (pc := 1860) D rfl fun D =>
                                                                                                    j_zret D rt_168 (gy (by decide))) (fun N =>
                                                                                                    j_tc 48 (t := 1860) D N rfl (by decide +kernel) (fun q =>
                                                                                                      have D : fk_D 168 [(1860, none, .iconst 1, 1, 0, 1, 0), (1861, none, .ireturn, 1, 0, 0, 0)] := fq_of2 cd_168 ow_168 cl_168 rfl (pc := 1860) (by decide +kernel)
                                                                                                      j_ic (pc := 1860) D rfl fun D =>
                                                                                                      j_zret D rt_168 (gy (by decide))) (fun N =>
                                                                                                      j_tc 49 (t := 1860) D N rfl (by decide +kernel) (fun q =>
                                                                                                        have D : fk_D 168 [(1860, none, .iconst 1, 1, 0, 1, 0), (1861, none, .ireturn, 1, 0, 0, 0)] := fq_of2 cd_168 ow_168 cl_168 rfl (pc := 1860) (by decide +kernel)
                                                                                                        j_ic (pc := 1860) D rfl fun D =>
                                                                                                        j_zret D rt_168 (gy (by decide))) (fun N =>
                                                                                                        j_tc 50 (t := 1860) D N rfl (by decide +kernel) (fun q =>
                                                                                                          have D : fk_D 168 [(1860, none, .iconst 1, 1, 0, 1, 0), (1861, none, .ireturn, 1, 0, 0, 0)] := fq_of2 cd_168 ow_168 cl_168 rfl (pc := 1860) (by decide +kernel)
                                                                                                          j_ic (pc := 1860) D rfl fun D =>
                                                                                                          j_zret D rt_168 (gy (by decide))) (fun N =>
                                                                                                          j_tc 51 (t := 1860) D N rfl (by decide +kernel) (fun q =>
                                                                                                            have D : fk_D 168 [(1860, none, .iconst 1, 1, 0, 1, 0), (1861, none, .ireturn, 1, 0, 0, 0)] := fq_of2 cd_168 ow_168 cl_168 rfl (pc := 1860) (by decide +kernel)
                                                                                                            j_ic (pc := 1860) D rfl fun D =>
                                                                                                            j_zret D rt_168 (gy (by decide))) (fun N =>
                                                                                                            j_tc 52 (t := 1860) D N rfl (by decide +kernel) (fun q =>
                                                                                                              have D : fk_D 168 [(1860, none, .iconst 1, 1, 0, 1, 0), (1861, none, .ireturn, 1, 0, 0, 0)] := fq_of2 cd_168 ow_168 cl_168 rfl (pc := 1860) (by decide +kernel)
                                                                                                              j_ic (pc := 1860) D rfl fun D =>
                                                                                                              j_zret D rt_168 (gy (by decide))) (fun N =>
                                                                                                              j_tc 53 (t := 1860) D N rfl (by decide +kernel) (fun q =>
                                                                                                                have D : fk_D 168 [(1860, none, .iconst 1, 1, 0, 1, 0), (1861, none, .ireturn, 1, 0, 0, 0)] := fq_of2 cd_168 ow_168 cl_168 rfl (pc := 1860) (by decide +kernel)
                                                                                                                j_ic (pc := 1860) D rfl fun D =>
                                                                                                                j_zret D rt_168 (gy (by decide))) (fun N =>
                                                                                                                j_tc 54 (t := 1860) D N rfl (by decide +kernel) (fun q =>
                                                                                                                  have D : fk_D 168 [(1860, none, .iconst 1, 1, 0, 1, 0), (1861, none, .ireturn, 1, 0, 0, 0)] := fq_of2 cd_168 ow_168 cl_168 rfl (pc := 1860) (by decide +kernel)
                                                                                                                  j_ic (pc := 1860) D rfl fun D =>
                                                                                                                  j_zret D rt_168 (gy (by decide))) (fun N =>
                                                                                                                  j_tc 55 (t := 1860) D N rfl (by decide +kernel) (fun q =>
                                                                                                                    have D : fk_D 168 [(1860, none, .iconst 1, 1, 0, 1, 0), (1861, none, .ireturn, 1, 0, 0, 0)] := fq_of2 cd_168 ow_168 cl_168 rfl (pc := 1860) (by decide +kernel)
                                                                                                                    j_ic (pc := 1860) D rfl fun D =>
                                                                                                                    j_zret D rt_168 (gy (by decide))) (fun N =>
                                                                                                                    j_tc 56 (t := 1860) D N rfl (by decide +kernel) (fun q =>
                                                                                                                      have D : fk_D 168 [(1860, none, .iconst 1, 1, 0, 1, 0), (1861, none, .ireturn, 1, 0, 0, 0)] := fq_of2 cd_168 ow_168 cl_168 rfl (pc := 1860) (by decide +kernel)
                                                                                                                      j_ic (pc := 1860) D rfl fun D =>
                                                                                                                      j_zret D rt_168 (gy (by decide))) (fun N =>
                                                                                                                      j_tc 57 (t := 1860) D N rfl (by decide +kernel) (fun q =>
                                                                                                                        have D : fk_D 168 [(1860, none, .iconst 1, 1, 0, 1, 0), (1861, none, .ireturn, 1, 0, 0, 0)] := fq_of2 cd_168 ow_168 cl_168 rfl (pc := 1860) (by decide +kernel)
                                                                                                                        j_ic (pc := 1860) D rfl fun D =>
                                                                                                                        j_zret D rt_168 (gy (by decide))) (fun N =>
                                                                                                                        j_tc 58 (t := 1860) D N rfl (by decide +kernel) (fun q =>
                                                                                                                          have D : fk_D 168 [(1860, none, .iconst 1, 1, 0, 1, 0), (1861, none, .ireturn, 1, 0, 0, 0)] := fq_of2 cd_168 ow_168 cl_168 rfl (pc := 1860) (by decide +kernel)
                                                                                                                          j_ic (pc := 1860) D rfl fun D =>
                                                                                                                          j_zret D rt_168 (gy (by decide))) (fun N =>
                                                                                                                          j_tc 59 (t := 1860) D N rfl (by decide +kernel) (fun q =>
                                                                                                                            have D : fk_D 168 [(1860, none, .iconst 1, 1, 0, 1, 0), (1861, none, .ireturn, 1, 0, 0, 0)] := fq_of2 cd_168 ow_168 cl_168 rfl (pc := 1860) (by decide +kernel)
                                                                                                                            j_ic (pc := 1860) D rfl fun D =>
                                                                                                                            j_zret D rt_168 (gy (by decide))) (fun N =>
                                                                                                                            j_tc 60 (t := 1860) D N rfl (by decide +kernel) (fun q =>
                                                                                                                              have D : fk_D 168 [(1860, none, .iconst 1, 1, 0, 1, 0), (1861, none, .ireturn, 1, 0, 0, 0)] := fq_of2 cd_168 ow_168 cl_168 rfl (pc := 1860) (by decide +kernel)
                                                                                                                              j_ic (pc := 1860) D rfl fun D =>
                                                                                                                              j_zret D rt_168 (gy (by decide))) (fun N =>
                                                                                                                              j_tc 61 (t := 1860) D N rfl (by decide +kernel) (fun q =>
                                                                                                                                have D : fk_D 168 [(1860, none, .iconst 1, 1, 0, 1, 0), (1861, none, .ireturn, 1, 0, 0, 0)] := fq_of2 cd_168 ow_168 cl_168 rfl (pc := 1860) (by decide +kernel)
                                                                                                                                j_ic (pc := 1860) D rfl fun D =>
                                                                                                                                j_zret D rt_168 (gy (by decide))) (fun N =>
                                                                                                                                j_tc 62 (t := 1860) D N rfl (by decide +kernel) (fun q =>
                                                                                                                                  have D : fk_D 168 [(1860, none, .iconst 1, 1, 0, 1, 0), (1861, none, .ireturn, 1, 0, 0, 0)] := fq_of2 cd_168 ow_168 cl_168 rfl (pc := 1860) (by decide +kernel)
                                                                                                                                  j_ic (pc := 1860) D rfl fun D =>
                                                                                                                                  j_zret D rt_168 (gy (by decide))) (fun N =>
                                                                                                                                  j_tc 63 (t := 1860) D N rfl (by decide +kernel) (fun q =>
                                                                                                                                    have D : fk_D 168 [(1860, none, .iconst 1, 1, 0, 1, 0), (1861, none, .ireturn, 1, 0, 0, 0)] := fq_of2 cd_168 ow_168 cl_168 rfl (pc := 1860) (by decide +kernel)
                                                                                                                                    j_ic (pc := 1860) D rfl fun D =>
                                                                                                                                    j_zret D rt_168 (gy (by decide))) (fun N =>
                                                                                                                                    j_tc 64 (t := 1860) D N rfl (by decide +kernel) (fun q =>
                                                                                                                                      have D : fk_D 168 [(1860, none, .iconst 1, 1, 0, 1, 0), (1861, none, .ireturn, 1, 0, 0, 0)] := fq_of2 cd_168 ow_168 cl_168 rfl (pc := 1860) (by decide +kernel)
                                                                                                                                      j_ic (pc := 1860) D rfl fun D =>
                                                                                                                                      j_zret D rt_168 (gy (by decide))) (fun N =>
                                                                                                                                      j_tc 65 (t := 1860) D N rfl (by decide +kernel) (fun q =>
                                                                                                                                        have D : fk_D 168 [(1860, none, .iconst 1, 1, 0, 1, 0), (1861, none, .ireturn, 1, 0, 0, 0)] := fq_of2 cd_168 ow_168 cl_168 rfl (pc := 1860) (by decide +kernel)
                                                                                                                                        j_ic (pc := 1860) D rfl fun D =>
                                                                                                                                        j_zret D rt_168 (gy (by decide))) (fun N =>
                                                                                                                                        j_td (t := 1862) D N rfl (by decide +kernel) (by decide +kernel) <|
                                                                                                                                        have D : fk_D 168 [(1862, none, .aload_n 1, 1, 0, 0, 0), (1863, none, .invokestatic 356, 3, 1, 180, 5), (1866, none, .ifnull 7, 3, 1873, 0, 0), (1869, none, .iconst 1, 1, 0, 1, 0), (1870, none, .goto 4, 3, 1874, 0, 0)] := fq_of2 cd_168 ow_168 cl_168 rfl (pc := 1862) (by decide +kernel)
                                                                                                                                        j_aldn (pc := 1862) D rfl rfl rfl fun D =>
                                                                                                                                        j_is (pc := 1863) (m := 180) (a := [(4, x1)]) (rest := []) D rfl rfl rfl rfl (fun v2 h1 e1 D =>
                                                                                                                                          have T := fj_run_ok _ _ _ _ _ _ H.1 e1
                                                                                                                                          have H := shp_st H T
                                                                                                                                          j_null (pc := 1866) D rfl (fun q =>
                                                                                                                                            have D : fk_D 168 [(1873, none, .iconst 0, 1, 0, 0, 0), (1874, none, .ireturn, 1, 0, 0, 0)] := fq_of2 cd_168 ow_168 cl_168 rfl (pc := 1873) (by decide +kernel)
                                                                                                                                            j_ic (pc := 1873) D rfl fun D =>
                                                                                                                                            j_zret D rt_168 (gy (by decide))) (fun q D =>
                                                                                                                                            j_ic (pc := 1869) D rfl fun D =>
                                                                                                                                            j_goto (pc := 1870) D rfl <|
                                                                                                                                            have D : fk_D 168 [(1874, none, .ireturn, 1, 0, 0, 0)] := fq_of2 cd_168 ow_168 cl_168 rfl (pc := 1874) (by decide +kernel)
                                                                                                                                            j_zret D rt_168 (gy (by decide)))) (fun q3 h1 e1 =>
                                                                                                                                          j_tx (hx_168 _))))))))))))))))))))))))))))))))))))))))))))))))))))))))))))))))))))
theorem m_168 (d : Nat) (x1 : Int) {h : fi_H} (H : Shp h) : fj_run (d + 1) 168 h [(4, 377), (4, x1)] =
  dv_ (fi_vt 215 (h 0 x1.toNat 0)) fun m4 => ca_ (fj_run d m4 h [(4, x1)]) 0
    (fun v2 h1 =>
    if v2 = (-2114201671) then
      c_168_707 d x1 x1 (-1) h1
    else if v2 = (-1310300822) then
      c_168_576 d x1 x1 (-1) h1
    else if v2 = (-1289550567) then
      c_168_1086 d x1 x1 (-1) h1
    else if v2 = (-1266285217) then
      c_168_692 d x1 x1 (-1) h1
    else if v2 = (-1218133446) then
      c_168_1534 d x1 x1 (-1) h1
    else if v2 = (-1068502768) then
      c_168_632 d x1 x1 (-1) h1
    else if v2 = (-1068487181) then
      c_168_990 d x1 x1 (-1) h1
    else if v2 = (-991716523) then
      c_168_894 d x1 x1 (-1) h1
    else if v2 = (-977343923) then
      c_168_647 d x1 x1 (-1) h1
    else if v2 = (-899648223) then
      c_168_1502 d x1 x1 (-1) h1
    else if v2 = (-891985998) then
      c_168_1438 d x1 x1 (-1) h1
    else if v2 = (-891186736) then
      c_168_722 d x1 x1 (-1) h1
    else if v2 = (-732377866) then
      c_168_1054 d x1 x1 (-1) h1
    else if v2 = (-606534881) then
      c_168_1358 d x1 x1 (-1) h1
    else if v2 = (-216634360) then
      c_168_1518 d x1 x1 (-1) h1
    else if v2 = 3370 then
      c_168_1102 d x1 x1 (-1) h1
    else if v2 = 3543 then
      c_168_618 d x1 x1 (-1) h1
    else if v2 = 3551 then
      c_168_1198 d x1 x1 (-1) h1
    else if v2 = 3555 then
      c_168_1134 d x1 x1 (-1) h1
    else if v2 = 3739 then
      c_168_910 d x1 x1 (-1) h1
    else if v2 = 96417 then
      c_168_1470 d x1 x1 (-1) h1
    else if v2 = 96673 then
      c_168_1326 d x1 x1 (-1) h1
    else if v2 = 96727 then
      c_168_1150 d x1 x1 (-1) h1
    else if v2 = 96748 then
      c_168_1310 d x1 x1 (-1) h1
    else if v2 = 99228 then
      c_168_1214 d x1 x1 (-1) h1
    else if v2 = 103066 then
      c_168_1278 d x1 x1 (-1) h1
    else if v2 = 109267 then
      c_168_1166 d x1 x1 (-1) h1
    else if v2 = 111375 then
      c_168_1454 d x1 x1 (-1) h1
    else if v2 = 112794 then
      c_168_1182 d x1 x1 (-1) h1
    else if v2 = 114251 then
      c_168_1294 d x1 x1 (-1) h1
    else if v2 = 3076014 then
      c_168_846 d x1 x1 (-1) h1
    else if v2 = 3076183 then
      c_168_974 d x1 x1 (-1) h1
    else if v2 = 3089570 then
      c_168_926 d x1 x1 (-1) h1
    else if v2 = 3116345 then
      c_168_767 d x1 x1 (-1) h1
    else if v2 = 3125530 then
      c_168_958 d x1 x1 (-1) h1
    else if v2 = 3135084 then
      c_168_737 d x1 x1 (-1) h1
    else if v2 = 3151786 then
      c_168_1070 d x1 x1 (-1) h1
    else if v2 = 3314326 then
      c_168_604 d x1 x1 (-1) h1
    else if v2 = 3377192 then
      c_168_942 d x1 x1 (-1) h1
    else if v2 = 3423444 then
      c_168_1262 d x1 x1 (-1) h1
    else if v2 = 3444122 then
      c_168_548 d x1 x1 (-1) h1
    else if v2 = 3493088 then
      c_168_830 d x1 x1 (-1) h1
    else if v2 = 3496350 then
      c_168_878 d x1 x1 (-1) h1
    else if v2 = 3526476 then
      c_168_1230 d x1 x1 (-1) h1
    else if v2 = 3536714 then
      c_168_862 d x1 x1 (-1) h1
    else if v2 = 3556460 then
      c_168_752 d x1 x1 (-1) h1
    else if v2 = 3569038 then
      c_168_1022 d x1 x1 (-1) h1
    else if v2 = 3625364 then
      c_168_1406 d x1 x1 (-1) h1
    else if v2 = 3648314 then
      c_168_1118 d x1 x1 (-1) h1
    else if v2 = 92929327 then
      c_168_1422 d x1 x1 (-1) h1
    else if v2 = 94851343 then
      c_168_798 d x1 x1 (-1) h1
    else if v2 = 97196323 then
      c_168_1038 d x1 x1 (-1) h1
    else if v2 = 97440432 then
      c_168_590 d x1 x1 (-1) h1
    else if v2 = 101304457 then
      c_168_1390 d x1 x1 (-1) h1
    else if v2 = 102865796 then
      c_168_1486 d x1 x1 (-1) h1
    else if v2 = 103901296 then
      c_168_562 d x1 x1 (-1) h1
    else if v2 = 104079552 then
      c_168_814 d x1 x1 (-1) h1
    else if v2 = 109757585 then
      c_168_1246 d x1 x1 (-1) h1
    else if v2 = 110115790 then
      c_168_1374 d x1 x1 (-1) h1
    else if v2 = 110640747 then
      c_168_782 d x1 x1 (-1) h1
    else if v2 = 111443806 then
      c_168_1566 d x1 x1 (-1) h1
    else if v2 = 114851798 then
      c_168_1006 d x1 x1 (-1) h1
    else if v2 = 201724889 then
      c_168_1342 d x1 x1 (-1) h1
    else if v2 = 917264036 then
      c_168_1550 d x1 x1 (-1) h1
    else if v2 = 1393530710 then
      c_168_662 d x1 x1 (-1) h1
    else if v2 = 1572055514 then
      c_168_677 d x1 x1 (-1) h1
    else 
      c_168_1579 d x1 (-1) h1)
    (fun q3 h1 => tx_ q3 h1) := by
  rw [fj_run_eq d (by decide) h [(4, 377), (4, x1)] (Nat.le_of_ble_eq_true (by rw [nl_168]; rfl))]
  show gG (fj_run d) 168 0 [(0, (4, 377)), (1, (4, x1))] [] h = _
  exact
    have D : fk_D 168 [(0, none, .aload_n 1, 1, 0, 0, 0), (1, none, .astore_n 2, 1, 0, 0, 0), (2, none, .iconst (-1), 1, 0, (-1), 0), (3, none, .istore_n 3, 1, 0, 0, 0), (4, none, .aload_n 2, 1, 0, 0, 0), (5, none, .invokevirtual 220, 3, 0, 215, 1), (8, none, .lookupswitch 1571 #[(-2114201671, 699), (-1310300822, 568), (-1289550567, 1078), (-1266285217, 684), (-1218133446, 1526), (-1068502768, 624), (-1068487181, 982), (-991716523, 886), (-977343923, 639), (-899648223, 1494), (-891985998, 1430), (-891186736, 714), (-732377866, 1046), (-606534881, 1350), (-216634360, 1510), (3370, 1094), (3543, 610), (3551, 1190), (3555, 1126), (3739, 902), (96417, 1462), (96673, 1318), (96727, 1142), (96748, 1302), (99228, 1206), (103066, 1270), (109267, 1158), (111375, 1446), (112794, 1174), (114251, 1286), (3076014, 838), (3076183, 966), (3089570, 918), (3116345, 759), (3125530, 950), (3135084, 729), (3151786, 1062), (3314326, 596), (3377192, 934), (3423444, 1254), (3444122, 540), (3493088, 822), (3496350, 870), (3526476, 1222), (3536714, 854), (3556460, 744), (3569038, 1014), (3625364, 1398), (3648314, 1110), (92929327, 1414), (94851343, 790), (97196323, 1030), (97440432, 582), (101304457, 1382), (102865796, 1478), (103901296, 554), (104079552, 806), (109757585, 1238), (110115790, 1366), (110640747, 774), (111443806, 1558), (114851798, 998), (201724889, 1334), (917264036, 1542), (1393530710, 654), (1572055514, 669)], 540, 0, 0, 0)] := fq_of3 cd_168 ow_168 cl_168 rfl (pc := 0) (by decide +kernel)
    j_aldn (pc := 0) D rfl rfl rfl fun D =>
    j_astn (pc := 1) (L' := [(2, (4, x1)), (0, (4, 377)), (1, (4, x1))]) D rfl nl_168 rfl rfl fun D =>
    j_ic (pc := 2) D rfl fun D =>
    j_istn (pc := 3) (L' := [(3, (0, (-1))), (2, (4, x1)), (0, (4, 377)), (1, (4, x1))]) D rfl nl_168 rfl rfl fun D =>
    j_aldn (pc := 4) D rfl rfl rfl fun D =>
    j_ivu (pc := 5) (dd := 215) (a := []) (rest := []) H.2.1 D rfl rfl rfl rfl rfl (fun m4 v2 h1 e1 D =>
      have T := fj_run_ok _ _ _ _ _ _ H.1 e1
      have H := shp_st H T
      have N : fk_ni (v2) [] := trivial
      j_lc (pc := 8) (-2114201671) (t := 707) D N rfl (by decide +kernel) (by decide +kernel) (fun q =>
        fk_jump cut_168_707 rfl rfl) (fun N =>
        j_lc (-1310300822) (t := 576) D N rfl (by decide +kernel) (by decide +kernel) (fun q =>
          fk_jump cut_168_576 rfl rfl) (fun N =>
          j_lc (-1289550567) (t := 1086) D N rfl (by decide +kernel) (by decide +kernel) (fun q =>
            fk_jump cut_168_1086 rfl rfl) (fun N =>
            j_lc (-1266285217) (t := 692) D N rfl (by decide +kernel) (by decide +kernel) (fun q =>
              fk_jump cut_168_692 rfl rfl) (fun N =>
              j_lc (-1218133446) (t := 1534) D N rfl (by decide +kernel) (by decide +kernel) (fun q =>
                fk_jump cut_168_1534 rfl rfl) (fun N =>
                j_lc (-1068502768) (t := 632) D N rfl (by decide +kernel) (by decide +kernel) (fun q =>
                  fk_jump cut_168_632 rfl rfl) (fun N =>
                  j_lc (-1068487181) (t := 990) D N rfl (by decide +kernel) (by decide +kernel) (fun q =>
                    fk_jump cut_168_990 rfl rfl) (fun N =>
                    j_lc (-991716523) (t := 894) D N rfl (by decide +kernel) (by decide +kernel) (fun q =>
                      fk_jump cut_168_894 rfl rfl) (fun N =>
                      j_lc (-977343923) (t := 647) D N rfl (by decide +kernel) (by decide +kernel) (fun q =>
                        fk_jump cut_168_647 rfl rfl) (fun N =>
                        j_lc (-899648223) (t := 1502) D N rfl (by decide +kernel) (by decide +kernel) (fun q =>
                          fk_jump cut_168_1502 rfl rfl) (fun N =>
                          j_lc (-891985998) (t := 1438) D N rfl (by decide +kernel) (by decide +kernel) (fun q =>
                            fk_jump cut_168_1438 rfl rfl) (fun N =>
                            j_lc (-891186736) (t := 722) D N rfl (by decide +kernel) (by decide +kernel) (fun q =>
                              fk_jump cut_168_722 rfl rfl) (fun N =>
                              j_lc (-732377866) (t := 1054) D N rfl (by decide +kernel) (by decide +kernel) (fun q =>
                                fk_jump cut_168_1054 rfl rfl) (fun N =>
                                j_lc (-606534881) (t := 1358) D N rfl (by decide +kernel) (by decide +kernel) (fun q =>
                                  fk_jump cut_168_1358 rfl rfl) (fun N =>
                                  j_lc (-216634360) (t := 1518) D N rfl (by decide +kernel) (by decide +kernel) (fun q =>
                                    fk_jump cut_168_1518 rfl rfl) (fun N =>
                                    j_lc 3370 (t := 1102) D N rfl (by decide +kernel) (by decide +kernel) (fun q =>
                                      fk_jump cut_168_1102 rfl rfl) (fun N =>
                                      j_lc 3543 (t := 618) D N rfl (by decide +kernel) (by decide +kernel) (fun q =>
                                        fk_jump cut_168_618 rfl rfl) (fun N =>
                                        j_lc 3551 (t := 1198) D N rfl (by decide +kernel) (by decide +kernel) (fun q =>
                                          fk_jump cut_168_1198 rfl rfl) (fun N =>
                                          j_lc 3555 (t := 1134) D N rfl (by decide +kernel) (by decide +kernel) (fun q =>
                                            fk_jump cut_168_1134 rfl rfl) (fun N =>
                                            j_lc 3739 (t := 910) D N rfl (by decide +kernel) (by decide +kernel) (fun q =>
                                              fk_jump cut_168_910 rfl rfl) (fun N =>
                                              j_lc 96417 (t := 1470) D N rfl (by decide +kernel) (by decide +kernel) (fun q =>
                                                fk_jump cut_168_1470 rfl rfl) (fun N =>
                                                j_lc 96673 (t := 1326) D N rfl (by decide +kernel) (by decide +kernel) (fun q =>
                                                  fk_jump cut_168_1326 rfl rfl) (fun N =>
                                                  j_lc 96727 (t := 1150) D N rfl (by decide +kernel) (by decide +kernel) (fun q =>
                                                    fk_jump cut_168_1150 rfl rfl) (fun N =>
                                                    j_lc 96748 (t := 1310) D N rfl (by decide +kernel) (by decide +kernel) (fun q =>
                                                      fk_jump cut_168_1310 rfl rfl) (fun N =>
                                                      j_lc 99228 (t := 1214) D N rfl (by decide +kernel) (by decide +kernel) (fun q =>
                                                        fk_jump cut_168_1214 rfl rfl) (fun N =>
                                                        j_lc 103066 (t := 1278) D N rfl (by decide +kernel) (by decide +kernel) (fun q =>
                                                          fk_jump cut_168_1278 rfl rfl) (fun N =>
                                                          j_lc 109267 (t := 1166) D N rfl (by decide +kernel) (by decide +kernel) (fun q =>
                                                            fk_jump cut_168_1166 rfl rfl) (fun N =>
                                                            j_lc 111375 (t := 1454) D N rfl (by decide +kernel) (by decide +kernel) (fun q =>
                                                              fk_jump cut_168_1454 rfl rfl) (fun N =>
                                                              j_lc 112794 (t := 1182) D N rfl (by decide +kernel) (by decide +kernel) (fun q =>
                                                                fk_jump cut_168_1182 rfl rfl) (fun N =>
                                                                j_lc 114251 (t := 1294) D N rfl (by decide +kernel) (by decide +kernel) (fun q =>
                                                                  fk_jump cut_168_1294 rfl rfl) (fun N =>
                                                                  j_lc 3076014 (t := 846) D N rfl (by decide +kernel) (by decide +kernel) (fun q =>
                                                                    fk_jump cut_168_846 rfl rfl) (fun N =>
                                                                    j_lc 3076183 (t := 974) D N rfl (by decide +kernel) (by decide +kernel) (fun q =>
                                                                      fk_jump cut_168_974 rfl rfl) (fun N =>
                                                                      j_lc 3089570 (t := 926) D N rfl (by decide +kernel) (by decide +kernel) (fun q =>
                                                                        fk_jump cut_168_926 rfl rfl) (fun N =>
                                                                        j_lc 3116345 (t := 767) D N rfl (by decide +kernel) (by decide +kernel) (fun q =>
                                                                          fk_jump cut_168_767 rfl rfl) (fun N =>
                                                                          j_lc 3125530 (t := 958) D N rfl (by decide +kernel) (by decide +kernel) (fun q =>
                                                                            fk_jump cut_168_958 rfl rfl) (fun N =>
                                                                            j_lc 3135084 (t := 737) D N rfl (by decide +kernel) (by decide +kernel) (fun q =>
                                                                              fk_jump cut_168_737 rfl rfl) (fun N =>
                                                                              j_lc 3151786 (t := 1070) D N rfl (by decide +kernel) (by decide +kernel) (fun q =>
                                                                                fk_jump cut_168_1070 rfl rfl) (fun N =>
                                                                                j_lc 3314326 (t := 604) D N rfl (by decide +kernel) (by decide +kernel) (fun q =>
                                                                                  fk_jump cut_168_604 rfl rfl) (fun N =>
                                                                                  j_lc 3377192 (t := 942) D N rfl (by decide +kernel) (by decide +kernel) (fun q =>
                                                                                    fk_jump cut_168_942 rfl rfl) (fun N =>
                                                                                    j_lc 3423444 (t := 1262) D N rfl (by decide +kernel) (by decide +kernel) (fun q =>
                                                                                      fk_jump cut_168_1262 rfl rfl) (fun N =>
                                                                                      j_lc 3444122 (t := 548) D N rfl (by decide +kernel) (by decide +kernel) (fun q =>
                                                                                        fk_jump cut_168_548 rfl rfl) (fun N =>
                                                                                        j_lc 3493088 (t := 830) D N rfl (by decide +kernel) (by decide +kernel) (fun q =>
                                                                                          fk_jump cut_168_830 rfl rfl) (fun N =>
                                                                                          j_lc 3496350 (t := 878) D N rfl (by decide +kernel) (by decide +kernel) (fun q =>
                                                                                            fk_jump cut_168_878 rfl rfl) (fun N =>
                                                                                            j_lc 3526476 (t := 1230) D N rfl (by decide +kernel) (by decide +kernel) (fun q =>
                                                                                              fk_jump cut_168_1230 rfl rfl) (fun N =>
                                                                                              j_lc 3536714 (t := 862) D N rfl (by decide +kernel) (by decide +kernel) (fun q =>
                                                                                                fk_jump cut_168_862 rfl rfl) (fun N =>
                                                                                                j_lc 3556460 (t := 752) D N rfl (by decide +kernel) (by decide +kernel) (fun q =>
                                                                                                  fk_jump cut_168_752 rfl rfl) (fun N =>
                                                                                                  j_lc 3569038 (t := 1022) D N rfl (by decide +kernel) (by decide +kernel) (fun q =>
                                                                                                    fk_jump cut_168_1022 rfl rfl) (fun N =>
                                                                                                    j_lc 3625364 (t := 1406) D N rfl (by decide +kernel) (by decide +kernel) (fun q =>
                                                                                                      fk_jump cut_168_1406 rfl rfl) (fun N =>
                                                                                                      j_lc 3648314 (t := 1118) D N rfl (by decide +kernel) (by decide +kernel) (fun q =>
                                                                                                        fk_jump cut_168_1118 rfl rfl) (fun N =>
                                                                                                        j_lc 92929327 (t := 1422) D N rfl (by decide +kernel) (by decide +kernel) (fun q =>
                                                                                                          fk_jump cut_168_1422 rfl rfl) (fun N =>
                                                                                                          j_lc 94851343 (t := 798) D N rfl (by decide +kernel) (by decide +kernel) (fun q =>
                                                                                                            fk_jump cut_168_798 rfl rfl) (fun N =>
                                                                                                            j_lc 97196323 (t := 1038) D N rfl (by decide +kernel) (by decide +kernel) (fun q =>
                                                                                                              fk_jump cut_168_1038 rfl rfl) (fun N =>
                                                                                                              j_lc 97440432 (t := 590) D N rfl (by decide +kernel) (by decide +kernel) (fun q =>
                                                                                                                fk_jump cut_168_590 rfl rfl) (fun N =>
                                                                                                                j_lc 101304457 (t := 1390) D N rfl (by decide +kernel) (by decide +kernel) (fun q =>
                                                                                                                  fk_jump cut_168_1390 rfl rfl) (fun N =>
                                                                                                                  j_lc 102865796 (t := 1486) D N rfl (by decide +kernel) (by decide +kernel) (fun q =>
                                                                                                                    fk_jump cut_168_1486 rfl rfl) (fun N =>
                                                                                                                    j_lc 103901296 (t := 562) D N rfl (by decide +kernel) (by decide +kernel) (fun q =>
                                                                                                                      fk_jump cut_168_562 rfl rfl) (fun N =>
                                                                                                                      j_lc 104079552 (t := 814) D N rfl (by decide +kernel) (by decide +kernel) (fun q =>
                                                                                                                        fk_jump cut_168_814 rfl rfl) (fun N =>
                                                                                                                        j_lc 109757585 (t := 1246) D N rfl (by decide +kernel) (by decide +kernel) (fun q =>
                                                                                                                          fk_jump cut_168_1246 rfl rfl) (fun N =>
                                                                                                                          j_lc 110115790 (t := 1374) D N rfl (by decide +kernel) (by decide +kernel) (fun q =>
                                                                                                                            fk_jump cut_168_1374 rfl rfl) (fun N =>
                                                                                                                            j_lc 110640747 (t := 782) D N rfl (by decide +kernel) (by decide +kernel) (fun q =>
                                                                                                                              fk_jump cut_168_782 rfl rfl) (fun N =>
                                                                                                                              j_lc 111443806 (t := 1566) D N rfl (by decide +kernel) (by decide +kernel) (fun q =>
                                                                                                                                fk_jump cut_168_1566 rfl rfl) (fun N =>
                                                                                                                                j_lc 114851798 (t := 1006) D N rfl (by decide +kernel) (by decide +kernel) (fun q =>
                                                                                                                                  fk_jump cut_168_1006 rfl rfl) (fun N =>
                                                                                                                                  j_lc 201724889 (t := 1342) D N rfl (by decide +kernel) (by decide +kernel) (fun q =>
                                                                                                                                    fk_jump cut_168_1342 rfl rfl) (fun N =>
                                                                                                                                    j_lc 917264036 (t := 1550) D N rfl (by decide +kernel) (by decide +kernel) (fun q =>
                                                                                                                                      fk_jump cut_168_1550 rfl rfl) (fun N =>
                                                                                                                                      j_lc 1393530710 (t := 662) D N rfl (by decide +kernel) (by decide +kernel) (fun q =>
                                                                                                                                        fk_jump cut_168_662 rfl rfl) (fun N =>
                                                                                                                                        j_lc 1572055514 (t := 677) D N rfl (by decide +kernel) (by decide +kernel) (fun q =>
                                                                                                                                          fk_jump cut_168_677 rfl rfl) (fun N =>
                                                                                                                                          j_ldf (t := 1579) D N rfl (by decide +kernel) (by decide +kernel) (by decide +kernel) <|
                                                                                                                                          fk_jump cut_168_1579 rfl rfl))))))))))))))))))))))))))))))))))))))))))))))))))))))))))))))))))) (fun m4 q3 h1 e1 =>
      j_tx (hx_168 _))
/-! 169 java/lang/String.hashCode()I -/
theorem cd_169 : fi_code 169 = prog_86_method_78_code := rfl
theorem hx_169 : ∀ pc, fi_hat 169 pc = none := fun pc => by unfold fi_hat; rw [show fi_hh 169 = [] from rfl]; rfl
theorem rt_169 : fi_ret 169 = some .int := rfl
theorem nl_169 : fi_nl 169 = 2 := rfl
theorem ow_169 : fi_ow 169 = 31 := rfl
theorem cl_169 : fj_cutT.getD 169 [] = [(40, [0])] := rfl
theorem cut_169_40 : fj_cut 169 40 = some [0] := by decide +kernel
noncomputable def c_169_40 (d : Nat) (x0 s0 : Int) (h : fi_H) : fk_R := gG (fj_run d) 169 40 [(0, (4, x0))] [(0, s0)] h
theorem e_169_40 (d : Nat) (x0 s0 : Int) {h : fi_H} (H : Shp h) (hk : h 0 x0.toNat 0 = 131) : c_169_40 d x0 s0 h =
  if s0 = 0 then
    if 302 < x0 then
    lt_ (fi_upd h 320 x0.toNat 0 1) fun h1 =>
    some (.inl (some (0, s0)), h1)
    else none
  else
    if 302 < x0 then
    lt_ (fi_upd h 319 x0.toNat 0 s0) fun h2 =>
    some (.inl (some (0, s0)), h2)
    else none := by
  unfold c_169_40
  exact
    have D : fk_D 169 [(40, some [0], .istore_n 1, 1, 0, 0, 0), (41, none, .iload_n 1, 1, 0, 0, 0), (42, none, .ifCond .ne 11, 3, 53, 0, 0), (45, none, .aload_n 0, 1, 0, 0, 0), (46, none, .iconst 1, 1, 0, 1, 0), (47, none, .putfield 23, 3, 320, 131, 4), (50, none, .goto 8, 3, 58, 0, 0)] := fq_of2 cd_169 ow_169 cl_169 rfl (pc := 40) (by decide +kernel)
    j_istn (pc := 40) (L' := [(1, (0, s0)), (0, (4, x0))]) D rfl nl_169 rfl rfl fun D =>
    j_ildn (pc := 41) D rfl rfl rfl fun D =>
    j_ifne (pc := 42) D rfl (fun q D =>
      j_aldn (pc := 45) D rfl rfl rfl fun D =>
      j_ic (pc := 46) D rfl fun D =>
      j_pf (pc := 47) (a := x0.toNat) D rfl rfl rfl hk rfl rfl gn (gy (by decide)) fun h1 eh1 S D =>
      have T := fj_hs_ok H.1 S
      have hk := cls_st H.1 T.2 hk (by decide)
      have H := shp_st H T
      j_goto (pc := 50) D rfl <|
      have D : fk_D 169 [(58, none, .iload_n 1, 1, 0, 0, 0), (59, none, .ireturn, 1, 0, 0, 0)] := fq_of2 cd_169 ow_169 cl_169 rfl (pc := 58) (by decide +kernel)
      j_ildn (pc := 58) D rfl rfl rfl fun D =>
      j_iret D rt_169) (fun q =>
      have D : fk_D 169 [(53, none, .aload_n 0, 1, 0, 0, 0), (54, none, .iload_n 1, 1, 0, 0, 0), (55, none, .putfield 19, 3, 319, 131, 10), (58, none, .iload_n 1, 1, 0, 0, 0), (59, none, .ireturn, 1, 0, 0, 0)] := fq_of2 cd_169 ow_169 cl_169 rfl (pc := 53) (by decide +kernel)
      j_aldn (pc := 53) D rfl rfl rfl fun D =>
      j_ildn (pc := 54) D rfl rfl rfl fun D =>
      j_pf (pc := 55) (a := x0.toNat) D rfl rfl rfl hk rfl rfl gn (gy rfl) fun h2 eh2 S D =>
      have T := fj_hs_ok H.1 S
      have hk := cls_st H.1 T.2 hk (by decide)
      have H := shp_st H T
      j_ildn (pc := 58) D rfl rfl rfl fun D =>
      j_iret D rt_169)
theorem m_169 (d : Nat) (x0 : Int) {h : fi_H} (H : Shp h) (hk : h 0 x0.toNat 0 = 131) : fj_run (d + 1) 169 h [(4, x0)] =
  if h 319 x0.toNat 0 = 0 then
    if h 320 x0.toNat 0 = 0 then
      ca_ (fj_run d 21 h [(4, x0)]) 0
        (fun v2 h1 =>
        if v2 = 0 then
          ca_ (fj_run d 179 h1 [(4, h1 317 x0.toNat 0)]) 0
            (fun v5 h4 =>
            c_169_40 d x0 v5 h4)
            (fun q6 h4 => tx_ q6 h4)
        else
          ca_ (fj_run d 170 h1 [(4, h1 317 x0.toNat 0)]) 0
            (fun v8 h7 =>
            c_169_40 d x0 v8 h7)
            (fun q9 h7 => tx_ q9 h7))
        (fun q3 h1 => tx_ q3 h1)
    else
      some (.inl (some (0, h 319 x0.toNat 0)), h)
  else
    some (.inl (some (0, h 319 x0.toNat 0)), h) := by
  rw [fj_run_eq d (by decide) h [(4, x0)] (Nat.le_of_ble_eq_true (by rw [nl_169]; rfl))]
  show gG (fj_run d) 169 0 [(0, (4, x0))] [] h = _
  exact
    have D : fk_D 169 [(0, none, .aload_n 0, 1, 0, 0, 0), (1, none, .getfield 19, 3, 319, 131, 10), (4, none, .istore_n 1, 1, 0, 0, 0), (5, none, .iload_n 1, 1, 0, 0, 0), (6, none, .ifCond .ne 52, 3, 58, 0, 0), (9, none, .aload_n 0, 1, 0, 0, 0), (10, none, .getfield 23, 3, 320, 131, 4), (13, none, .ifCond .ne 45, 3, 58, 0, 0), (16, none, .aload_n 0, 1, 0, 0, 0), (17, none, .invokevirtual 492, 3, 0, 206, 1), (20, none, .ifCond .eq 13, 3, 33, 0, 0), (23, none, .aload_n 0, 1, 0, 0, 0), (24, none, .getfield 9, 3, 317, 131, 12), (27, none, .invokestatic 628, 3, 1, 170, 1), (30, none, .goto 10, 3, 40, 0, 0)] := fq_of2 cd_169 ow_169 cl_169 rfl (pc := 0) (by decide +kernel)
    j_aldn (pc := 0) D rfl rfl rfl fun D =>
    j_gf (pc := 1) (a := x0.toNat) D rfl rfl (nz_cls H.2.1 hk (by decide)) rfl hk rfl fun D =>
    j_istn (pc := 4) (L' := [(1, (0, h 319 x0.toNat 0)), (0, (4, x0))]) D rfl nl_169 rfl rfl fun D =>
    j_ildn (pc := 5) D rfl rfl rfl fun D =>
    j_ifne (pc := 6) D rfl (fun q D =>
      j_aldn (pc := 9) D rfl rfl rfl fun D =>
      j_gf (pc := 10) (a := x0.toNat) D rfl rfl (nz_cls H.2.1 hk (by decide)) rfl hk rfl fun D =>
      j_ifne (pc := 13) D rfl (fun q D =>
        j_aldn (pc := 16) D rfl rfl rfl fun D =>
        j_iv (pc := 17) (m := 21) (dd := 206) (a := []) (rest := []) D rfl rfl rfl rfl rfl (nz_cls H.2.1 hk (by decide)) hk (by decide +kernel) (fun v2 h1 e1 D =>
          have T := fj_run_ok _ _ _ _ _ _ H.1 e1
          have hk := cls_st H.1 T.2 hk (by decide)
          have H := shp_st H T
          j_ifeq (pc := 20) D rfl (fun q =>
            have D : fk_D 169 [(33, none, .aload_n 0, 1, 0, 0, 0), (34, none, .getfield 9, 3, 317, 131, 12), (37, none, .invokestatic 632, 3, 1, 179, 1)] := fq_of2 cd_169 ow_169 cl_169 rfl (pc := 33) (by decide +kernel)
            j_aldn (pc := 33) D rfl rfl rfl fun D =>
            j_gf (pc := 34) (a := x0.toNat) D rfl rfl (nz_cls H.2.1 hk (by decide)) rfl hk rfl fun D =>
            j_is (pc := 37) (m := 179) (a := [(4, h1 317 x0.toNat 0)]) (rest := []) D rfl rfl rfl rfl (fun v5 h4 e1 D =>
              have T := fj_run_ok _ _ _ _ _ _ H.1 e1
              have hk := cls_st H.1 T.2 hk (by decide)
              have H := shp_st H T
              fk_jump cut_169_40 rfl rfl) (fun q6 h4 e1 =>
              j_tx (hx_169 _))) (fun q D =>
            j_aldn (pc := 23) D rfl rfl rfl fun D =>
            j_gf (pc := 24) (a := x0.toNat) D rfl rfl (nz_cls H.2.1 hk (by decide)) rfl hk rfl fun D =>
            j_is (pc := 27) (m := 170) (a := [(4, h1 317 x0.toNat 0)]) (rest := []) D rfl rfl rfl rfl (fun v8 h7 e1 D =>
              have T := fj_run_ok _ _ _ _ _ _ H.1 e1
              have hk := cls_st H.1 T.2 hk (by decide)
              have H := shp_st H T
              j_goto (pc := 30) D rfl <|
              fk_jump cut_169_40 rfl rfl) (fun q9 h7 e1 =>
              j_tx (hx_169 _)))) (fun q3 h1 e1 =>
          j_tx (hx_169 _))) (fun q =>
        have D : fk_D 169 [(58, none, .iload_n 1, 1, 0, 0, 0), (59, none, .ireturn, 1, 0, 0, 0)] := fq_of2 cd_169 ow_169 cl_169 rfl (pc := 58) (by decide +kernel)
        j_ildn (pc := 58) D rfl rfl rfl fun D =>
        j_iret D rt_169)) (fun q =>
      have D : fk_D 169 [(58, none, .iload_n 1, 1, 0, 0, 0), (59, none, .ireturn, 1, 0, 0, 0)] := fq_of2 cd_169 ow_169 cl_169 rfl (pc := 58) (by decide +kernel)
      j_ildn (pc := 58) D rfl rfl rfl fun D =>
      j_iret D rt_169)
/-! 170 java/lang/StringLatin1.hashCode([B)I -/
theorem cd_170 : fi_code 170 = prog_88_method_21_code := rfl
theorem hx_170 : ∀ pc, fi_hat 170 pc = none := fun pc => by unfold fi_hat; rw [show fi_hh 170 = [] from rfl]; rfl
theorem rt_170 : fi_ret 170 = some .int := rfl
theorem nl_170 : fi_nl 170 = 1 := rfl
theorem ow_170 : fi_ow 170 = 79 := rfl
theorem cl_170 : fj_cutT.getD 170 [] = [] := rfl
theorem m_170 (d : Nat) (x0 : Int) {h : fi_H} (H : Shp h) : fj_run (d + 1) 170 h [(4, x0)] =
  if fk_isA (h 0 x0.toNat 0) = true then
  if h 1 x0.toNat 0 = 0 then
    some (.inl (some (0, 0)), h)
  else if h 1 x0.toNat 0 = 1 then
    if fi_et 1 (h 0 x0.toNat 0) ≠ 0 ∧ 0 ≤ (0 : Int) ∧ 0 < h 1 x0.toNat 0 then
    some (.inl (some (0, ia_ (h (fi_et 1 (h 0 x0.toNat 0)) x0.toNat 0) 255)), h)
    else none
  else 
    if fk_isA (h 0 x0.toNat 0) = true then
    ca_ (fj_run d 171 h [(4, x0), (0, 0), (0, h 1 x0.toNat 0), (0, 0), (0, 4)]) 0
      (fun v2 h1 =>
      some (.inl (some (0, v2)), h1))
      (fun q3 h1 => tx_ q3 h1)
    else none
  else none := by
  rw [fj_run_eq d (by decide) h [(4, x0)] (Nat.le_of_ble_eq_true (by rw [nl_170]; rfl))]
  show gG (fj_run d) 170 0 [(0, (4, x0))] [] h = _
  exact
    have D : fk_D 170 [(0, none, .aload_n 0, 1, 0, 0, 0), (1, none, .arraylength, 1, 0, 0, 0), (2, none, .lookupswitch 40 #[(0, 26), (1, 30)], 26, 0, 0, 0)] := fq_of3 cd_170 ow_170 cl_170 rfl (pc := 0) (by decide +kernel)
    j_aldn (pc := 0) D rfl rfl rfl fun D =>
    j_lenu (pc := 1) H.2.1 D rfl fun q D =>
    have N : fk_ni (h 1 x0.toNat 0) [] := trivial
    j_lc (pc := 2) 0 (t := 28) D N rfl (by decide +kernel) (by decide +kernel) (fun q =>
      have D : fk_D 170 [(28, none, .iconst 0, 1, 0, 0, 0), (29, none, .goto 22, 3, 51, 0, 0)] := fq_of2 cd_170 ow_170 cl_170 rfl (pc := 28) (by decide +kernel)
      j_ic (pc := 28) D rfl fun D =>
      j_goto (pc := 29) D rfl <|
      have D : fk_D 170 [(51, none, .ireturn, 1, 0, 0, 0)] := fq_of2 cd_170 ow_170 cl_170 rfl (pc := 51) (by decide +kernel)
      j_iret D rt_170) (fun N =>
      j_lc 1 (t := 32) D N rfl (by decide +kernel) (by decide +kernel) (fun q =>
        have D : fk_D 170 [(32, none, .aload_n 0, 1, 0, 0, 0), (33, none, .iconst 0, 1, 0, 0, 0), (34, none, .baload, 1, 0, 0, 0), (35, none, .sipush 255, 3, 0, 255, 0), (38, none, .iand, 1, 0, 0, 0), (39, none, .goto 12, 3, 51, 0, 0)] := fq_of2 cd_170 ow_170 cl_170 rfl (pc := 32) (by decide +kernel)
        j_aldn (pc := 32) D rfl rfl rfl fun D =>
        j_ic (pc := 33) D rfl fun D =>
        j_alb (pc := 34) H.2.1 D rfl rfl fun q q2 D =>
        j_sp (pc := 35) D rfl fun D =>
        j_iand (pc := 38) D rfl fun D =>
        j_goto (pc := 39) D rfl <|
        have D : fk_D 170 [(51, none, .ireturn, 1, 0, 0, 0)] := fq_of2 cd_170 ow_170 cl_170 rfl (pc := 51) (by decide +kernel)
        j_iret D rt_170) (fun N =>
        j_ldf (t := 42) D N rfl (by decide +kernel) (by decide +kernel) (by decide +kernel) <|
        have D : fk_D 170 [(42, none, .aload_n 0, 1, 0, 0, 0), (43, none, .iconst 0, 1, 0, 0, 0), (44, none, .aload_n 0, 1, 0, 0, 0), (45, none, .arraylength, 1, 0, 0, 0), (46, none, .iconst 0, 1, 0, 0, 0), (47, none, .iconst 4, 1, 0, 4, 0), (48, none, .invokestatic 84, 3, 5, 171, 1), (51, none, .ireturn, 1, 0, 0, 0)] := fq_of2 cd_170 ow_170 cl_170 rfl (pc := 42) (by decide +kernel)
        j_aldn (pc := 42) D rfl rfl rfl fun D =>
        j_ic (pc := 43) D rfl fun D =>
        j_aldn (pc := 44) D rfl rfl rfl fun D =>
        j_lenu (pc := 45) H.2.1 D rfl fun q D =>
        j_ic (pc := 46) D rfl fun D =>
        j_ic (pc := 47) D rfl fun D =>
        j_is (pc := 48) (m := 171) (a := [(4, x0), (0, 0), (0, h 1 x0.toNat 0), (0, 0), (0, 4)]) (rest := []) D rfl rfl rfl rfl (fun v2 h1 e1 D =>
          have T := fj_run_ok _ _ _ _ _ _ H.1 e1
          have H := shp_st H T
          j_iret D rt_170) (fun q3 h1 e1 =>
          j_tx (hx_170 _))))
/-! 171 jdk/internal/util/ArraysSupport.vectorizedHashCode(Ljava/lang/Object;IIII)I -/
theorem cd_171 : fi_code 171 = prog_103_method_4_code := rfl
theorem hx_171 : ∀ pc, fi_hat 171 pc = none := fun pc => by unfold fi_hat; rw [show fi_hh 171 = [] from rfl]; rfl
theorem rt_171 : fi_ret 171 = some .int := rfl
theorem nl_171 : fi_nl 171 = 5 := rfl
theorem ow_171 : fi_ow 171 = 83 := rfl
theorem cl_171 : fj_cutT.getD 171 [] = [] := rfl
theorem m_171 (d : Nat) (x0 x1 x2 x3 x4 : Int) {h : fi_H} (H : Shp h) : fj_run (d + 1) 171 h [(4, x0), (0, x1), (0, x2), (0, x3), (0, x4)] =
  if x4 = 4 then
    if x0 = 0 ∨ (fi_sup (h 0 x0.toNat 0)).contains 8 = true then
    ca_ (fj_run d 172 h [(0, x3), (4, x0), (0, x1), (0, x2)]) 0
      (fun v2 h1 =>
      some (.inl (some (0, v2)), h1))
      (fun q3 h1 => tx_ q3 h1)
    else none
  else if x4 = 5 then
    ii_ x0 (h 0 x0.toNat 0) 8 fun v4 =>
    if v4 = 0 then
      if x0 = 0 ∨ (fi_sup (h 0 x0.toNat 0)).contains 5 = true then
      ca_ (fj_run d 175 h [(0, x3), (4, x0), (0, x1), (0, x2)]) 0
        (fun v6 h5 =>
        some (.inl (some (0, v6)), h5))
        (fun q7 h5 => tx_ q7 h5)
      else none
    else
      if x0 = 0 ∨ (fi_sup (h 0 x0.toNat 0)).contains 8 = true then
      ca_ (fj_run d 173 h [(0, x3), (4, x0), (0, x1), (0, x2)]) 0
        (fun v9 h8 =>
        some (.inl (some (0, v9)), h8))
        (fun q10 h8 => tx_ q10 h8)
      else none
  else if x4 = 8 then
    if x0 = 0 ∨ (fi_sup (h 0 x0.toNat 0)).contains 8 = true then
    ca_ (fj_run d 176 h [(0, x3), (4, x0), (0, x1), (0, x2)]) 0
      (fun v12 h11 =>
      some (.inl (some (0, v12)), h11))
      (fun q13 h11 => tx_ q13 h11)
    else none
  else if x4 = 9 then
    if x0 = 0 ∨ (fi_sup (h 0 x0.toNat 0)).contains 9 = true then
    ca_ (fj_run d 177 h [(0, x3), (4, x0), (0, x1), (0, x2)]) 0
      (fun v15 h14 =>
      some (.inl (some (0, v15)), h14))
      (fun q16 h14 => tx_ q16 h14)
    else none
  else if x4 = 10 then
    if x0 = 0 ∨ (fi_sup (h 0 x0.toNat 0)).contains 10 = true then
    ca_ (fj_run d 178 h [(0, x3), (4, x0), (0, x1), (0, x2)]) 0
      (fun v18 h17 =>
      some (.inl (some (0, v18)), h17))
      (fun q19 h17 => tx_ q19 h17)
    else none
  else 
    none := by
  rw [fj_run_eq d (by decide) h [(4, x0), (0, x1), (0, x2), (0, x3), (0, x4)] (Nat.le_of_ble_eq_true (by rw [nl_171]; rfl))]
  show gG (fj_run d) 171 0 [(0, (4, x0)), (1, (0, x1)), (2, (0, x2)), (3, (0, x3)), (4, (0, x4))] [] h = _
  exact
    have D : fk_D 171 [(0, none, .iload 4, 2, 0, 0, 0), (2, none, .tableswitch 127 4 10 #[42, 55, 127, 127, 88, 101, 114], 42, 0, 0, 0)] := fq_of3 cd_171 ow_171 cl_171 rfl (pc := 0) (by decide +kernel)
    j_ild (pc := 0) D rfl rfl rfl fun D =>
    have N : fk_ni (x4) [] := trivial
    j_tc (pc := 2) 4 (t := 44) D N rfl (by decide +kernel) (fun q =>
      have D : fk_D 171 [(44, none, .iload_n 3, 1, 0, 0, 0), (45, none, .aload_n 0, 1, 0, 0, 0), (46, none, .checkcast 60, 3, 8, 0, 0), (49, none, .iload_n 1, 1, 0, 0, 0), (50, none, .iload_n 2, 1, 0, 0, 0), (51, none, .invokestatic 62, 3, 4, 172, 1), (54, none, .goto 103, 3, 157, 0, 0)] := fq_of2 cd_171 ow_171 cl_171 rfl (pc := 44) (by decide +kernel)
      j_ildn (pc := 44) D rfl rfl rfl fun D =>
      j_aldn (pc := 45) D rfl rfl rfl fun D =>
      j_cast (pc := 46) D rfl gn fun D =>
      j_ildn (pc := 49) D rfl rfl rfl fun D =>
      j_ildn (pc := 50) D rfl rfl rfl fun D =>
      j_is (pc := 51) (m := 172) (a := [(0, x3), (4, x0), (0, x1), (0, x2)]) (rest := []) D rfl rfl rfl rfl (fun v2 h1 e1 D =>
        have T := fj_run_ok _ _ _ _ _ _ H.1 e1
        have H := shp_st H T
        j_goto (pc := 54) D rfl <|
        have D : fk_D 171 [(157, none, .ireturn, 1, 0, 0, 0)] := fq_of2 cd_171 ow_171 cl_171 rfl (pc := 157) (by decide +kernel)
        j_iret D rt_171) (fun q3 h1 e1 =>
        j_tx (hx_171 _))) (fun N =>
      j_tc 5 (t := 57) D N rfl (by decide +kernel) (fun q =>
        have D : fk_D 171 [(57, none, .aload_n 0, 1, 0, 0, 0), (58, none, .instanceof 60, 3, 8, 0, 0), (61, none, .ifCond .eq 16, 3, 77, 0, 0), (64, none, .iload_n 3, 1, 0, 0, 0), (65, none, .aload_n 0, 1, 0, 0, 0), (66, none, .checkcast 60, 3, 8, 0, 0), (69, none, .iload_n 1, 1, 0, 0, 0), (70, none, .iload_n 2, 1, 0, 0, 0), (71, none, .invokestatic 66, 3, 4, 173, 1), (74, none, .goto 83, 3, 157, 0, 0)] := fq_of2 cd_171 ow_171 cl_171 rfl (pc := 57) (by decide +kernel)
        j_aldn (pc := 57) D rfl rfl rfl fun D =>
        j_inst (pc := 58) D rfl fun v4 D =>
        j_ifeq (pc := 61) D rfl (fun q =>
          have D : fk_D 171 [(77, none, .iload_n 3, 1, 0, 0, 0), (78, none, .aload_n 0, 1, 0, 0, 0), (79, none, .checkcast 69, 3, 5, 0, 0), (82, none, .iload_n 1, 1, 0, 0, 0), (83, none, .iload_n 2, 1, 0, 0, 0), (84, none, .invokestatic 71, 3, 4, 175, 1), (87, none, .goto 70, 3, 157, 0, 0)] := fq_of2 cd_171 ow_171 cl_171 rfl (pc := 77) (by decide +kernel)
          j_ildn (pc := 77) D rfl rfl rfl fun D =>
          j_aldn (pc := 78) D rfl rfl rfl fun D =>
          j_cast (pc := 79) D rfl gn fun D =>
          j_ildn (pc := 82) D rfl rfl rfl fun D =>
          j_ildn (pc := 83) D rfl rfl rfl fun D =>
          j_is (pc := 84) (m := 175) (a := [(0, x3), (4, x0), (0, x1), (0, x2)]) (rest := []) D rfl rfl rfl rfl (fun v6 h5 e1 D =>
            have T := fj_run_ok _ _ _ _ _ _ H.1 e1
            have H := shp_st H T
            j_goto (pc := 87) D rfl <|
            have D : fk_D 171 [(157, none, .ireturn, 1, 0, 0, 0)] := fq_of2 cd_171 ow_171 cl_171 rfl (pc := 157) (by decide +kernel)
            j_iret D rt_171) (fun q7 h5 e1 =>
            j_tx (hx_171 _))) (fun q D =>
          j_ildn (pc := 64) D rfl rfl rfl fun D =>
          j_aldn (pc := 65) D rfl rfl rfl fun D =>
          j_cast (pc := 66) D rfl gn fun D =>
          j_ildn (pc := 69) D rfl rfl rfl fun D =>
          j_ildn (pc := 70) D rfl rfl rfl fun D =>
          j_is (pc := 71) (m := 173) (a := [(0, x3), (4, x0), (0, x1), (0, x2)]) (rest := []) D rfl rfl rfl rfl (fun v9 h8 e1 D =>
            have T := fj_run_ok _ _ _ _ _ _ H.1 e1
            have H := shp_st H T
            j_goto (pc := 74) D rfl <|
            have D : fk_D 171 [(157, none, .ireturn, 1, 0, 0, 0)] := fq_of2 cd_171 ow_171 cl_171 rfl (pc := 157) (by decide +kernel)
            j_iret D rt_171) (fun q10 h8 e1 =>
            j_tx (hx_171 _)))) (fun N =>
        j_tc 8 (t := 90) D N rfl (by decide +kernel) (fun q =>
          have D : fk_D 171 [(90, none, .iload_n 3, 1, 0, 0, 0), (91, none, .aload_n 0, 1, 0, 0, 0), (92, none, .checkcast 60, 3, 8, 0, 0), (95, none, .iload_n 1, 1, 0, 0, 0), (96, none, .iload_n 2, 1, 0, 0, 0), (97, none, .invokestatic 75, 3, 4, 176, 1), (100, none, .goto 57, 3, 157, 0, 0)] := fq_of2 cd_171 ow_171 cl_171 rfl (pc := 90) (by decide +kernel)
          j_ildn (pc := 90) D rfl rfl rfl fun D =>
          j_aldn (pc := 91) D rfl rfl rfl fun D =>
          j_cast (pc := 92) D rfl gn fun D =>
          j_ildn (pc := 95) D rfl rfl rfl fun D =>
          j_ildn (pc := 96) D rfl rfl rfl fun D =>
          j_is (pc := 97) (m := 176) (a := [(0, x3), (4, x0), (0, x1), (0, x2)]) (rest := []) D rfl rfl rfl rfl (fun v12 h11 e1 D =>
            have T := fj_run_ok _ _ _ _ _ _ H.1 e1
            have H := shp_st H T
            j_goto (pc := 100) D rfl <|
            have D : fk_D 171 [(157, none, .ireturn, 1, 0, 0, 0)] := fq_of2 cd_171 ow_171 cl_171 rfl (pc := 157) (by decide +kernel)
            j_iret D rt_171) (fun q13 h11 e1 =>
            j_tx (hx_171 _))) (fun N =>
          j_tc 9 (t := 103) D N rfl (by decide +kernel) (fun q =>
            have D : fk_D 171 [(103, none, .iload_n 3, 1, 0, 0, 0), (104, none, .aload_n 0, 1, 0, 0, 0), (105, none, .checkcast 77, 3, 9, 0, 0), (108, none, .iload_n 1, 1, 0, 0, 0), (109, none, .iload_n 2, 1, 0, 0, 0), (110, none, .invokestatic 79, 3, 4, 177, 1), (113, none, .goto 44, 3, 157, 0, 0)] := fq_of2 cd_171 ow_171 cl_171 rfl (pc := 103) (by decide +kernel)
            j_ildn (pc := 103) D rfl rfl rfl fun D =>
            j_aldn (pc := 104) D rfl rfl rfl fun D =>
            j_cast (pc := 105) D rfl gn fun D =>
            j_ildn (pc := 108) D rfl rfl rfl fun D =>
            j_ildn (pc := 109) D rfl rfl rfl fun D =>
            j_is (pc := 110) (m := 177) (a := [(0, x3), (4, x0), (0, x1), (0, x2)]) (rest := []) D rfl rfl rfl rfl (fun v15 h14 e1 D =>
              have T := fj_run_ok _ _ _ _ _ _ H.1 e1
              have H := shp_st H T
              j_goto (pc := 113) D rfl <|
              have D : fk_D 171 [(157, none, .ireturn, 1, 0, 0, 0)] := fq_of2 cd_171 ow_171 cl_171 rfl (pc := 157) (by decide +kernel)
              j_iret D rt_171) (fun q16 h14 e1 =>
              j_tx (hx_171 _))) (fun N =>
            j_tc 10 (t := 116) D N rfl (by decide +kernel) (fun q =>
              have D : fk_D 171 [(116, none, .iload_n 3, 1, 0, 0, 0), (117, none, .aload_n 0, 1, 0, 0, 0), (118, none, .checkcast 82, 3, 10, 0, 0), (121, none, .iload_n 1, 1, 0, 0, 0), (122, none, .iload_n 2, 1, 0, 0, 0), (123, none, .invokestatic 84, 3, 4, 178, 1), (126, none, .goto 31, 3, 157, 0, 0)] := fq_of2 cd_171 ow_171 cl_171 rfl (pc := 116) (by decide +kernel)
              j_ildn (pc := 116) D rfl rfl rfl fun D =>
              j_aldn (pc := 117) D rfl rfl rfl fun D =>
              j_cast (pc := 118) D rfl gn fun D =>
              j_ildn (pc := 121) D rfl rfl rfl fun D =>
              j_ildn (pc := 122) D rfl rfl rfl fun D =>
              j_is (pc := 123) (m := 178) (a := [(0, x3), (4, x0), (0, x1), (0, x2)]) (rest := []) D rfl rfl rfl rfl (fun v18 h17 e1 D =>
                have T := fj_run_ok _ _ _ _ _ _ H.1 e1
                have H := shp_st H T
                j_goto (pc := 126) D rfl <|
                have D : fk_D 171 [(157, none, .ireturn, 1, 0, 0, 0)] := fq_of2 cd_171 ow_171 cl_171 rfl (pc := 157) (by decide +kernel)
                j_iret D rt_171) (fun q19 h17 e1 =>
                j_tx (hx_171 _))) (fun N =>
              j_td (t := 129) D N rfl (by decide +kernel) (by decide +kernel) <|
              j_dead (ins := .new 87) (len := 3) (by decide +kernel : fk_dec prog_103_method_4_code 129 (.new 87) 3 = true) cd_171 rfl rfl (fun L => ⟨fk_dN (by decide +kernel) L, fun q => by cases q⟩))))))
/-! 172 jdk/internal/util/ArraysSupport.signedHashCode(I[BII)I -/
theorem cd_172 : fi_code 172 = prog_103_method_5_code := rfl
theorem hx_172 : ∀ pc, fi_hat 172 pc = none := fun pc => by unfold fi_hat; rw [show fi_hh 172 = [] from rfl]; rfl
theorem rt_172 : fi_ret 172 = some .int := rfl
theorem nl_172 : fi_nl 172 = 6 := rfl
theorem ow_172 : fi_ow 172 = 83 := rfl
theorem cl_172 : fj_cutT.getD 172 [] = [(8, [0, 1, 4, 5])] := rfl
theorem cut_172_8 : fj_cut 172 8 = some [0, 1, 4, 5] := by decide +kernel
noncomputable def c_172_8 (d : Nat) (x0 x1 x4 x5 : Int) (h : fi_H) : fk_R := gG (fj_run d) 172 8 [(0, (0, x0)), (1, (4, x1)), (4, (0, x4)), (5, (0, x5))] [] h
theorem e_172_8 (d : Nat) (x0 x1 x4 x5 : Int) {h : fi_H} (H : Shp h) : c_172_8 d x0 x1 x4 x5 h =
  if x5 < x4 then
    if fi_et 1 (h 0 x1.toNat 0) ≠ 0 ∧ 0 ≤ x5 ∧ x5 < h 1 x1.toNat 0 then
    lt_ (wI ((wI (31 * x0)) + (ia_ (h (fi_et 1 (h 0 x1.toNat 0)) x1.toNat x5.toNat) 255))) fun y1 =>
    c_172_8 d y1 x1 x4 (wI (x5 + 1)) h
    else none
  else
    some (.inl (some (0, x0)), h) := by
  unfold c_172_8
  exact
    have D : fk_D 172 [(8, some [0, 1, 4, 5], .iload 5, 2, 0, 0, 0), (10, none, .iload 4, 2, 0, 0, 0), (12, none, .if_icmp .ge 23, 3, 35, 0, 0), (15, none, .bipush 31, 2, 0, 31, 0), (17, none, .iload_n 0, 1, 0, 0, 0), (18, none, .imul, 1, 0, 0, 0), (19, none, .aload_n 1, 1, 0, 0, 0), (20, none, .iload 5, 2, 0, 0, 0), (22, none, .baload, 1, 0, 0, 0), (23, none, .sipush 255, 3, 0, 255, 0), (26, none, .iand, 1, 0, 0, 0), (27, none, .iadd, 1, 0, 0, 0), (28, none, .istore_n 0, 1, 0, 0, 0), (29, none, .iinc 5 1, 3, 0, 1, 0), (32, none, .goto (-24), 3, 8, 0, 0)] := fq_of2 cd_172 ow_172 cl_172 rfl (pc := 8) (by decide +kernel)
    j_ild (pc := 8) D rfl rfl rfl fun D =>
    j_ild (pc := 10) D rfl rfl rfl fun D =>
    j_ige (pc := 12) D rfl (fun q D =>
      j_bp (pc := 15) D rfl fun D =>
      j_ildn (pc := 17) D rfl rfl rfl fun D =>
      j_imul (pc := 18) D rfl fun D =>
      j_aldn (pc := 19) D rfl rfl rfl fun D =>
      j_ild (pc := 20) D rfl rfl rfl fun D =>
      j_alb (pc := 22) H.2.1 D rfl rfl fun q q2 D =>
      j_sp (pc := 23) D rfl fun D =>
      j_iand (pc := 26) D rfl fun D =>
      j_iadd (pc := 27) D rfl fun D =>
      j_stl (pc := 28) (L' := fun y1 => [(0, (0, y1)), (1, (4, x1)), (4, (0, x4)), (5, (0, x5))]) D rfl ⟨rfl, rfl, rfl, rfl⟩ nl_172 rfl (fun _ => rfl) fun y1 ey1 D =>
      j_inc (pc := 29) (L' := [(5, (0, wI (x5 + 1))), (0, (0, y1)), (1, (4, x1)), (4, (0, x4))]) D rfl rfl rfl (by decide +kernel) rfl fun D =>
      j_goto (pc := 32) D rfl <|
      fk_jump cut_172_8 rfl rfl) (fun q =>
      have D : fk_D 172 [(35, none, .iload_n 0, 1, 0, 0, 0), (36, none, .ireturn, 1, 0, 0, 0)] := fq_of2 cd_172 ow_172 cl_172 rfl (pc := 35) (by decide +kernel)
      j_ildn (pc := 35) D rfl rfl rfl fun D =>
      j_iret D rt_172)
theorem m_172 (d : Nat) (x0 x1 x2 x3 : Int) {h : fi_H} (H : Shp h) : fj_run (d + 1) 172 h [(0, x0), (4, x1), (0, x2), (0, x3)] =
  c_172_8 d x0 x1 (wI (x2 + x3)) x2 h := by
  rw [fj_run_eq d (by decide) h [(0, x0), (4, x1), (0, x2), (0, x3)] (Nat.le_of_ble_eq_true (by rw [nl_172]; rfl))]
  show gG (fj_run d) 172 0 [(0, (0, x0)), (1, (4, x1)), (2, (0, x2)), (3, (0, x3))] [] h = _
  exact
    have D : fk_D 172 [(0, none, .iload_n 2, 1, 0, 0, 0), (1, none, .iload_n 3, 1, 0, 0, 0), (2, none, .iadd, 1, 0, 0, 0), (3, none, .istore 4, 2, 0, 0, 0), (5, none, .iload_n 2, 1, 0, 0, 0), (6, none, .istore 5, 2, 0, 0, 0)] := fq_of2 cd_172 ow_172 cl_172 rfl (pc := 0) (by decide +kernel)
    j_ildn (pc := 0) D rfl rfl rfl fun D =>
    j_ildn (pc := 1) D rfl rfl rfl fun D =>
    j_iadd (pc := 2) D rfl fun D =>
    j_ist (pc := 3) (L' := [(4, (0, wI (x2 + x3))), (0, (0, x0)), (1, (4, x1)), (2, (0, x2)), (3, (0, x3))]) D rfl nl_172 rfl rfl fun D =>
    j_ildn (pc := 5) D rfl rfl rfl fun D =>
    j_ist (pc := 6) (L' := [(5, (0, x2)), (4, (0, wI (x2 + x3))), (0, (0, x0)), (1, (4, x1)), (2, (0, x2)), (3, (0, x3))]) D rfl nl_172 rfl rfl fun D =>
    fk_jump cut_172_8 rfl rfl
/-! 173 jdk/internal/util/ArraysSupport.utf16hashCode(I[BII)I -/
theorem cd_173 : fi_code 173 = prog_103_method_10_code := rfl
theorem hx_173 : ∀ pc, fi_hat 173 pc = none := fun pc => by unfold fi_hat; rw [show fi_hh 173 = [] from rfl]; rfl
theorem rt_173 : fi_ret 173 = some .int := rfl
theorem nl_173 : fi_nl 173 = 6 := rfl
theorem ow_173 : fi_ow 173 = 83 := rfl
theorem cl_173 : fj_cutT.getD 173 [] = [] := rfl
theorem m_173 (d : Nat) (x0 x1 x2 x3 : Int) {h : fi_H} (H : Shp h) : fj_run (d + 1) 173 h [(0, x0), (4, x1), (0, x2), (0, x3)] =
  if x2 < wI (x2 + x3) then
    none
  else
    some (.inl (some (0, x0)), h) := by
  rw [fj_run_eq d (by decide) h [(0, x0), (4, x1), (0, x2), (0, x3)] (Nat.le_of_ble_eq_true (by rw [nl_173]; rfl))]
  show gG (fj_run d) 173 0 [(0, (0, x0)), (1, (4, x1)), (2, (0, x2)), (3, (0, x3))] [] h = _
  exact
    have D : fk_D 173 [(0, none, .iload_n 2, 1, 0, 0, 0), (1, none, .iload_n 3, 1, 0, 0, 0), (2, none, .iadd, 1, 0, 0, 0), (3, none, .istore 4, 2, 0, 0, 0), (5, none, .iload_n 2, 1, 0, 0, 0), (6, none, .istore 5, 2, 0, 0, 0), (8, none, .iload 5, 2, 0, 0, 0), (10, none, .iload 4, 2, 0, 0, 0), (12, none, .if_icmp .ge 26, 3, 38, 0, 0), (15, none, .bipush 31, 2, 0, 31, 0), (17, none, .iload_n 0, 1, 0, 0, 0), (18, none, .imul, 1, 0, 0, 0)] := fq_of2 cd_173 ow_173 cl_173 rfl (pc := 0) (by decide +kernel)
    j_ildn (pc := 0) D rfl rfl rfl fun D =>
    j_ildn (pc := 1) D rfl rfl rfl fun D =>
    j_iadd (pc := 2) D rfl fun D =>
    j_ist (pc := 3) (L' := [(4, (0, wI (x2 + x3))), (0, (0, x0)), (1, (4, x1)), (2, (0, x2)), (3, (0, x3))]) D rfl nl_173 rfl rfl fun D =>
    j_ildn (pc := 5) D rfl rfl rfl fun D =>
    j_ist (pc := 6) (L' := [(5, (0, x2)), (4, (0, wI (x2 + x3))), (0, (0, x0)), (1, (4, x1)), (2, (0, x2)), (3, (0, x3))]) D rfl nl_173 rfl rfl fun D =>
    j_ild (pc := 8) D rfl rfl rfl fun D =>
    j_ild (pc := 10) D rfl rfl rfl fun D =>
    j_ige (pc := 12) D rfl (fun q D =>
      j_bp (pc := 15) D rfl fun D =>
      j_ildn (pc := 17) D rfl rfl rfl fun D =>
      j_imul (pc := 18) D rfl fun D =>
      j_dead (ins := .getstatic 106) (len := 3) (by decide +kernel : fk_dec prog_103_method_10_code 19 (.getstatic 106) 3 = true) cd_173 rfl rfl (fun L => ⟨fk_dG (by decide +kernel) L, fun q => by cases q⟩)) (fun q =>
      have D : fk_D 173 [(38, none, .iload_n 0, 1, 0, 0, 0), (39, none, .ireturn, 1, 0, 0, 0)] := fq_of2 cd_173 ow_173 cl_173 rfl (pc := 38) (by decide +kernel)
      j_ildn (pc := 38) D rfl rfl rfl fun D =>
      j_iret D rt_173)
/-! 174 java/lang/System$2.getUTF16Char([BI)C -/
theorem cd_174 : fi_code 174 = prog_91_method_45_code := rfl
theorem hx_174 : ∀ pc, fi_hat 174 pc = none := fun pc => by unfold fi_hat; rw [show fi_hh 174 = [] from rfl]; rfl
theorem rt_174 : fi_ret 174 = some .char := rfl
theorem nl_174 : fi_nl 174 = 3 := rfl
theorem ow_174 : fi_ow 174 = 81 := rfl
theorem cl_174 : fj_cutT.getD 174 [] = [] := rfl
theorem m_174 (d : Nat) (x0 x1 x2 : Int) {h : fi_H} {k0 : Int} (H : Shp h) (hk : h 0 x0.toNat 0 = k0) (hk0 : k0 ≠ 0) : fj_run (d + 1) 174 h [(4, x0), (4, x1), (0, x2)] =
  ca_ (fj_run d 28 h [(4, x1), (0, x2)]) 0
    (fun v2 h1 =>
    if 0 ≤ v2 ∧ v2 < 65536 then some (.inl (some (0, v2)), h1) else none)
    (fun q3 h1 => tx_ q3 h1) := by
  rw [fj_run_eq d (by decide) h [(4, x0), (4, x1), (0, x2)] (Nat.le_of_ble_eq_true (by rw [nl_174]; rfl))]
  show gG (fj_run d) 174 0 [(0, (4, x0)), (1, (4, x1)), (2, (0, x2))] [] h = _
  exact
    have D : fk_D 174 [(0, none, .aload_n 1, 1, 0, 0, 0), (1, none, .iload_n 2, 1, 0, 0, 0), (2, none, .invokestatic 185, 3, 2, 28, 1), (5, none, .ireturn, 1, 0, 0, 0)] := fq_of2 cd_174 ow_174 cl_174 rfl (pc := 0) (by decide +kernel)
    j_aldn (pc := 0) D rfl rfl rfl fun D =>
    j_ildn (pc := 1) D rfl rfl rfl fun D =>
    j_is (pc := 2) (m := 28) (a := [(4, x1), (0, x2)]) (rest := []) D rfl rfl rfl rfl (fun v2 h1 e1 D =>
      have T := fj_run_ok _ _ _ _ _ _ H.1 e1
      have hk := cls_st H.1 T.2 hk hk0
      have H := shp_st H T
      j_cret D rt_174 gn) (fun q3 h1 e1 =>
      j_tx (hx_174 _))
/-! 175 jdk/internal/util/ArraysSupport.hashCode(I[CII)I -/
theorem cd_175 : fi_code 175 = prog_103_method_7_code := rfl
theorem hx_175 : ∀ pc, fi_hat 175 pc = none := fun pc => by unfold fi_hat; rw [show fi_hh 175 = [] from rfl]; rfl
theorem rt_175 : fi_ret 175 = some .int := rfl
theorem nl_175 : fi_nl 175 = 6 := rfl
theorem ow_175 : fi_ow 175 = 83 := rfl
theorem cl_175 : fj_cutT.getD 175 [] = [(8, [0, 1, 4, 5])] := rfl
theorem cut_175_8 : fj_cut 175 8 = some [0, 1, 4, 5] := by decide +kernel
noncomputable def c_175_8 (d : Nat) (x0 x1 x4 x5 : Int) (h : fi_H) : fk_R := gG (fj_run d) 175 8 [(0, (0, x0)), (1, (4, x1)), (4, (0, x4)), (5, (0, x5))] [] h
theorem e_175_8 (d : Nat) (x0 x1 x4 x5 : Int) {h : fi_H} (H : Shp h) : c_175_8 d x0 x1 x4 x5 h =
  if x5 < x4 then
    if h 0 x1.toNat 0 = 5 ∧ 0 ≤ x5 ∧ x5 < h 1 x1.toNat 0 then
    lt_ (wI ((wI (31 * x0)) + (h 5 x1.toNat x5.toNat))) fun y1 =>
    c_175_8 d y1 x1 x4 (wI (x5 + 1)) h
    else none
  else
    some (.inl (some (0, x0)), h) := by
  unfold c_175_8
  exact
    have D : fk_D 175 [(8, some [0, 1, 4, 5], .iload 5, 2, 0, 0, 0), (10, none, .iload 4, 2, 0, 0, 0), (12, none, .if_icmp .ge 19, 3, 31, 0, 0), (15, none, .bipush 31, 2, 0, 31, 0), (17, none, .iload_n 0, 1, 0, 0, 0), (18, none, .imul, 1, 0, 0, 0), (19, none, .aload_n 1, 1, 0, 0, 0), (20, none, .iload 5, 2, 0, 0, 0), (22, none, .caload, 1, 0, 0, 0), (23, none, .iadd, 1, 0, 0, 0), (24, none, .istore_n 0, 1, 0, 0, 0), (25, none, .iinc 5 1, 3, 0, 1, 0), (28, none, .goto (-20), 3, 8, 0, 0)] := fq_of2 cd_175 ow_175 cl_175 rfl (pc := 8) (by decide +kernel)
    j_ild (pc := 8) D rfl rfl rfl fun D =>
    j_ild (pc := 10) D rfl rfl rfl fun D =>
    j_ige (pc := 12) D rfl (fun q D =>
      j_bp (pc := 15) D rfl fun D =>
      j_ildn (pc := 17) D rfl rfl rfl fun D =>
      j_imul (pc := 18) D rfl fun D =>
      j_aldn (pc := 19) D rfl rfl rfl fun D =>
      j_ild (pc := 20) D rfl rfl rfl fun D =>
      j_alp (pc := 22) (e := 5) H.2.1 D rfl rfl ⟨rfl, rfl, rfl⟩ rfl fun q q2 D =>
      j_iadd (pc := 23) D rfl fun D =>
      j_stl (pc := 24) (L' := fun y1 => [(0, (0, y1)), (1, (4, x1)), (4, (0, x4)), (5, (0, x5))]) D rfl ⟨rfl, rfl, rfl, rfl⟩ nl_175 rfl (fun _ => rfl) fun y1 ey1 D =>
      j_inc (pc := 25) (L' := [(5, (0, wI (x5 + 1))), (0, (0, y1)), (1, (4, x1)), (4, (0, x4))]) D rfl rfl rfl (by decide +kernel) rfl fun D =>
      j_goto (pc := 28) D rfl <|
      fk_jump cut_175_8 rfl rfl) (fun q =>
      have D : fk_D 175 [(31, none, .iload_n 0, 1, 0, 0, 0), (32, none, .ireturn, 1, 0, 0, 0)] := fq_of2 cd_175 ow_175 cl_175 rfl (pc := 31) (by decide +kernel)
      j_ildn (pc := 31) D rfl rfl rfl fun D =>
      j_iret D rt_175)
theorem m_175 (d : Nat) (x0 x1 x2 x3 : Int) {h : fi_H} (H : Shp h) : fj_run (d + 1) 175 h [(0, x0), (4, x1), (0, x2), (0, x3)] =
  c_175_8 d x0 x1 (wI (x2 + x3)) x2 h := by
  rw [fj_run_eq d (by decide) h [(0, x0), (4, x1), (0, x2), (0, x3)] (Nat.le_of_ble_eq_true (by rw [nl_175]; rfl))]
  show gG (fj_run d) 175 0 [(0, (0, x0)), (1, (4, x1)), (2, (0, x2)), (3, (0, x3))] [] h = _
  exact
    have D : fk_D 175 [(0, none, .iload_n 2, 1, 0, 0, 0), (1, none, .iload_n 3, 1, 0, 0, 0), (2, none, .iadd, 1, 0, 0, 0), (3, none, .istore 4, 2, 0, 0, 0), (5, none, .iload_n 2, 1, 0, 0, 0), (6, none, .istore 5, 2, 0, 0, 0)] := fq_of2 cd_175 ow_175 cl_175 rfl (pc := 0) (by decide +kernel)
    j_ildn (pc := 0) D rfl rfl rfl fun D =>
    j_ildn (pc := 1) D rfl rfl rfl fun D =>
    j_iadd (pc := 2) D rfl fun D =>
    j_ist (pc := 3) (L' := [(4, (0, wI (x2 + x3))), (0, (0, x0)), (1, (4, x1)), (2, (0, x2)), (3, (0, x3))]) D rfl nl_175 rfl rfl fun D =>
    j_ildn (pc := 5) D rfl rfl rfl fun D =>
    j_ist (pc := 6) (L' := [(5, (0, x2)), (4, (0, wI (x2 + x3))), (0, (0, x0)), (1, (4, x1)), (2, (0, x2)), (3, (0, x3))]) D rfl nl_175 rfl rfl fun D =>
    fk_jump cut_175_8 rfl rfl
/-! 176 jdk/internal/util/ArraysSupport.hashCode(I[BII)I -/
theorem cd_176 : fi_code 176 = prog_103_method_6_code := rfl
theorem hx_176 : ∀ pc, fi_hat 176 pc = none := fun pc => by unfold fi_hat; rw [show fi_hh 176 = [] from rfl]; rfl
theorem rt_176 : fi_ret 176 = some .int := rfl
theorem nl_176 : fi_nl 176 = 6 := rfl
theorem ow_176 : fi_ow 176 = 83 := rfl
theorem cl_176 : fj_cutT.getD 176 [] = [(8, [0, 1, 4, 5])] := rfl
theorem cut_176_8 : fj_cut 176 8 = some [0, 1, 4, 5] := by decide +kernel
noncomputable def c_176_8 (d : Nat) (x0 x1 x4 x5 : Int) (h : fi_H) : fk_R := gG (fj_run d) 176 8 [(0, (0, x0)), (1, (4, x1)), (4, (0, x4)), (5, (0, x5))] [] h
theorem e_176_8 (d : Nat) (x0 x1 x4 x5 : Int) {h : fi_H} (H : Shp h) : c_176_8 d x0 x1 x4 x5 h =
  if x5 < x4 then
    if fi_et 1 (h 0 x1.toNat 0) ≠ 0 ∧ 0 ≤ x5 ∧ x5 < h 1 x1.toNat 0 then
    lt_ (wI ((wI (31 * x0)) + (h (fi_et 1 (h 0 x1.toNat 0)) x1.toNat x5.toNat))) fun y1 =>
    c_176_8 d y1 x1 x4 (wI (x5 + 1)) h
    else none
  else
    some (.inl (some (0, x0)), h) := by
  unfold c_176_8
  exact
    have D : fk_D 176 [(8, some [0, 1, 4, 5], .iload 5, 2, 0, 0, 0), (10, none, .iload 4, 2, 0, 0, 0), (12, none, .if_icmp .ge 19, 3, 31, 0, 0), (15, none, .bipush 31, 2, 0, 31, 0), (17, none, .iload_n 0, 1, 0, 0, 0), (18, none, .imul, 1, 0, 0, 0), (19, none, .aload_n 1, 1, 0, 0, 0), (20, none, .iload 5, 2, 0, 0, 0), (22, none, .baload, 1, 0, 0, 0), (23, none, .iadd, 1, 0, 0, 0), (24, none, .istore_n 0, 1, 0, 0, 0), (25, none, .iinc 5 1, 3, 0, 1, 0), (28, none, .goto (-20), 3, 8, 0, 0)] := fq_of2 cd_176 ow_176 cl_176 rfl (pc := 8) (by decide +kernel)
    j_ild (pc := 8) D rfl rfl rfl fun D =>
    j_ild (pc := 10) D rfl rfl rfl fun D =>
    j_ige (pc := 12) D rfl (fun q D =>
      j_bp (pc := 15) D rfl fun D =>
      j_ildn (pc := 17) D rfl rfl rfl fun D =>
      j_imul (pc := 18) D rfl fun D =>
      j_aldn (pc := 19) D rfl rfl rfl fun D =>
      j_ild (pc := 20) D rfl rfl rfl fun D =>
      j_alb (pc := 22) H.2.1 D rfl rfl fun q q2 D =>
      j_iadd (pc := 23) D rfl fun D =>
      j_stl (pc := 24) (L' := fun y1 => [(0, (0, y1)), (1, (4, x1)), (4, (0, x4)), (5, (0, x5))]) D rfl ⟨rfl, rfl, rfl, rfl⟩ nl_176 rfl (fun _ => rfl) fun y1 ey1 D =>
      j_inc (pc := 25) (L' := [(5, (0, wI (x5 + 1))), (0, (0, y1)), (1, (4, x1)), (4, (0, x4))]) D rfl rfl rfl (by decide +kernel) rfl fun D =>
      j_goto (pc := 28) D rfl <|
      fk_jump cut_176_8 rfl rfl) (fun q =>
      have D : fk_D 176 [(31, none, .iload_n 0, 1, 0, 0, 0), (32, none, .ireturn, 1, 0, 0, 0)] := fq_of2 cd_176 ow_176 cl_176 rfl (pc := 31) (by decide +kernel)
      j_ildn (pc := 31) D rfl rfl rfl fun D =>
      j_iret D rt_176)
theorem m_176 (d : Nat) (x0 x1 x2 x3 : Int) {h : fi_H} (H : Shp h) : fj_run (d + 1) 176 h [(0, x0), (4, x1), (0, x2), (0, x3)] =
  c_176_8 d x0 x1 (wI (x2 + x3)) x2 h := by
  rw [fj_run_eq d (by decide) h [(0, x0), (4, x1), (0, x2), (0, x3)] (Nat.le_of_ble_eq_true (by rw [nl_176]; rfl))]
  show gG (fj_run d) 176 0 [(0, (0, x0)), (1, (4, x1)), (2, (0, x2)), (3, (0, x3))] [] h = _
  exact
    have D : fk_D 176 [(0, none, .iload_n 2, 1, 0, 0, 0), (1, none, .iload_n 3, 1, 0, 0, 0), (2, none, .iadd, 1, 0, 0, 0), (3, none, .istore 4, 2, 0, 0, 0), (5, none, .iload_n 2, 1, 0, 0, 0), (6, none, .istore 5, 2, 0, 0, 0)] := fq_of2 cd_176 ow_176 cl_176 rfl (pc := 0) (by decide +kernel)
    j_ildn (pc := 0) D rfl rfl rfl fun D =>
    j_ildn (pc := 1) D rfl rfl rfl fun D =>
    j_iadd (pc := 2) D rfl fun D =>
    j_ist (pc := 3) (L' := [(4, (0, wI (x2 + x3))), (0, (0, x0)), (1, (4, x1)), (2, (0, x2)), (3, (0, x3))]) D rfl nl_176 rfl rfl fun D =>
    j_ildn (pc := 5) D rfl rfl rfl fun D =>
    j_ist (pc := 6) (L' := [(5, (0, x2)), (4, (0, wI (x2 + x3))), (0, (0, x0)), (1, (4, x1)), (2, (0, x2)), (3, (0, x3))]) D rfl nl_176 rfl rfl fun D =>
    fk_jump cut_176_8 rfl rfl
/-! 177 jdk/internal/util/ArraysSupport.hashCode(I[SII)I -/
theorem cd_177 : fi_code 177 = prog_103_method_8_code := rfl
theorem hx_177 : ∀ pc, fi_hat 177 pc = none := fun pc => by unfold fi_hat; rw [show fi_hh 177 = [] from rfl]; rfl
theorem rt_177 : fi_ret 177 = some .int := rfl
theorem nl_177 : fi_nl 177 = 6 := rfl
theorem ow_177 : fi_ow 177 = 83 := rfl
theorem cl_177 : fj_cutT.getD 177 [] = [(8, [0, 1, 4, 5])] := rfl
theorem cut_177_8 : fj_cut 177 8 = some [0, 1, 4, 5] := by decide +kernel
noncomputable def c_177_8 (d : Nat) (x0 x1 x4 x5 : Int) (h : fi_H) : fk_R := gG (fj_run d) 177 8 [(0, (0, x0)), (1, (4, x1)), (4, (0, x4)), (5, (0, x5))] [] h
theorem e_177_8 (d : Nat) (x0 x1 x4 x5 : Int) {h : fi_H} (H : Shp h) : c_177_8 d x0 x1 x4 x5 h =
  if x5 < x4 then
    if h 0 x1.toNat 0 = 9 ∧ 0 ≤ x5 ∧ x5 < h 1 x1.toNat 0 then
    lt_ (wI ((wI (31 * x0)) + (h 9 x1.toNat x5.toNat))) fun y1 =>
    c_177_8 d y1 x1 x4 (wI (x5 + 1)) h
    else none
  else
    some (.inl (some (0, x0)), h) := by
  unfold c_177_8
  exact
    have D : fk_D 177 [(8, some [0, 1, 4, 5], .iload 5, 2, 0, 0, 0), (10, none, .iload 4, 2, 0, 0, 0), (12, none, .if_icmp .ge 19, 3, 31, 0, 0), (15, none, .bipush 31, 2, 0, 31, 0), (17, none, .iload_n 0, 1, 0, 0, 0), (18, none, .imul, 1, 0, 0, 0), (19, none, .aload_n 1, 1, 0, 0, 0), (20, none, .iload 5, 2, 0, 0, 0), (22, none, .saload, 1, 0, 0, 0), (23, none, .iadd, 1, 0, 0, 0), (24, none, .istore_n 0, 1, 0, 0, 0), (25, none, .iinc 5 1, 3, 0, 1, 0), (28, none, .goto (-20), 3, 8, 0, 0)] := fq_of2 cd_177 ow_177 cl_177 rfl (pc := 8) (by decide +kernel)
    j_ild (pc := 8) D rfl rfl rfl fun D =>
    j_ild (pc := 10) D rfl rfl rfl fun D =>
    j_ige (pc := 12) D rfl (fun q D =>
      j_bp (pc := 15) D rfl fun D =>
      j_ildn (pc := 17) D rfl rfl rfl fun D =>
      j_imul (pc := 18) D rfl fun D =>
      j_aldn (pc := 19) D rfl rfl rfl fun D =>
      j_ild (pc := 20) D rfl rfl rfl fun D =>
      j_alp (pc := 22) (e := 9) H.2.1 D rfl rfl ⟨rfl, rfl, rfl⟩ rfl fun q q2 D =>
      j_iadd (pc := 23) D rfl fun D =>
      j_stl (pc := 24) (L' := fun y1 => [(0, (0, y1)), (1, (4, x1)), (4, (0, x4)), (5, (0, x5))]) D rfl ⟨rfl, rfl, rfl, rfl⟩ nl_177 rfl (fun _ => rfl) fun y1 ey1 D =>
      j_inc (pc := 25) (L' := [(5, (0, wI (x5 + 1))), (0, (0, y1)), (1, (4, x1)), (4, (0, x4))]) D rfl rfl rfl (by decide +kernel) rfl fun D =>
      j_goto (pc := 28) D rfl <|
      fk_jump cut_177_8 rfl rfl) (fun q =>
      have D : fk_D 177 [(31, none, .iload_n 0, 1, 0, 0, 0), (32, none, .ireturn, 1, 0, 0, 0)] := fq_of2 cd_177 ow_177 cl_177 rfl (pc := 31) (by decide +kernel)
      j_ildn (pc := 31) D rfl rfl rfl fun D =>
      j_iret D rt_177)
theorem m_177 (d : Nat) (x0 x1 x2 x3 : Int) {h : fi_H} (H : Shp h) : fj_run (d + 1) 177 h [(0, x0), (4, x1), (0, x2), (0, x3)] =
  c_177_8 d x0 x1 (wI (x2 + x3)) x2 h := by
  rw [fj_run_eq d (by decide) h [(0, x0), (4, x1), (0, x2), (0, x3)] (Nat.le_of_ble_eq_true (by rw [nl_177]; rfl))]
  show gG (fj_run d) 177 0 [(0, (0, x0)), (1, (4, x1)), (2, (0, x2)), (3, (0, x3))] [] h = _
  exact
    have D : fk_D 177 [(0, none, .iload_n 2, 1, 0, 0, 0), (1, none, .iload_n 3, 1, 0, 0, 0), (2, none, .iadd, 1, 0, 0, 0), (3, none, .istore 4, 2, 0, 0, 0), (5, none, .iload_n 2, 1, 0, 0, 0), (6, none, .istore 5, 2, 0, 0, 0)] := fq_of2 cd_177 ow_177 cl_177 rfl (pc := 0) (by decide +kernel)
    j_ildn (pc := 0) D rfl rfl rfl fun D =>
    j_ildn (pc := 1) D rfl rfl rfl fun D =>
    j_iadd (pc := 2) D rfl fun D =>
    j_ist (pc := 3) (L' := [(4, (0, wI (x2 + x3))), (0, (0, x0)), (1, (4, x1)), (2, (0, x2)), (3, (0, x3))]) D rfl nl_177 rfl rfl fun D =>
    j_ildn (pc := 5) D rfl rfl rfl fun D =>
    j_ist (pc := 6) (L' := [(5, (0, x2)), (4, (0, wI (x2 + x3))), (0, (0, x0)), (1, (4, x1)), (2, (0, x2)), (3, (0, x3))]) D rfl nl_177 rfl rfl fun D =>
    fk_jump cut_177_8 rfl rfl
/-! 178 jdk/internal/util/ArraysSupport.hashCode(I[III)I -/
theorem cd_178 : fi_code 178 = prog_103_method_9_code := rfl
theorem hx_178 : ∀ pc, fi_hat 178 pc = none := fun pc => by unfold fi_hat; rw [show fi_hh 178 = [] from rfl]; rfl
theorem rt_178 : fi_ret 178 = some .int := rfl
theorem nl_178 : fi_nl 178 = 6 := rfl
theorem ow_178 : fi_ow 178 = 83 := rfl
theorem cl_178 : fj_cutT.getD 178 [] = [(8, [0, 1, 4, 5])] := rfl
theorem cut_178_8 : fj_cut 178 8 = some [0, 1, 4, 5] := by decide +kernel
noncomputable def c_178_8 (d : Nat) (x0 x1 x4 x5 : Int) (h : fi_H) : fk_R := gG (fj_run d) 178 8 [(0, (0, x0)), (1, (4, x1)), (4, (0, x4)), (5, (0, x5))] [] h
theorem e_178_8 (d : Nat) (x0 x1 x4 x5 : Int) {h : fi_H} (H : Shp h) : c_178_8 d x0 x1 x4 x5 h =
  if x5 < x4 then
    if h 0 x1.toNat 0 = 10 ∧ 0 ≤ x5 ∧ x5 < h 1 x1.toNat 0 then
    lt_ (wI ((wI (31 * x0)) + (h 10 x1.toNat x5.toNat))) fun y1 =>
    c_178_8 d y1 x1 x4 (wI (x5 + 1)) h
    else none
  else
    some (.inl (some (0, x0)), h) := by
  unfold c_178_8
  exact
    have D : fk_D 178 [(8, some [0, 1, 4, 5], .iload 5, 2, 0, 0, 0), (10, none, .iload 4, 2, 0, 0, 0), (12, none, .if_icmp .ge 19, 3, 31, 0, 0), (15, none, .bipush 31, 2, 0, 31, 0), (17, none, .iload_n 0, 1, 0, 0, 0), (18, none, .imul, 1, 0, 0, 0), (19, none, .aload_n 1, 1, 0, 0, 0), (20, none, .iload 5, 2, 0, 0, 0), (22, none, .iaload, 1, 0, 0, 0), (23, none, .iadd, 1, 0, 0, 0), (24, none, .istore_n 0, 1, 0, 0, 0), (25, none, .iinc 5 1, 3, 0, 1, 0), (28, none, .goto (-20), 3, 8, 0, 0)] := fq_of2 cd_178 ow_178 cl_178 rfl (pc := 8) (by decide +kernel)
    j_ild (pc := 8) D rfl rfl rfl fun D =>
    j_ild (pc := 10) D rfl rfl rfl fun D =>
    j_ige (pc := 12) D rfl (fun q D =>
      j_bp (pc := 15) D rfl fun D =>
      j_ildn (pc := 17) D rfl rfl rfl fun D =>
      j_imul (pc := 18) D rfl fun D =>
      j_aldn (pc := 19) D rfl rfl rfl fun D =>
      j_ild (pc := 20) D rfl rfl rfl fun D =>
      j_alp (pc := 22) (e := 10) H.2.1 D rfl rfl ⟨rfl, rfl, rfl⟩ rfl fun q q2 D =>
      j_iadd (pc := 23) D rfl fun D =>
      j_stl (pc := 24) (L' := fun y1 => [(0, (0, y1)), (1, (4, x1)), (4, (0, x4)), (5, (0, x5))]) D rfl ⟨rfl, rfl, rfl, rfl⟩ nl_178 rfl (fun _ => rfl) fun y1 ey1 D =>
      j_inc (pc := 25) (L' := [(5, (0, wI (x5 + 1))), (0, (0, y1)), (1, (4, x1)), (4, (0, x4))]) D rfl rfl rfl (by decide +kernel) rfl fun D =>
      j_goto (pc := 28) D rfl <|
      fk_jump cut_178_8 rfl rfl) (fun q =>
      have D : fk_D 178 [(31, none, .iload_n 0, 1, 0, 0, 0), (32, none, .ireturn, 1, 0, 0, 0)] := fq_of2 cd_178 ow_178 cl_178 rfl (pc := 31) (by decide +kernel)
      j_ildn (pc := 31) D rfl rfl rfl fun D =>
      j_iret D rt_178)
theorem m_178 (d : Nat) (x0 x1 x2 x3 : Int) {h : fi_H} (H : Shp h) : fj_run (d + 1) 178 h [(0, x0), (4, x1), (0, x2), (0, x3)] =
  c_178_8 d x0 x1 (wI (x2 + x3)) x2 h := by
  rw [fj_run_eq d (by decide) h [(0, x0), (4, x1), (0, x2), (0, x3)] (Nat.le_of_ble_eq_true (by rw [nl_178]; rfl))]
  show gG (fj_run d) 178 0 [(0, (0, x0)), (1, (4, x1)), (2, (0, x2)), (3, (0, x3))] [] h = _
  exact
    have D : fk_D 178 [(0, none, .iload_n 2, 1, 0, 0, 0), (1, none, .iload_n 3, 1, 0, 0, 0), (2, none, .iadd, 1, 0, 0, 0), (3, none, .istore 4, 2, 0, 0, 0), (5, none, .iload_n 2, 1, 0, 0, 0), (6, none, .istore 5, 2, 0, 0, 0)] := fq_of2 cd_178 ow_178 cl_178 rfl (pc := 0) (by decide +kernel)
    j_ildn (pc := 0) D rfl rfl rfl fun D =>
    j_ildn (pc := 1) D rfl rfl rfl fun D =>
    j_iadd (pc := 2) D rfl fun D =>
    j_ist (pc := 3) (L' := [(4, (0, wI (x2 + x3))), (0, (0, x0)), (1, (4, x1)), (2, (0, x2)), (3, (0, x3))]) D rfl nl_178 rfl rfl fun D =>
    j_ildn (pc := 5) D rfl rfl rfl fun D =>
    j_ist (pc := 6) (L' := [(5, (0, x2)), (4, (0, wI (x2 + x3))), (0, (0, x0)), (1, (4, x1)), (2, (0, x2)), (3, (0, x3))]) D rfl nl_178 rfl rfl fun D =>
    fk_jump cut_178_8 rfl rfl
/-! 179 java/lang/StringUTF16.hashCode([B)I -/
theorem cd_179 : fi_code 179 = prog_89_method_39_code := rfl
theorem hx_179 : ∀ pc, fi_hat 179 pc = none := fun pc => by unfold fi_hat; rw [show fi_hh 179 = [] from rfl]; rfl
theorem rt_179 : fi_ret 179 = some .int := rfl
theorem nl_179 : fi_nl 179 = 1 := rfl
theorem ow_179 : fi_ow 179 = 80 := rfl
theorem cl_179 : fj_cutT.getD 179 [] = [] := rfl
theorem m_179 (d : Nat) (x0 : Int) {h : fi_H} (H : Shp h) : fj_run (d + 1) 179 h [(4, x0)] =
  if fk_isA (h 0 x0.toNat 0) = true then
  if h 1 x0.toNat 0 = 0 then
    some (.inl (some (0, 0)), h)
  else if h 1 x0.toNat 0 = 2 then
    ca_ (fj_run d 28 h [(4, x0), (0, 0)]) 0
      (fun v2 h1 =>
      some (.inl (some (0, v2)), h1))
      (fun q3 h1 => tx_ q3 h1)
  else 
    if fk_isA (h 0 x0.toNat 0) = true then
    ca_ (fj_run d 171 h [(4, x0), (0, 0), (0, sr_ (h 1 x0.toNat 0) 1), (0, 0), (0, 5)]) 0
      (fun v5 h4 =>
      some (.inl (some (0, v5)), h4))
      (fun q6 h4 => tx_ q6 h4)
    else none
  else none := by
  rw [fj_run_eq d (by decide) h [(4, x0)] (Nat.le_of_ble_eq_true (by rw [nl_179]; rfl))]
  show gG (fj_run d) 179 0 [(0, (4, x0))] [] h = _
  exact
    have D : fk_D 179 [(0, none, .aload_n 0, 1, 0, 0, 0), (1, none, .arraylength, 1, 0, 0, 0), (2, none, .lookupswitch 38 #[(0, 26), (2, 30)], 26, 0, 0, 0)] := fq_of3 cd_179 ow_179 cl_179 rfl (pc := 0) (by decide +kernel)
    j_aldn (pc := 0) D rfl rfl rfl fun D =>
    j_lenu (pc := 1) H.2.1 D rfl fun q D =>
    have N : fk_ni (h 1 x0.toNat 0) [] := trivial
    j_lc (pc := 2) 0 (t := 28) D N rfl (by decide +kernel) (by decide +kernel) (fun q =>
      have D : fk_D 179 [(28, none, .iconst 0, 1, 0, 0, 0), (29, none, .goto 22, 3, 51, 0, 0)] := fq_of2 cd_179 ow_179 cl_179 rfl (pc := 28) (by decide +kernel)
      j_ic (pc := 28) D rfl fun D =>
      j_goto (pc := 29) D rfl <|
      have D : fk_D 179 [(51, none, .ireturn, 1, 0, 0, 0)] := fq_of2 cd_179 ow_179 cl_179 rfl (pc := 51) (by decide +kernel)
      j_iret D rt_179) (fun N =>
      j_lc 2 (t := 32) D N rfl (by decide +kernel) (by decide +kernel) (fun q =>
        have D : fk_D 179 [(32, none, .aload_n 0, 1, 0, 0, 0), (33, none, .iconst 0, 1, 0, 0, 0), (34, none, .invokestatic 71, 3, 2, 28, 1), (37, none, .goto 14, 3, 51, 0, 0)] := fq_of2 cd_179 ow_179 cl_179 rfl (pc := 32) (by decide +kernel)
        j_aldn (pc := 32) D rfl rfl rfl fun D =>
        j_ic (pc := 33) D rfl fun D =>
        j_is (pc := 34) (m := 28) (a := [(4, x0), (0, 0)]) (rest := []) D rfl rfl rfl rfl (fun v2 h1 e1 D =>
          have T := fj_run_ok _ _ _ _ _ _ H.1 e1
          have H := shp_st H T
          j_goto (pc := 37) D rfl <|
          have D : fk_D 179 [(51, none, .ireturn, 1, 0, 0, 0)] := fq_of2 cd_179 ow_179 cl_179 rfl (pc := 51) (by decide +kernel)
          j_iret D rt_179) (fun q3 h1 e1 =>
          j_tx (hx_179 _))) (fun N =>
        j_ldf (t := 40) D N rfl (by decide +kernel) (by decide +kernel) (by decide +kernel) <|
        have D : fk_D 179 [(40, none, .aload_n 0, 1, 0, 0, 0), (41, none, .iconst 0, 1, 0, 0, 0), (42, none, .aload_n 0, 1, 0, 0, 0), (43, none, .arraylength, 1, 0, 0, 0), (44, none, .iconst 1, 1, 0, 1, 0), (45, none, .ishr, 1, 0, 0, 0), (46, none, .iconst 0, 1, 0, 0, 0), (47, none, .iconst 5, 1, 0, 5, 0), (48, none, .invokestatic 220, 3, 5, 171, 1), (51, none, .ireturn, 1, 0, 0, 0)] := fq_of2 cd_179 ow_179 cl_179 rfl (pc := 40) (by decide +kernel)
        j_aldn (pc := 40) D rfl rfl rfl fun D =>
        j_ic (pc := 41) D rfl fun D =>
        j_aldn (pc := 42) D rfl rfl rfl fun D =>
        j_lenu (pc := 43) H.2.1 D rfl fun q D =>
        j_ic (pc := 44) D rfl fun D =>
        j_ishr (pc := 45) D rfl fun D =>
        j_ic (pc := 46) D rfl fun D =>
        j_ic (pc := 47) D rfl fun D =>
        j_is (pc := 48) (m := 171) (a := [(4, x0), (0, 0), (0, sr_ (h 1 x0.toNat 0) 1), (0, 0), (0, 5)]) (rest := []) D rfl rfl rfl rfl (fun v5 h4 e1 D =>
          have T := fj_run_ok _ _ _ _ _ _ H.1 e1
          have H := shp_st H T
          j_iret D rt_179) (fun q6 h4 e1 =>
          j_tx (hx_179 _))))
