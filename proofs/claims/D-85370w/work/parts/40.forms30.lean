/-! forms of methods 720..720, printed by gen/forms.py -/
set_option maxRecDepth 100000
/-! 720 StatuteHouseLaw.law([I)Z -/
theorem cd_720 : fi_code 720 = code := rfl
theorem hx_720 : ∀ pc, fi_hat 720 pc = none := fun pc => by unfold fi_hat; rw [show fi_hh 720 = [] from rfl]; rfl
theorem rt_720 : fi_ret 720 = some .boolean := rfl
theorem nl_720 : fi_nl 720 = 4 := rfl
theorem ow_720 : fi_ow 720 = 90 := rfl
theorem cl_720 : fj_cutT.getD 720 [] = [(18, [0, 1, 2, 3]), (264, [0, 1, 2, 3]), (327, [0, 1, 2, 3]), (350, [0, 1, 2, 3]), (363, [0, 1, 2, 3]), (376, [0, 1, 2, 3]), (399, [0, 1, 2, 3]), (452, [0, 1, 2, 3]), (465, [0, 1, 2, 3]), (488, [0, 1, 2, 3]), (521, [0, 1, 2, 3]), (544, [0, 1, 2, 3]), (587, [0, 1, 2, 3]), (600, [0, 1, 2, 3]), (633, [0, 1, 2, 3]), (772, [0, 1, 2, 3]), (825, [0, 1, 2, 3]), (940, [0, 1, 2, 3]), (953, [0, 1, 2, 3]), (1016, [0, 1, 2, 3]), (1040, [0, 1, 2, 3]), (1063, [0, 1, 2, 3]), (1097, [0, 1, 2, 3]), (1110, [0, 1, 2, 3]), (1185, [0, 1, 2, 3]), (1219, [0, 1, 2, 3]), (1370, [0, 1, 2, 3]), (1384, [0, 1, 2, 3]), (1427, [0, 1, 2, 3]), (1480, [0, 1, 2, 3]), (1503, [0, 1, 2, 3]), (1522, [0, 1, 2, 3]), (1544, [0, 1, 2, 3]), (1552, [0, 1, 2, 3]), (1575, [0, 1, 2, 3]), (1608, [0, 1, 2, 3]), (1642, [0, 1, 2, 3]), (1675, [0, 1, 2, 3]), (1739, [0, 1, 2, 3]), (1762, [0, 1, 2, 3]), (1786, [0, 1, 2, 3]), (1820, [0, 1, 2, 3]), (1854, [0, 1, 2, 3]), (1877, [0, 1, 2, 3]), (1900, [0, 1, 2, 3]), (1953, [0, 1, 2, 3]), (1977, [0, 1, 2, 3]), (2030, [0, 1, 2, 3]), (2064, [0, 1, 2, 3]), (2107, [0, 1, 2, 3]), (2150, [0, 1, 2, 3]), (2173, [0, 1, 2, 3]), (2206, [0, 1, 2, 3]), (2249, [0, 1, 2, 3]), (2272, [0, 1, 2, 3]), (2347, [0, 1, 2, 3]), (2370, [0, 1, 2, 3]), (2393, [0, 1, 2, 3])] := rfl
theorem cut_720_18 : fj_cut 720 18 = some [0, 1, 2, 3] := by decide +kernel
noncomputable def c_720_18 (d : Nat) (x0 x1 x2 x3 : Int) (h : fi_H) : fk_R := gG (fj_run d) 720 18 [(0, (4, x0)), (1, (4, x1)), (2, (4, x2)), (3, (0, x3))] [] h
theorem cut_720_264 : fj_cut 720 264 = some [0, 1, 2, 3] := by decide +kernel
noncomputable def c_720_264 (d : Nat) (x0 x1 x2 x3 : Int) (h : fi_H) : fk_R := gG (fj_run d) 720 264 [(0, (4, x0)), (1, (4, x1)), (2, (4, x2)), (3, (0, x3))] [] h
theorem cut_720_327 : fj_cut 720 327 = some [0, 1, 2, 3] := by decide +kernel
noncomputable def c_720_327 (d : Nat) (x0 x1 x2 x3 : Int) (h : fi_H) : fk_R := gG (fj_run d) 720 327 [(0, (4, x0)), (1, (4, x1)), (2, (4, x2)), (3, (0, x3))] [] h
theorem cut_720_350 : fj_cut 720 350 = some [0, 1, 2, 3] := by decide +kernel
noncomputable def c_720_350 (d : Nat) (x0 x1 x2 x3 : Int) (h : fi_H) : fk_R := gG (fj_run d) 720 350 [(0, (4, x0)), (1, (4, x1)), (2, (4, x2)), (3, (0, x3))] [] h
theorem cut_720_363 : fj_cut 720 363 = some [0, 1, 2, 3] := by decide +kernel
noncomputable def c_720_363 (d : Nat) (x0 x1 x2 x3 : Int) (h : fi_H) : fk_R := gG (fj_run d) 720 363 [(0, (4, x0)), (1, (4, x1)), (2, (4, x2)), (3, (0, x3))] [] h
theorem cut_720_376 : fj_cut 720 376 = some [0, 1, 2, 3] := by decide +kernel
noncomputable def c_720_376 (d : Nat) (x0 x1 x2 x3 : Int) (h : fi_H) : fk_R := gG (fj_run d) 720 376 [(0, (4, x0)), (1, (4, x1)), (2, (4, x2)), (3, (0, x3))] [] h
theorem cut_720_399 : fj_cut 720 399 = some [0, 1, 2, 3] := by decide +kernel
noncomputable def c_720_399 (d : Nat) (x0 x1 x2 x3 : Int) (h : fi_H) : fk_R := gG (fj_run d) 720 399 [(0, (4, x0)), (1, (4, x1)), (2, (4, x2)), (3, (0, x3))] [] h
theorem cut_720_452 : fj_cut 720 452 = some [0, 1, 2, 3] := by decide +kernel
noncomputable def c_720_452 (d : Nat) (x0 x1 x2 x3 : Int) (h : fi_H) : fk_R := gG (fj_run d) 720 452 [(0, (4, x0)), (1, (4, x1)), (2, (4, x2)), (3, (0, x3))] [] h
theorem cut_720_465 : fj_cut 720 465 = some [0, 1, 2, 3] := by decide +kernel
noncomputable def c_720_465 (d : Nat) (x0 x1 x2 x3 : Int) (h : fi_H) : fk_R := gG (fj_run d) 720 465 [(0, (4, x0)), (1, (4, x1)), (2, (4, x2)), (3, (0, x3))] [] h
theorem cut_720_488 : fj_cut 720 488 = some [0, 1, 2, 3] := by decide +kernel
noncomputable def c_720_488 (d : Nat) (x0 x1 x2 x3 : Int) (h : fi_H) : fk_R := gG (fj_run d) 720 488 [(0, (4, x0)), (1, (4, x1)), (2, (4, x2)), (3, (0, x3))] [] h
theorem cut_720_521 : fj_cut 720 521 = some [0, 1, 2, 3] := by decide +kernel
noncomputable def c_720_521 (d : Nat) (x0 x1 x2 x3 : Int) (h : fi_H) : fk_R := gG (fj_run d) 720 521 [(0, (4, x0)), (1, (4, x1)), (2, (4, x2)), (3, (0, x3))] [] h
theorem cut_720_544 : fj_cut 720 544 = some [0, 1, 2, 3] := by decide +kernel
noncomputable def c_720_544 (d : Nat) (x0 x1 x2 x3 : Int) (h : fi_H) : fk_R := gG (fj_run d) 720 544 [(0, (4, x0)), (1, (4, x1)), (2, (4, x2)), (3, (0, x3))] [] h
theorem cut_720_587 : fj_cut 720 587 = some [0, 1, 2, 3] := by decide +kernel
noncomputable def c_720_587 (d : Nat) (x0 x1 x2 x3 : Int) (h : fi_H) : fk_R := gG (fj_run d) 720 587 [(0, (4, x0)), (1, (4, x1)), (2, (4, x2)), (3, (0, x3))] [] h
theorem cut_720_600 : fj_cut 720 600 = some [0, 1, 2, 3] := by decide +kernel
noncomputable def c_720_600 (d : Nat) (x0 x1 x2 x3 : Int) (h : fi_H) : fk_R := gG (fj_run d) 720 600 [(0, (4, x0)), (1, (4, x1)), (2, (4, x2)), (3, (0, x3))] [] h
theorem cut_720_633 : fj_cut 720 633 = some [0, 1, 2, 3] := by decide +kernel
noncomputable def c_720_633 (d : Nat) (x0 x1 x2 x3 : Int) (h : fi_H) : fk_R := gG (fj_run d) 720 633 [(0, (4, x0)), (1, (4, x1)), (2, (4, x2)), (3, (0, x3))] [] h
theorem cut_720_772 : fj_cut 720 772 = some [0, 1, 2, 3] := by decide +kernel
noncomputable def c_720_772 (d : Nat) (x0 x1 x2 x3 : Int) (h : fi_H) : fk_R := gG (fj_run d) 720 772 [(0, (4, x0)), (1, (4, x1)), (2, (4, x2)), (3, (0, x3))] [] h
theorem cut_720_825 : fj_cut 720 825 = some [0, 1, 2, 3] := by decide +kernel
noncomputable def c_720_825 (d : Nat) (x0 x1 x2 x3 : Int) (h : fi_H) : fk_R := gG (fj_run d) 720 825 [(0, (4, x0)), (1, (4, x1)), (2, (4, x2)), (3, (0, x3))] [] h
theorem cut_720_940 : fj_cut 720 940 = some [0, 1, 2, 3] := by decide +kernel
noncomputable def c_720_940 (d : Nat) (x0 x1 x2 x3 : Int) (h : fi_H) : fk_R := gG (fj_run d) 720 940 [(0, (4, x0)), (1, (4, x1)), (2, (4, x2)), (3, (0, x3))] [] h
theorem cut_720_953 : fj_cut 720 953 = some [0, 1, 2, 3] := by decide +kernel
noncomputable def c_720_953 (d : Nat) (x0 x1 x2 x3 : Int) (h : fi_H) : fk_R := gG (fj_run d) 720 953 [(0, (4, x0)), (1, (4, x1)), (2, (4, x2)), (3, (0, x3))] [] h
theorem cut_720_1016 : fj_cut 720 1016 = some [0, 1, 2, 3] := by decide +kernel
noncomputable def c_720_1016 (d : Nat) (x0 x1 x2 x3 : Int) (h : fi_H) : fk_R := gG (fj_run d) 720 1016 [(0, (4, x0)), (1, (4, x1)), (2, (4, x2)), (3, (0, x3))] [] h
theorem cut_720_1040 : fj_cut 720 1040 = some [0, 1, 2, 3] := by decide +kernel
noncomputable def c_720_1040 (d : Nat) (x0 x1 x2 x3 : Int) (h : fi_H) : fk_R := gG (fj_run d) 720 1040 [(0, (4, x0)), (1, (4, x1)), (2, (4, x2)), (3, (0, x3))] [] h
theorem cut_720_1063 : fj_cut 720 1063 = some [0, 1, 2, 3] := by decide +kernel
noncomputable def c_720_1063 (d : Nat) (x0 x1 x2 x3 : Int) (h : fi_H) : fk_R := gG (fj_run d) 720 1063 [(0, (4, x0)), (1, (4, x1)), (2, (4, x2)), (3, (0, x3))] [] h
theorem cut_720_1097 : fj_cut 720 1097 = some [0, 1, 2, 3] := by decide +kernel
noncomputable def c_720_1097 (d : Nat) (x0 x1 x2 x3 : Int) (h : fi_H) : fk_R := gG (fj_run d) 720 1097 [(0, (4, x0)), (1, (4, x1)), (2, (4, x2)), (3, (0, x3))] [] h
theorem cut_720_1110 : fj_cut 720 1110 = some [0, 1, 2, 3] := by decide +kernel
noncomputable def c_720_1110 (d : Nat) (x0 x1 x2 x3 : Int) (h : fi_H) : fk_R := gG (fj_run d) 720 1110 [(0, (4, x0)), (1, (4, x1)), (2, (4, x2)), (3, (0, x3))] [] h
theorem cut_720_1185 : fj_cut 720 1185 = some [0, 1, 2, 3] := by decide +kernel
noncomputable def c_720_1185 (d : Nat) (x0 x1 x2 x3 : Int) (h : fi_H) : fk_R := gG (fj_run d) 720 1185 [(0, (4, x0)), (1, (4, x1)), (2, (4, x2)), (3, (0, x3))] [] h
theorem cut_720_1219 : fj_cut 720 1219 = some [0, 1, 2, 3] := by decide +kernel
noncomputable def c_720_1219 (d : Nat) (x0 x1 x2 x3 : Int) (h : fi_H) : fk_R := gG (fj_run d) 720 1219 [(0, (4, x0)), (1, (4, x1)), (2, (4, x2)), (3, (0, x3))] [] h
theorem cut_720_1370 : fj_cut 720 1370 = some [0, 1, 2, 3] := by decide +kernel
noncomputable def c_720_1370 (d : Nat) (x0 x1 x2 x3 : Int) (h : fi_H) : fk_R := gG (fj_run d) 720 1370 [(0, (4, x0)), (1, (4, x1)), (2, (4, x2)), (3, (0, x3))] [] h
theorem cut_720_1384 : fj_cut 720 1384 = some [0, 1, 2, 3] := by decide +kernel
noncomputable def c_720_1384 (d : Nat) (x0 x1 x2 x3 : Int) (h : fi_H) : fk_R := gG (fj_run d) 720 1384 [(0, (4, x0)), (1, (4, x1)), (2, (4, x2)), (3, (0, x3))] [] h
theorem cut_720_1427 : fj_cut 720 1427 = some [0, 1, 2, 3] := by decide +kernel
noncomputable def c_720_1427 (d : Nat) (x0 x1 x2 x3 : Int) (h : fi_H) : fk_R := gG (fj_run d) 720 1427 [(0, (4, x0)), (1, (4, x1)), (2, (4, x2)), (3, (0, x3))] [] h
theorem cut_720_1480 : fj_cut 720 1480 = some [0, 1, 2, 3] := by decide +kernel
noncomputable def c_720_1480 (d : Nat) (x0 x1 x2 x3 : Int) (h : fi_H) : fk_R := gG (fj_run d) 720 1480 [(0, (4, x0)), (1, (4, x1)), (2, (4, x2)), (3, (0, x3))] [] h
theorem cut_720_1503 : fj_cut 720 1503 = some [0, 1, 2, 3] := by decide +kernel
noncomputable def c_720_1503 (d : Nat) (x0 x1 x2 x3 : Int) (h : fi_H) : fk_R := gG (fj_run d) 720 1503 [(0, (4, x0)), (1, (4, x1)), (2, (4, x2)), (3, (0, x3))] [] h
theorem cut_720_1522 : fj_cut 720 1522 = some [0, 1, 2, 3] := by decide +kernel
noncomputable def c_720_1522 (d : Nat) (x0 x1 x2 x3 s0 s1 s2 : Int) (h : fi_H) : fk_R := gG (fj_run d) 720 1522 [(0, (4, x0)), (1, (4, x1)), (2, (4, x2)), (3, (0, x3))] [(0, s2), (0, s1), (4, s0)] h
theorem cut_720_1544 : fj_cut 720 1544 = some [0, 1, 2, 3] := by decide +kernel
noncomputable def c_720_1544 (d : Nat) (x0 x1 x2 x3 s0 s1 s2 s3 : Int) (h : fi_H) : fk_R := gG (fj_run d) 720 1544 [(0, (4, x0)), (1, (4, x1)), (2, (4, x2)), (3, (0, x3))] [(0, s3), (0, s2), (4, s1), (0, s0)] h
theorem cut_720_1552 : fj_cut 720 1552 = some [0, 1, 2, 3] := by decide +kernel
noncomputable def c_720_1552 (d : Nat) (x0 x1 x2 x3 : Int) (h : fi_H) : fk_R := gG (fj_run d) 720 1552 [(0, (4, x0)), (1, (4, x1)), (2, (4, x2)), (3, (0, x3))] [] h
theorem cut_720_1575 : fj_cut 720 1575 = some [0, 1, 2, 3] := by decide +kernel
noncomputable def c_720_1575 (d : Nat) (x0 x1 x2 x3 : Int) (h : fi_H) : fk_R := gG (fj_run d) 720 1575 [(0, (4, x0)), (1, (4, x1)), (2, (4, x2)), (3, (0, x3))] [] h
theorem cut_720_1608 : fj_cut 720 1608 = some [0, 1, 2, 3] := by decide +kernel
noncomputable def c_720_1608 (d : Nat) (x0 x1 x2 x3 : Int) (h : fi_H) : fk_R := gG (fj_run d) 720 1608 [(0, (4, x0)), (1, (4, x1)), (2, (4, x2)), (3, (0, x3))] [] h
theorem cut_720_1642 : fj_cut 720 1642 = some [0, 1, 2, 3] := by decide +kernel
noncomputable def c_720_1642 (d : Nat) (x0 x1 x2 x3 : Int) (h : fi_H) : fk_R := gG (fj_run d) 720 1642 [(0, (4, x0)), (1, (4, x1)), (2, (4, x2)), (3, (0, x3))] [] h
theorem cut_720_1675 : fj_cut 720 1675 = some [0, 1, 2, 3] := by decide +kernel
noncomputable def c_720_1675 (d : Nat) (x0 x1 x2 x3 : Int) (h : fi_H) : fk_R := gG (fj_run d) 720 1675 [(0, (4, x0)), (1, (4, x1)), (2, (4, x2)), (3, (0, x3))] [] h
theorem cut_720_1739 : fj_cut 720 1739 = some [0, 1, 2, 3] := by decide +kernel
noncomputable def c_720_1739 (d : Nat) (x0 x1 x2 x3 : Int) (h : fi_H) : fk_R := gG (fj_run d) 720 1739 [(0, (4, x0)), (1, (4, x1)), (2, (4, x2)), (3, (0, x3))] [] h
theorem cut_720_1762 : fj_cut 720 1762 = some [0, 1, 2, 3] := by decide +kernel
noncomputable def c_720_1762 (d : Nat) (x0 x1 x2 x3 : Int) (h : fi_H) : fk_R := gG (fj_run d) 720 1762 [(0, (4, x0)), (1, (4, x1)), (2, (4, x2)), (3, (0, x3))] [] h
theorem cut_720_1786 : fj_cut 720 1786 = some [0, 1, 2, 3] := by decide +kernel
noncomputable def c_720_1786 (d : Nat) (x0 x1 x2 x3 : Int) (h : fi_H) : fk_R := gG (fj_run d) 720 1786 [(0, (4, x0)), (1, (4, x1)), (2, (4, x2)), (3, (0, x3))] [] h
theorem cut_720_1820 : fj_cut 720 1820 = some [0, 1, 2, 3] := by decide +kernel
noncomputable def c_720_1820 (d : Nat) (x0 x1 x2 x3 : Int) (h : fi_H) : fk_R := gG (fj_run d) 720 1820 [(0, (4, x0)), (1, (4, x1)), (2, (4, x2)), (3, (0, x3))] [] h
theorem cut_720_1854 : fj_cut 720 1854 = some [0, 1, 2, 3] := by decide +kernel
noncomputable def c_720_1854 (d : Nat) (x0 x1 x2 x3 : Int) (h : fi_H) : fk_R := gG (fj_run d) 720 1854 [(0, (4, x0)), (1, (4, x1)), (2, (4, x2)), (3, (0, x3))] [] h
theorem cut_720_1877 : fj_cut 720 1877 = some [0, 1, 2, 3] := by decide +kernel
noncomputable def c_720_1877 (d : Nat) (x0 x1 x2 x3 : Int) (h : fi_H) : fk_R := gG (fj_run d) 720 1877 [(0, (4, x0)), (1, (4, x1)), (2, (4, x2)), (3, (0, x3))] [] h
theorem cut_720_1900 : fj_cut 720 1900 = some [0, 1, 2, 3] := by decide +kernel
noncomputable def c_720_1900 (d : Nat) (x0 x1 x2 x3 : Int) (h : fi_H) : fk_R := gG (fj_run d) 720 1900 [(0, (4, x0)), (1, (4, x1)), (2, (4, x2)), (3, (0, x3))] [] h
theorem cut_720_1953 : fj_cut 720 1953 = some [0, 1, 2, 3] := by decide +kernel
noncomputable def c_720_1953 (d : Nat) (x0 x1 x2 x3 : Int) (h : fi_H) : fk_R := gG (fj_run d) 720 1953 [(0, (4, x0)), (1, (4, x1)), (2, (4, x2)), (3, (0, x3))] [] h
theorem cut_720_1977 : fj_cut 720 1977 = some [0, 1, 2, 3] := by decide +kernel
noncomputable def c_720_1977 (d : Nat) (x0 x1 x2 x3 : Int) (h : fi_H) : fk_R := gG (fj_run d) 720 1977 [(0, (4, x0)), (1, (4, x1)), (2, (4, x2)), (3, (0, x3))] [] h
theorem cut_720_2030 : fj_cut 720 2030 = some [0, 1, 2, 3] := by decide +kernel
noncomputable def c_720_2030 (d : Nat) (x0 x1 x2 x3 : Int) (h : fi_H) : fk_R := gG (fj_run d) 720 2030 [(0, (4, x0)), (1, (4, x1)), (2, (4, x2)), (3, (0, x3))] [] h
theorem cut_720_2064 : fj_cut 720 2064 = some [0, 1, 2, 3] := by decide +kernel
noncomputable def c_720_2064 (d : Nat) (x0 x1 x2 x3 : Int) (h : fi_H) : fk_R := gG (fj_run d) 720 2064 [(0, (4, x0)), (1, (4, x1)), (2, (4, x2)), (3, (0, x3))] [] h
theorem cut_720_2107 : fj_cut 720 2107 = some [0, 1, 2, 3] := by decide +kernel
noncomputable def c_720_2107 (d : Nat) (x0 x1 x2 x3 : Int) (h : fi_H) : fk_R := gG (fj_run d) 720 2107 [(0, (4, x0)), (1, (4, x1)), (2, (4, x2)), (3, (0, x3))] [] h
theorem cut_720_2150 : fj_cut 720 2150 = some [0, 1, 2, 3] := by decide +kernel
noncomputable def c_720_2150 (d : Nat) (x0 x1 x2 x3 : Int) (h : fi_H) : fk_R := gG (fj_run d) 720 2150 [(0, (4, x0)), (1, (4, x1)), (2, (4, x2)), (3, (0, x3))] [] h
theorem cut_720_2173 : fj_cut 720 2173 = some [0, 1, 2, 3] := by decide +kernel
noncomputable def c_720_2173 (d : Nat) (x0 x1 x2 x3 : Int) (h : fi_H) : fk_R := gG (fj_run d) 720 2173 [(0, (4, x0)), (1, (4, x1)), (2, (4, x2)), (3, (0, x3))] [] h
theorem cut_720_2206 : fj_cut 720 2206 = some [0, 1, 2, 3] := by decide +kernel
noncomputable def c_720_2206 (d : Nat) (x0 x1 x2 x3 : Int) (h : fi_H) : fk_R := gG (fj_run d) 720 2206 [(0, (4, x0)), (1, (4, x1)), (2, (4, x2)), (3, (0, x3))] [] h
theorem cut_720_2249 : fj_cut 720 2249 = some [0, 1, 2, 3] := by decide +kernel
noncomputable def c_720_2249 (d : Nat) (x0 x1 x2 x3 : Int) (h : fi_H) : fk_R := gG (fj_run d) 720 2249 [(0, (4, x0)), (1, (4, x1)), (2, (4, x2)), (3, (0, x3))] [] h
theorem cut_720_2272 : fj_cut 720 2272 = some [0, 1, 2, 3] := by decide +kernel
noncomputable def c_720_2272 (d : Nat) (x0 x1 x2 x3 : Int) (h : fi_H) : fk_R := gG (fj_run d) 720 2272 [(0, (4, x0)), (1, (4, x1)), (2, (4, x2)), (3, (0, x3))] [] h
theorem cut_720_2347 : fj_cut 720 2347 = some [0, 1, 2, 3] := by decide +kernel
noncomputable def c_720_2347 (d : Nat) (x0 x1 x2 x3 : Int) (h : fi_H) : fk_R := gG (fj_run d) 720 2347 [(0, (4, x0)), (1, (4, x1)), (2, (4, x2)), (3, (0, x3))] [] h
theorem cut_720_2370 : fj_cut 720 2370 = some [0, 1, 2, 3] := by decide +kernel
noncomputable def c_720_2370 (d : Nat) (x0 x1 x2 x3 : Int) (h : fi_H) : fk_R := gG (fj_run d) 720 2370 [(0, (4, x0)), (1, (4, x1)), (2, (4, x2)), (3, (0, x3))] [] h
theorem cut_720_2393 : fj_cut 720 2393 = some [0, 1, 2, 3] := by decide +kernel
noncomputable def c_720_2393 (d : Nat) (x0 x1 x2 x3 : Int) (h : fi_H) : fk_R := gG (fj_run d) 720 2393 [(0, (4, x0)), (1, (4, x1)), (2, (4, x2)), (3, (0, x3))] [] h
theorem e_720_18 (d : Nat) (x0 x1 x2 x3 : Int) {h : fi_H} (H : Shp h) : c_720_18 d x0 x1 x2 x3 h =
  if fk_isA (h 0 x0.toNat 0) = true then
  if wI ((h 1 x0.toNat 0) - 10) < x3 then
    some (.inl (some (0, 1)), h)
  else
    if h 0 x0.toNat 0 = 10 ∧ 0 ≤ x3 ∧ x3 < h 1 x0.toNat 0 then
    if ia_ (h 10 x0.toNat x3.toNat) 63 = 0 then
      c_720_264 d x0 x1 x2 x3 h
    else if ia_ (h 10 x0.toNat x3.toNat) 63 = 1 then
      c_720_327 d x0 x1 x2 x3 h
    else if ia_ (h 10 x0.toNat x3.toNat) 63 = 2 then
      c_720_350 d x0 x1 x2 x3 h
    else if ia_ (h 10 x0.toNat x3.toNat) 63 = 3 then
      c_720_363 d x0 x1 x2 x3 h
    else if ia_ (h 10 x0.toNat x3.toNat) 63 = 4 then
      c_720_376 d x0 x1 x2 x3 h
    else if ia_ (h 10 x0.toNat x3.toNat) 63 = 5 then
      c_720_399 d x0 x1 x2 x3 h
    else if ia_ (h 10 x0.toNat x3.toNat) 63 = 6 then
      c_720_452 d x0 x1 x2 x3 h
    else if ia_ (h 10 x0.toNat x3.toNat) 63 = 7 then
      c_720_465 d x0 x1 x2 x3 h
    else if ia_ (h 10 x0.toNat x3.toNat) 63 = 8 then
      c_720_488 d x0 x1 x2 x3 h
    else if ia_ (h 10 x0.toNat x3.toNat) 63 = 9 then
      c_720_521 d x0 x1 x2 x3 h
    else if ia_ (h 10 x0.toNat x3.toNat) 63 = 10 then
      c_720_544 d x0 x1 x2 x3 h
    else if ia_ (h 10 x0.toNat x3.toNat) 63 = 11 then
      c_720_587 d x0 x1 x2 x3 h
    else if ia_ (h 10 x0.toNat x3.toNat) 63 = 12 then
      c_720_600 d x0 x1 x2 x3 h
    else if ia_ (h 10 x0.toNat x3.toNat) 63 = 13 then
      c_720_633 d x0 x1 x2 x3 h
    else if ia_ (h 10 x0.toNat x3.toNat) 63 = 14 then
      c_720_772 d x0 x1 x2 x3 h
    else if ia_ (h 10 x0.toNat x3.toNat) 63 = 15 then
      c_720_825 d x0 x1 x2 x3 h
    else if ia_ (h 10 x0.toNat x3.toNat) 63 = 16 then
      c_720_940 d x0 x1 x2 x3 h
    else if ia_ (h 10 x0.toNat x3.toNat) 63 = 17 then
      c_720_953 d x0 x1 x2 x3 h
    else if ia_ (h 10 x0.toNat x3.toNat) 63 = 18 then
      c_720_1016 d x0 x1 x2 x3 h
    else if ia_ (h 10 x0.toNat x3.toNat) 63 = 19 then
      c_720_1040 d x0 x1 x2 x3 h
    else if ia_ (h 10 x0.toNat x3.toNat) 63 = 20 then
      c_720_1063 d x0 x1 x2 x3 h
    else if ia_ (h 10 x0.toNat x3.toNat) 63 = 21 then
      c_720_1097 d x0 x1 x2 x3 h
    else if ia_ (h 10 x0.toNat x3.toNat) 63 = 22 then
      c_720_1110 d x0 x1 x2 x3 h
    else if ia_ (h 10 x0.toNat x3.toNat) 63 = 23 then
      c_720_1185 d x0 x1 x2 x3 h
    else if ia_ (h 10 x0.toNat x3.toNat) 63 = 24 then
      c_720_1219 d x0 x1 x2 x3 h
    else if ia_ (h 10 x0.toNat x3.toNat) 63 = 25 then
      c_720_1370 d x0 x1 x2 x3 h
    else if ia_ (h 10 x0.toNat x3.toNat) 63 = 26 then
      c_720_1384 d x0 x1 x2 x3 h
    else if ia_ (h 10 x0.toNat x3.toNat) 63 = 27 then
      c_720_1427 d x0 x1 x2 x3 h
    else if ia_ (h 10 x0.toNat x3.toNat) 63 = 28 then
      c_720_1480 d x0 x1 x2 x3 h
    else if ia_ (h 10 x0.toNat x3.toNat) 63 = 29 then
      c_720_1503 d x0 x1 x2 x3 h
    else if ia_ (h 10 x0.toNat x3.toNat) 63 = 30 then
      c_720_1552 d x0 x1 x2 x3 h
    else if ia_ (h 10 x0.toNat x3.toNat) 63 = 31 then
      c_720_1575 d x0 x1 x2 x3 h
    else if ia_ (h 10 x0.toNat x3.toNat) 63 = 32 then
      c_720_1608 d x0 x1 x2 x3 h
    else if ia_ (h 10 x0.toNat x3.toNat) 63 = 33 then
      c_720_1642 d x0 x1 x2 x3 h
    else if ia_ (h 10 x0.toNat x3.toNat) 63 = 34 then
      c_720_1675 d x0 x1 x2 x3 h
    else if ia_ (h 10 x0.toNat x3.toNat) 63 = 35 then
      c_720_1739 d x0 x1 x2 x3 h
    else if ia_ (h 10 x0.toNat x3.toNat) 63 = 36 then
      c_720_1762 d x0 x1 x2 x3 h
    else if ia_ (h 10 x0.toNat x3.toNat) 63 = 37 then
      c_720_1786 d x0 x1 x2 x3 h
    else if ia_ (h 10 x0.toNat x3.toNat) 63 = 38 then
      c_720_1820 d x0 x1 x2 x3 h
    else if ia_ (h 10 x0.toNat x3.toNat) 63 = 39 then
      c_720_1854 d x0 x1 x2 x3 h
    else if ia_ (h 10 x0.toNat x3.toNat) 63 = 40 then
      c_720_1877 d x0 x1 x2 x3 h
    else if ia_ (h 10 x0.toNat x3.toNat) 63 = 41 then
      c_720_1900 d x0 x1 x2 x3 h
    else if ia_ (h 10 x0.toNat x3.toNat) 63 = 42 then
      c_720_1953 d x0 x1 x2 x3 h
    else if ia_ (h 10 x0.toNat x3.toNat) 63 = 43 then
      c_720_1977 d x0 x1 x2 x3 h
    else if ia_ (h 10 x0.toNat x3.toNat) 63 = 44 then
      c_720_2030 d x0 x1 x2 x3 h
    else if ia_ (h 10 x0.toNat x3.toNat) 63 = 45 then
      c_720_2064 d x0 x1 x2 x3 h
    else if ia_ (h 10 x0.toNat x3.toNat) 63 = 46 then
      c_720_2107 d x0 x1 x2 x3 h
    else if ia_ (h 10 x0.toNat x3.toNat) 63 = 47 then
      c_720_2150 d x0 x1 x2 x3 h
    else if ia_ (h 10 x0.toNat x3.toNat) 63 = 48 then
      c_720_2173 d x0 x1 x2 x3 h
    else if ia_ (h 10 x0.toNat x3.toNat) 63 = 49 then
      c_720_2206 d x0 x1 x2 x3 h
    else if ia_ (h 10 x0.toNat x3.toNat) 63 = 50 then
      c_720_2249 d x0 x1 x2 x3 h
    else if ia_ (h 10 x0.toNat x3.toNat) 63 = 51 then
      c_720_2272 d x0 x1 x2 x3 h
    else if ia_ (h 10 x0.toNat x3.toNat) 63 = 52 then
      c_720_2347 d x0 x1 x2 x3 h
    else if ia_ (h 10 x0.toNat x3.toNat) 63 = 53 then
      c_720_2370 d x0 x1 x2 x3 h
    else 
      c_720_2393 d x0 x1 x2 x3 h
    else none
  else none := by
  unfold c_720_18
  exact
    have D : fk_D 720 [(18, some [0, 1, 2, 3], .iload_n 3, 1, 0, 0, 0), (19, none, .aload_n 0, 1, 0, 0, 0), (20, none, .arraylength, 1, 0, 0, 0), (21, none, .bipush 10, 2, 0, 10, 0), (23, none, .isub, 1, 0, 0, 0), (24, none, .if_icmp .gt 2375, 3, 2399, 0, 0), (27, none, .aload_n 0, 1, 0, 0, 0), (28, none, .iload_n 3, 1, 0, 0, 0), (29, none, .iaload, 1, 0, 0, 0), (30, none, .bipush 63, 2, 0, 63, 0), (32, none, .iand, 1, 0, 0, 0), (33, none, .tableswitch 2360 0 53 #[231, 294, 317, 330, 343, 366, 419, 432, 455, 488, 511, 554, 567, 600, 739, 792, 907, 920, 983, 1007, 1030, 1064, 1077, 1152, 1186, 1337, 1351, 1394, 1447, 1470, 1519, 1542, 1575, 1609, 1642, 1706, 1729, 1753, 1787, 1821, 1844, 1867, 1920, 1944, 1997, 2031, 2074, 2117, 2140, 2173, 2216, 2239, 2314, 2337], 231, 0, 0, 0)] := fq_of3 cd_720 ow_720 cl_720 rfl (pc := 18) (by decide +kernel)
    j_ildn (pc := 18) D rfl rfl rfl fun D =>
    j_aldn (pc := 19) D rfl rfl rfl fun D =>
    j_lenu (pc := 20) H.2.1 D rfl fun q D =>
    j_bp (pc := 21) D rfl fun D =>
    j_isub (pc := 23) D rfl fun D =>
    j_igt (pc := 24) D rfl (fun q =>
      have D : fk_D 720 [(2399, none, .iconst 1, 1, 0, 1, 0), (2400, none, .ireturn, 1, 0, 0, 0)] := fq_of2 cd_720 ow_720 cl_720 rfl (pc := 2399) (by decide +kernel)
      j_ic (pc := 2399) D rfl fun D =>
      j_zret D rt_720 (gy (by decide))) (fun q D =>
      j_aldn (pc := 27) D rfl rfl rfl fun D =>
      j_ildn (pc := 28) D rfl rfl rfl fun D =>
      j_alp (pc := 29) (e := 10) H.2.1 D rfl rfl ⟨rfl, rfl, rfl⟩ rfl fun q q2 D =>
      j_bp (pc := 30) D rfl fun D =>
      j_iand (pc := 32) D rfl fun D =>
      have N : fk_ni (ia_ (h 10 x0.toNat x3.toNat) 63) [] := trivial
      j_tc (pc := 33) 0 (t := 264) D N rfl (by decide +kernel) (fun q =>
        fk_jump cut_720_264 rfl rfl) (fun N =>
        j_tc 1 (t := 327) D N rfl (by decide +kernel) (fun q =>
          fk_jump cut_720_327 rfl rfl) (fun N =>
          j_tc 2 (t := 350) D N rfl (by decide +kernel) (fun q =>
            fk_jump cut_720_350 rfl rfl) (fun N =>
            j_tc 3 (t := 363) D N rfl (by decide +kernel) (fun q =>
              fk_jump cut_720_363 rfl rfl) (fun N =>
              j_tc 4 (t := 376) D N rfl (by decide +kernel) (fun q =>
                fk_jump cut_720_376 rfl rfl) (fun N =>
                j_tc 5 (t := 399) D N rfl (by decide +kernel) (fun q =>
                  fk_jump cut_720_399 rfl rfl) (fun N =>
                  j_tc 6 (t := 452) D N rfl (by decide +kernel) (fun q =>
                    fk_jump cut_720_452 rfl rfl) (fun N =>
                    j_tc 7 (t := 465) D N rfl (by decide +kernel) (fun q =>
                      fk_jump cut_720_465 rfl rfl) (fun N =>
                      j_tc 8 (t := 488) D N rfl (by decide +kernel) (fun q =>
                        fk_jump cut_720_488 rfl rfl) (fun N =>
                        j_tc 9 (t := 521) D N rfl (by decide +kernel) (fun q =>
                          fk_jump cut_720_521 rfl rfl) (fun N =>
                          j_tc 10 (t := 544) D N rfl (by decide +kernel) (fun q =>
                            fk_jump cut_720_544 rfl rfl) (fun N =>
                            j_tc 11 (t := 587) D N rfl (by decide +kernel) (fun q =>
                              fk_jump cut_720_587 rfl rfl) (fun N =>
                              j_tc 12 (t := 600) D N rfl (by decide +kernel) (fun q =>
                                fk_jump cut_720_600 rfl rfl) (fun N =>
                                j_tc 13 (t := 633) D N rfl (by decide +kernel) (fun q =>
                                  fk_jump cut_720_633 rfl rfl) (fun N =>
                                  j_tc 14 (t := 772) D N rfl (by decide +kernel) (fun q =>
                                    fk_jump cut_720_772 rfl rfl) (fun N =>
                                    j_tc 15 (t := 825) D N rfl (by decide +kernel) (fun q =>
                                      fk_jump cut_720_825 rfl rfl) (fun N =>
                                      j_tc 16 (t := 940) D N rfl (by decide +kernel) (fun q =>
                                        fk_jump cut_720_940 rfl rfl) (fun N =>
                                        j_tc 17 (t := 953) D N rfl (by decide +kernel) (fun q =>
                                          fk_jump cut_720_953 rfl rfl) (fun N =>
                                          j_tc 18 (t := 1016) D N rfl (by decide +kernel) (fun q =>
                                            fk_jump cut_720_1016 rfl rfl) (fun N =>
                                            j_tc 19 (t := 1040) D N rfl (by decide +kernel) (fun q =>
                                              fk_jump cut_720_1040 rfl rfl) (fun N =>
                                              j_tc 20 (t := 1063) D N rfl (by decide +kernel) (fun q =>
                                                fk_jump cut_720_1063 rfl rfl) (fun N =>
                                                j_tc 21 (t := 1097) D N rfl (by decide +kernel) (fun q =>
                                                  fk_jump cut_720_1097 rfl rfl) (fun N =>
                                                  j_tc 22 (t := 1110) D N rfl (by decide +kernel) (fun q =>
                                                    fk_jump cut_720_1110 rfl rfl) (fun N =>
                                                    j_tc 23 (t := 1185) D N rfl (by decide +kernel) (fun q =>
                                                      fk_jump cut_720_1185 rfl rfl) (fun N =>
                                                      j_tc 24 (t := 1219) D N rfl (by decide +kernel) (fun q =>
                                                        fk_jump cut_720_1219 rfl rfl) (fun N =>
                                                        j_tc 25 (t := 1370) D N rfl (by decide +kernel) (fun q =>
                                                          fk_jump cut_720_1370 rfl rfl) (fun N =>
                                                          j_tc 26 (t := 1384) D N rfl (by decide +kernel) (fun q =>
                                                            fk_jump cut_720_1384 rfl rfl) (fun N =>
                                                            j_tc 27 (t := 1427) D N rfl (by decide +kernel) (fun q =>
                                                              fk_jump cut_720_1427 rfl rfl) (fun N =>
                                                              j_tc 28 (t := 1480) D N rfl (by decide +kernel) (fun q =>
                                                                fk_jump cut_720_1480 rfl rfl) (fun N =>
                                                                j_tc 29 (t := 1503) D N rfl (by decide +kernel) (fun q =>
                                                                  fk_jump cut_720_1503 rfl rfl) (fun N =>
                                                                  j_tc 30 (t := 1552) D N rfl (by decide +kernel) (fun q =>
                                                                    fk_jump cut_720_1552 rfl rfl) (fun N =>
                                                                    j_tc 31 (t := 1575) D N rfl (by decide +kernel) (fun q =>
                                                                      fk_jump cut_720_1575 rfl rfl) (fun N =>
                                                                      j_tc 32 (t := 1608) D N rfl (by decide +kernel) (fun q =>
                                                                        fk_jump cut_720_1608 rfl rfl) (fun N =>
                                                                        j_tc 33 (t := 1642) D N rfl (by decide +kernel) (fun q =>
                                                                          fk_jump cut_720_1642 rfl rfl) (fun N =>
                                                                          j_tc 34 (t := 1675) D N rfl (by decide +kernel) (fun q =>
                                                                            fk_jump cut_720_1675 rfl rfl) (fun N =>
                                                                            j_tc 35 (t := 1739) D N rfl (by decide +kernel) (fun q =>
                                                                              fk_jump cut_720_1739 rfl rfl) (fun N =>
                                                                              j_tc 36 (t := 1762) D N rfl (by decide +kernel) (fun q =>
                                                                                fk_jump cut_720_1762 rfl rfl) (fun N =>
                                                                                j_tc 37 (t := 1786) D N rfl (by decide +kernel) (fun q =>
                                                                                  fk_jump cut_720_1786 rfl rfl) (fun N =>
                                                                                  j_tc 38 (t := 1820) D N rfl (by decide +kernel) (fun q =>
                                                                                    fk_jump cut_720_1820 rfl rfl) (fun N =>
                                                                                    j_tc 39 (t := 1854) D N rfl (by decide +kernel) (fun q =>
                                                                                      fk_jump cut_720_1854 rfl rfl) (fun N =>
                                                                                      j_tc 40 (t := 1877) D N rfl (by decide +kernel) (fun q =>
                                                                                        fk_jump cut_720_1877 rfl rfl) (fun N =>
                                                                                        j_tc 41 (t := 1900) D N rfl (by decide +kernel) (fun q =>
                                                                                          fk_jump cut_720_1900 rfl rfl) (fun N =>
                                                                                          j_tc 42 (t := 1953) D N rfl (by decide +kernel) (fun q =>
                                                                                            fk_jump cut_720_1953 rfl rfl) (fun N =>
                                                                                            j_tc 43 (t := 1977) D N rfl (by decide +kernel) (fun q =>
                                                                                              fk_jump cut_720_1977 rfl rfl) (fun N =>
                                                                                              j_tc 44 (t := 2030) D N rfl (by decide +kernel) (fun q =>
                                                                                                fk_jump cut_720_2030 rfl rfl) (fun N =>
                                                                                                j_tc 45 (t := 2064) D N rfl (by decide +kernel) (fun q =>
                                                                                                  fk_jump cut_720_2064 rfl rfl) (fun N =>
                                                                                                  j_tc 46 (t := 2107) D N rfl (by decide +kernel) (fun q =>
                                                                                                    fk_jump cut_720_2107 rfl rfl) (fun N =>
                                                                                                    j_tc 47 (t := 2150) D N rfl (by decide +kernel) (fun q =>
                                                                                                      fk_jump cut_720_2150 rfl rfl) (fun N =>
                                                                                                      j_tc 48 (t := 2173) D N rfl (by decide +kernel) (fun q =>
                                                                                                        fk_jump cut_720_2173 rfl rfl) (fun N =>
                                                                                                        j_tc 49 (t := 2206) D N rfl (by decide +kernel) (fun q =>
                                                                                                          fk_jump cut_720_2206 rfl rfl) (fun N =>
                                                                                                          j_tc 50 (t := 2249) D N rfl (by decide +kernel) (fun q =>
                                                                                                            fk_jump cut_720_2249 rfl rfl) (fun N =>
                                                                                                            j_tc 51 (t := 2272) D N rfl (by decide +kernel) (fun q =>
                                                                                                              fk_jump cut_720_2272 rfl rfl) (fun N =>
                                                                                                              j_tc 52 (t := 2347) D N rfl (by decide +kernel) (fun q =>
                                                                                                                fk_jump cut_720_2347 rfl rfl) (fun N =>
                                                                                                                j_tc 53 (t := 2370) D N rfl (by decide +kernel) (fun q =>
                                                                                                                  fk_jump cut_720_2370 rfl rfl) (fun N =>
                                                                                                                  j_td (t := 2393) D N rfl (by decide +kernel) (by decide +kernel) <|
                                                                                                                  fk_jump cut_720_2393 rfl rfl)))))))))))))))))))))))))))))))))))))))))))))))))))))))
theorem e_720_264 (d : Nat) (x0 x1 x2 x3 : Int) {h : fi_H} (H : Shp h) : c_720_264 d x0 x1 x2 x3 h =
  if h 0 x0.toNat 0 = 10 ∧ 0 ≤ wI (x3 + 1) ∧ wI (x3 + 1) < h 1 x0.toNat 0 then
  if h 0 x0.toNat 0 = 10 ∧ 0 ≤ wI (x3 + 2) ∧ wI (x3 + 2) < h 1 x0.toNat 0 then
  if h 0 x0.toNat 0 = 10 ∧ 0 ≤ wI (x3 + 3) ∧ wI (x3 + 3) < h 1 x0.toNat 0 then
  if h 0 x0.toNat 0 = 10 ∧ 0 ≤ wI (x3 + 4) ∧ wI (x3 + 4) < h 1 x0.toNat 0 then
  if h 0 x0.toNat 0 = 10 ∧ 0 ≤ wI (x3 + 5) ∧ wI (x3 + 5) < h 1 x0.toNat 0 then
  dv_ (fi_vt 0 (h 0 x1.toNat 0)) fun m4 => ca_ (fj_run d m4 h [(4, x1), (0, h 10 x0.toNat (wI (x3 + 1)).toNat), (0, h 10 x0.toNat (wI (x3 + 2)).toNat), (0, h 10 x0.toNat (wI (x3 + 3)).toNat), (0, h 10 x0.toNat (wI (x3 + 4)).toNat), (0, h 10 x0.toNat (wI (x3 + 5)).toNat)]) 0
    (fun v2 h1 =>
    if h1 0 x0.toNat 0 = 10 ∧ 0 ≤ wI (x3 + 1) ∧ wI (x3 + 1) < h1 1 x0.toNat 0 then
    if h1 0 x0.toNat 0 = 10 ∧ 0 ≤ wI (x3 + 2) ∧ wI (x3 + 2) < h1 1 x0.toNat 0 then
    if h1 0 x0.toNat 0 = 10 ∧ 0 ≤ wI (x3 + 3) ∧ wI (x3 + 3) < h1 1 x0.toNat 0 then
    if h1 0 x0.toNat 0 = 10 ∧ 0 ≤ wI (x3 + 4) ∧ wI (x3 + 4) < h1 1 x0.toNat 0 then
    if h1 0 x0.toNat 0 = 10 ∧ 0 ≤ wI (x3 + 5) ∧ wI (x3 + 5) < h1 1 x0.toNat 0 then
    dv_ (fi_vt 1 (h1 0 x2.toNat 0)) fun m8 => ca_ (fj_run d m8 h1 [(4, x2), (0, h1 10 x0.toNat (wI (x3 + 1)).toNat), (0, h1 10 x0.toNat (wI (x3 + 2)).toNat), (0, h1 10 x0.toNat (wI (x3 + 3)).toNat), (0, h1 10 x0.toNat (wI (x3 + 4)).toNat), (0, h1 10 x0.toNat (wI (x3 + 5)).toNat)]) 0
      (fun v6 h5 =>
      if v2 = v6 then
        c_720_2393 d x0 x1 x2 x3 h5
      else
        some (.inl (some (0, 0)), h5))
      (fun q7 h5 => tx_ q7 h5)
    else none
    else none
    else none
    else none
    else none)
    (fun q3 h1 => tx_ q3 h1)
  else none
  else none
  else none
  else none
  else none := by
  unfold c_720_264
  exact
    have D : fk_D 720 [(264, some [0, 1, 2, 3], .aload_n 1, 1, 0, 0, 0), (265, none, .aload_n 0, 1, 0, 0, 0), (266, none, .iload_n 3, 1, 0, 0, 0), (267, none, .iconst 1, 1, 0, 1, 0), (268, none, .iadd, 1, 0, 0, 0), (269, none, .iaload, 1, 0, 0, 0), (270, none, .aload_n 0, 1, 0, 0, 0), (271, none, .iload_n 3, 1, 0, 0, 0), (272, none, .iconst 2, 1, 0, 2, 0), (273, none, .iadd, 1, 0, 0, 0), (274, none, .iaload, 1, 0, 0, 0), (275, none, .aload_n 0, 1, 0, 0, 0), (276, none, .iload_n 3, 1, 0, 0, 0), (277, none, .iconst 3, 1, 0, 3, 0), (278, none, .iadd, 1, 0, 0, 0), (279, none, .iaload, 1, 0, 0, 0), (280, none, .aload_n 0, 1, 0, 0, 0), (281, none, .iload_n 3, 1, 0, 0, 0), (282, none, .iconst 4, 1, 0, 4, 0), (283, none, .iadd, 1, 0, 0, 0)] := fq_of2 cd_720 ow_720 cl_720 rfl (pc := 264) (by decide +kernel)
    j_aldn (pc := 264) D rfl rfl rfl fun D =>
    j_aldn (pc := 265) D rfl rfl rfl fun D =>
    j_ildn (pc := 266) D rfl rfl rfl fun D =>
    j_ic (pc := 267) D rfl fun D =>
    j_iadd (pc := 268) D rfl fun D =>
    j_alp (pc := 269) (e := 10) H.2.1 D rfl rfl ⟨rfl, rfl, rfl⟩ rfl fun q q2 D =>
    j_aldn (pc := 270) D rfl rfl rfl fun D =>
    j_ildn (pc := 271) D rfl rfl rfl fun D =>
    j_ic (pc := 272) D rfl fun D =>
    j_iadd (pc := 273) D rfl fun D =>
    j_alp (pc := 274) (e := 10) H.2.1 D rfl rfl ⟨rfl, rfl, rfl⟩ rfl fun q q2 D =>
    j_aldn (pc := 275) D rfl rfl rfl fun D =>
    j_ildn (pc := 276) D rfl rfl rfl fun D =>
    j_ic (pc := 277) D rfl fun D =>
    j_iadd (pc := 278) D rfl fun D =>
    j_alp (pc := 279) (e := 10) H.2.1 D rfl rfl ⟨rfl, rfl, rfl⟩ rfl fun q q2 D =>
    j_aldn (pc := 280) D rfl rfl rfl fun D =>
    j_ildn (pc := 281) D rfl rfl rfl fun D =>
    j_ic (pc := 282) D rfl fun D =>
    j_iadd (pc := 283) D rfl fun D =>
    have D : fk_D 720 [(284, none, .iaload, 1, 0, 0, 0), (285, none, .aload_n 0, 1, 0, 0, 0), (286, none, .iload_n 3, 1, 0, 0, 0), (287, none, .iconst 5, 1, 0, 5, 0), (288, none, .iadd, 1, 0, 0, 0), (289, none, .iaload, 1, 0, 0, 0), (290, none, .invokevirtual 13, 3, 5, 0, 1), (293, none, .aload_n 2, 1, 0, 0, 0), (294, none, .aload_n 0, 1, 0, 0, 0), (295, none, .iload_n 3, 1, 0, 0, 0), (296, none, .iconst 1, 1, 0, 1, 0), (297, none, .iadd, 1, 0, 0, 0), (298, none, .iaload, 1, 0, 0, 0), (299, none, .aload_n 0, 1, 0, 0, 0), (300, none, .iload_n 3, 1, 0, 0, 0), (301, none, .iconst 2, 1, 0, 2, 0), (302, none, .iadd, 1, 0, 0, 0), (303, none, .iaload, 1, 0, 0, 0), (304, none, .aload_n 0, 1, 0, 0, 0), (305, none, .iload_n 3, 1, 0, 0, 0)] := fq_of2 cd_720 ow_720 cl_720 rfl (pc := 284) (by decide +kernel)
    j_alp (pc := 284) (e := 10) H.2.1 D rfl rfl ⟨rfl, rfl, rfl⟩ rfl fun q q2 D =>
    j_aldn (pc := 285) D rfl rfl rfl fun D =>
    j_ildn (pc := 286) D rfl rfl rfl fun D =>
    j_ic (pc := 287) D rfl fun D =>
    j_iadd (pc := 288) D rfl fun D =>
    j_alp (pc := 289) (e := 10) H.2.1 D rfl rfl ⟨rfl, rfl, rfl⟩ rfl fun q q2 D =>
    j_ivu (pc := 290) (dd := 0) (a := [(0, h 10 x0.toNat (wI (x3 + 1)).toNat), (0, h 10 x0.toNat (wI (x3 + 2)).toNat), (0, h 10 x0.toNat (wI (x3 + 3)).toNat), (0, h 10 x0.toNat (wI (x3 + 4)).toNat), (0, h 10 x0.toNat (wI (x3 + 5)).toNat)]) (rest := []) H.2.1 D rfl rfl rfl rfl rfl (fun m4 v2 h1 e1 D =>
      have T := fj_run_ok _ _ _ _ _ _ H.1 e1
      have H := shp_st H T
      j_aldn (pc := 293) D rfl rfl rfl fun D =>
      j_aldn (pc := 294) D rfl rfl rfl fun D =>
      j_ildn (pc := 295) D rfl rfl rfl fun D =>
      j_ic (pc := 296) D rfl fun D =>
      j_iadd (pc := 297) D rfl fun D =>
      j_alp (pc := 298) (e := 10) H.2.1 D rfl rfl ⟨rfl, rfl, rfl⟩ rfl fun q q2 D =>
      j_aldn (pc := 299) D rfl rfl rfl fun D =>
      j_ildn (pc := 300) D rfl rfl rfl fun D =>
      j_ic (pc := 301) D rfl fun D =>
      j_iadd (pc := 302) D rfl fun D =>
      j_alp (pc := 303) (e := 10) H.2.1 D rfl rfl ⟨rfl, rfl, rfl⟩ rfl fun q q2 D =>
      j_aldn (pc := 304) D rfl rfl rfl fun D =>
      j_ildn (pc := 305) D rfl rfl rfl fun D =>
      have D : fk_D 720 [(306, none, .iconst 3, 1, 0, 3, 0), (307, none, .iadd, 1, 0, 0, 0), (308, none, .iaload, 1, 0, 0, 0), (309, none, .aload_n 0, 1, 0, 0, 0), (310, none, .iload_n 3, 1, 0, 0, 0), (311, none, .iconst 4, 1, 0, 4, 0), (312, none, .iadd, 1, 0, 0, 0), (313, none, .iaload, 1, 0, 0, 0), (314, none, .aload_n 0, 1, 0, 0, 0), (315, none, .iload_n 3, 1, 0, 0, 0), (316, none, .iconst 5, 1, 0, 5, 0), (317, none, .iadd, 1, 0, 0, 0), (318, none, .iaload, 1, 0, 0, 0), (319, none, .invokevirtual 17, 3, 5, 1, 1), (322, none, .if_icmp .eq 2071, 3, 2393, 0, 0), (325, none, .iconst 0, 1, 0, 0, 0), (326, none, .ireturn, 1, 0, 0, 0)] := fq_of2 cd_720 ow_720 cl_720 rfl (pc := 306) (by decide +kernel)
      j_ic (pc := 306) D rfl fun D =>
      j_iadd (pc := 307) D rfl fun D =>
      j_alp (pc := 308) (e := 10) H.2.1 D rfl rfl ⟨rfl, rfl, rfl⟩ rfl fun q q2 D =>
      j_aldn (pc := 309) D rfl rfl rfl fun D =>
      j_ildn (pc := 310) D rfl rfl rfl fun D =>
      j_ic (pc := 311) D rfl fun D =>
      j_iadd (pc := 312) D rfl fun D =>
      j_alp (pc := 313) (e := 10) H.2.1 D rfl rfl ⟨rfl, rfl, rfl⟩ rfl fun q q2 D =>
      j_aldn (pc := 314) D rfl rfl rfl fun D =>
      j_ildn (pc := 315) D rfl rfl rfl fun D =>
      j_ic (pc := 316) D rfl fun D =>
      j_iadd (pc := 317) D rfl fun D =>
      j_alp (pc := 318) (e := 10) H.2.1 D rfl rfl ⟨rfl, rfl, rfl⟩ rfl fun q q2 D =>
      j_ivu (pc := 319) (dd := 1) (a := [(0, h1 10 x0.toNat (wI (x3 + 1)).toNat), (0, h1 10 x0.toNat (wI (x3 + 2)).toNat), (0, h1 10 x0.toNat (wI (x3 + 3)).toNat), (0, h1 10 x0.toNat (wI (x3 + 4)).toNat), (0, h1 10 x0.toNat (wI (x3 + 5)).toNat)]) (rest := [(0, v2)]) H.2.1 D rfl rfl rfl rfl rfl (fun m8 v6 h5 e1 D =>
        have T := fj_run_ok _ _ _ _ _ _ H.1 e1
        have H := shp_st H T
        j_ieq (pc := 322) D rfl (fun q =>
          fk_jump cut_720_2393 rfl rfl) (fun q D =>
          j_ic (pc := 325) D rfl fun D =>
          j_zret D rt_720 (gy (by decide)))) (fun m8 q7 h5 e1 =>
        j_tx (hx_720 _))) (fun m4 q3 h1 e1 =>
      j_tx (hx_720 _))
theorem e_720_327 (d : Nat) (x0 x1 x2 x3 : Int) {h : fi_H} (H : Shp h) : c_720_327 d x0 x1 x2 x3 h =
  if h 0 x0.toNat 0 = 10 ∧ 0 ≤ wI (x3 + 1) ∧ wI (x3 + 1) < h 1 x0.toNat 0 then
  dv_ (fi_vt 2 (h 0 x1.toNat 0)) fun m4 => ca_ (fj_run d m4 h [(4, x1), (0, h 10 x0.toNat (wI (x3 + 1)).toNat)]) 0
    (fun v2 h1 =>
    if h1 0 x0.toNat 0 = 10 ∧ 0 ≤ wI (x3 + 1) ∧ wI (x3 + 1) < h1 1 x0.toNat 0 then
    dv_ (fi_vt 3 (h1 0 x2.toNat 0)) fun m8 => ca_ (fj_run d m8 h1 [(4, x2), (0, h1 10 x0.toNat (wI (x3 + 1)).toNat)]) 0
      (fun v6 h5 =>
      if v2 = v6 then
        c_720_2393 d x0 x1 x2 x3 h5
      else
        some (.inl (some (0, 0)), h5))
      (fun q7 h5 => tx_ q7 h5)
    else none)
    (fun q3 h1 => tx_ q3 h1)
  else none := by
  unfold c_720_327
  exact
    have D : fk_D 720 [(327, some [0, 1, 2, 3], .aload_n 1, 1, 0, 0, 0), (328, none, .aload_n 0, 1, 0, 0, 0), (329, none, .iload_n 3, 1, 0, 0, 0), (330, none, .iconst 1, 1, 0, 1, 0), (331, none, .iadd, 1, 0, 0, 0), (332, none, .iaload, 1, 0, 0, 0), (333, none, .invokevirtual 18, 3, 1, 2, 1), (336, none, .aload_n 2, 1, 0, 0, 0), (337, none, .aload_n 0, 1, 0, 0, 0), (338, none, .iload_n 3, 1, 0, 0, 0), (339, none, .iconst 1, 1, 0, 1, 0), (340, none, .iadd, 1, 0, 0, 0), (341, none, .iaload, 1, 0, 0, 0), (342, none, .invokevirtual 22, 3, 1, 3, 1), (345, none, .if_icmp .eq 2048, 3, 2393, 0, 0), (348, none, .iconst 0, 1, 0, 0, 0), (349, none, .ireturn, 1, 0, 0, 0)] := fq_of2 cd_720 ow_720 cl_720 rfl (pc := 327) (by decide +kernel)
    j_aldn (pc := 327) D rfl rfl rfl fun D =>
    j_aldn (pc := 328) D rfl rfl rfl fun D =>
    j_ildn (pc := 329) D rfl rfl rfl fun D =>
    j_ic (pc := 330) D rfl fun D =>
    j_iadd (pc := 331) D rfl fun D =>
    j_alp (pc := 332) (e := 10) H.2.1 D rfl rfl ⟨rfl, rfl, rfl⟩ rfl fun q q2 D =>
    j_ivu (pc := 333) (dd := 2) (a := [(0, h 10 x0.toNat (wI (x3 + 1)).toNat)]) (rest := []) H.2.1 D rfl rfl rfl rfl rfl (fun m4 v2 h1 e1 D =>
      have T := fj_run_ok _ _ _ _ _ _ H.1 e1
      have H := shp_st H T
      j_aldn (pc := 336) D rfl rfl rfl fun D =>
      j_aldn (pc := 337) D rfl rfl rfl fun D =>
      j_ildn (pc := 338) D rfl rfl rfl fun D =>
      j_ic (pc := 339) D rfl fun D =>
      j_iadd (pc := 340) D rfl fun D =>
      j_alp (pc := 341) (e := 10) H.2.1 D rfl rfl ⟨rfl, rfl, rfl⟩ rfl fun q q2 D =>
      j_ivu (pc := 342) (dd := 3) (a := [(0, h1 10 x0.toNat (wI (x3 + 1)).toNat)]) (rest := [(0, v2)]) H.2.1 D rfl rfl rfl rfl rfl (fun m8 v6 h5 e1 D =>
        have T := fj_run_ok _ _ _ _ _ _ H.1 e1
        have H := shp_st H T
        j_ieq (pc := 345) D rfl (fun q =>
          fk_jump cut_720_2393 rfl rfl) (fun q D =>
          j_ic (pc := 348) D rfl fun D =>
          j_zret D rt_720 (gy (by decide)))) (fun m8 q7 h5 e1 =>
        j_tx (hx_720 _))) (fun m4 q3 h1 e1 =>
      j_tx (hx_720 _))
theorem e_720_350 (d : Nat) (x0 x1 x2 x3 : Int) {h : fi_H} (H : Shp h) : c_720_350 d x0 x1 x2 x3 h =
  dv_ (fi_vt 4 (h 0 x1.toNat 0)) fun m4 => ca_ (fj_run d m4 h [(4, x1)]) 0
    (fun v2 h1 =>
    dv_ (fi_vt 5 (h1 0 x2.toNat 0)) fun m8 => ca_ (fj_run d m8 h1 [(4, x2)]) 0
      (fun v6 h5 =>
      if v2 = v6 then
        c_720_2393 d x0 x1 x2 x3 h5
      else
        some (.inl (some (0, 0)), h5))
      (fun q7 h5 => tx_ q7 h5))
    (fun q3 h1 => tx_ q3 h1) := by
  unfold c_720_350
  exact
    have D : fk_D 720 [(350, some [0, 1, 2, 3], .aload_n 1, 1, 0, 0, 0), (351, none, .invokevirtual 23, 3, 0, 4, 1), (354, none, .aload_n 2, 1, 0, 0, 0), (355, none, .invokevirtual 27, 3, 0, 5, 1), (358, none, .if_icmp .eq 2035, 3, 2393, 0, 0), (361, none, .iconst 0, 1, 0, 0, 0), (362, none, .ireturn, 1, 0, 0, 0)] := fq_of2 cd_720 ow_720 cl_720 rfl (pc := 350) (by decide +kernel)
    j_aldn (pc := 350) D rfl rfl rfl fun D =>
    j_ivu (pc := 351) (dd := 4) (a := []) (rest := []) H.2.1 D rfl rfl rfl rfl rfl (fun m4 v2 h1 e1 D =>
      have T := fj_run_ok _ _ _ _ _ _ H.1 e1
      have H := shp_st H T
      j_aldn (pc := 354) D rfl rfl rfl fun D =>
      j_ivu (pc := 355) (dd := 5) (a := []) (rest := [(0, v2)]) H.2.1 D rfl rfl rfl rfl rfl (fun m8 v6 h5 e1 D =>
        have T := fj_run_ok _ _ _ _ _ _ H.1 e1
        have H := shp_st H T
        j_ieq (pc := 358) D rfl (fun q =>
          fk_jump cut_720_2393 rfl rfl) (fun q D =>
          j_ic (pc := 361) D rfl fun D =>
          j_zret D rt_720 (gy (by decide)))) (fun m8 q7 h5 e1 =>
        j_tx (hx_720 _))) (fun m4 q3 h1 e1 =>
      j_tx (hx_720 _))
theorem e_720_363 (d : Nat) (x0 x1 x2 x3 : Int) {h : fi_H} (H : Shp h) : c_720_363 d x0 x1 x2 x3 h =
  dv_ (fi_vt 6 (h 0 x1.toNat 0)) fun m4 => ca_ (fj_run d m4 h [(4, x1)]) 0
    (fun v2 h1 =>
    dv_ (fi_vt 7 (h1 0 x2.toNat 0)) fun m8 => ca_ (fj_run d m8 h1 [(4, x2)]) 0
      (fun v6 h5 =>
      if v2 = v6 then
        c_720_2393 d x0 x1 x2 x3 h5
      else
        some (.inl (some (0, 0)), h5))
      (fun q7 h5 => tx_ q7 h5))
    (fun q3 h1 => tx_ q3 h1) := by
  unfold c_720_363
  exact
    have D : fk_D 720 [(363, some [0, 1, 2, 3], .aload_n 1, 1, 0, 0, 0), (364, none, .invokevirtual 28, 3, 0, 6, 1), (367, none, .aload_n 2, 1, 0, 0, 0), (368, none, .invokevirtual 31, 3, 0, 7, 1), (371, none, .if_icmp .eq 2022, 3, 2393, 0, 0), (374, none, .iconst 0, 1, 0, 0, 0), (375, none, .ireturn, 1, 0, 0, 0)] := fq_of2 cd_720 ow_720 cl_720 rfl (pc := 363) (by decide +kernel)
    j_aldn (pc := 363) D rfl rfl rfl fun D =>
    j_ivu (pc := 364) (dd := 6) (a := []) (rest := []) H.2.1 D rfl rfl rfl rfl rfl (fun m4 v2 h1 e1 D =>
      have T := fj_run_ok _ _ _ _ _ _ H.1 e1
      have H := shp_st H T
      j_aldn (pc := 367) D rfl rfl rfl fun D =>
      j_ivu (pc := 368) (dd := 7) (a := []) (rest := [(0, v2)]) H.2.1 D rfl rfl rfl rfl rfl (fun m8 v6 h5 e1 D =>
        have T := fj_run_ok _ _ _ _ _ _ H.1 e1
        have H := shp_st H T
        j_ieq (pc := 371) D rfl (fun q =>
          fk_jump cut_720_2393 rfl rfl) (fun q D =>
          j_ic (pc := 374) D rfl fun D =>
          j_zret D rt_720 (gy (by decide)))) (fun m8 q7 h5 e1 =>
        j_tx (hx_720 _))) (fun m4 q3 h1 e1 =>
      j_tx (hx_720 _))
theorem e_720_376 (d : Nat) (x0 x1 x2 x3 : Int) {h : fi_H} (H : Shp h) : c_720_376 d x0 x1 x2 x3 h =
  if h 0 x0.toNat 0 = 10 ∧ 0 ≤ wI (x3 + 1) ∧ wI (x3 + 1) < h 1 x0.toNat 0 then
  dv_ (fi_vt 8 (h 0 x1.toNat 0)) fun m4 => ca_ (fj_run d m4 h [(4, x1), (0, h 10 x0.toNat (wI (x3 + 1)).toNat)]) 0
    (fun v2 h1 =>
    if h1 0 x0.toNat 0 = 10 ∧ 0 ≤ wI (x3 + 1) ∧ wI (x3 + 1) < h1 1 x0.toNat 0 then
    dv_ (fi_vt 9 (h1 0 x2.toNat 0)) fun m8 => ca_ (fj_run d m8 h1 [(4, x2), (0, h1 10 x0.toNat (wI (x3 + 1)).toNat)]) 0
      (fun v6 h5 =>
      if v2 = v6 then
        c_720_2393 d x0 x1 x2 x3 h5
      else
        some (.inl (some (0, 0)), h5))
      (fun q7 h5 => tx_ q7 h5)
    else none)
    (fun q3 h1 => tx_ q3 h1)
  else none := by
  unfold c_720_376
  exact
    have D : fk_D 720 [(376, some [0, 1, 2, 3], .aload_n 1, 1, 0, 0, 0), (377, none, .aload_n 0, 1, 0, 0, 0), (378, none, .iload_n 3, 1, 0, 0, 0), (379, none, .iconst 1, 1, 0, 1, 0), (380, none, .iadd, 1, 0, 0, 0), (381, none, .iaload, 1, 0, 0, 0), (382, none, .invokevirtual 32, 3, 1, 8, 1), (385, none, .aload_n 2, 1, 0, 0, 0), (386, none, .aload_n 0, 1, 0, 0, 0), (387, none, .iload_n 3, 1, 0, 0, 0), (388, none, .iconst 1, 1, 0, 1, 0), (389, none, .iadd, 1, 0, 0, 0), (390, none, .iaload, 1, 0, 0, 0), (391, none, .invokevirtual 35, 3, 1, 9, 1), (394, none, .if_icmp .eq 1999, 3, 2393, 0, 0), (397, none, .iconst 0, 1, 0, 0, 0), (398, none, .ireturn, 1, 0, 0, 0)] := fq_of2 cd_720 ow_720 cl_720 rfl (pc := 376) (by decide +kernel)
    j_aldn (pc := 376) D rfl rfl rfl fun D =>
    j_aldn (pc := 377) D rfl rfl rfl fun D =>
    j_ildn (pc := 378) D rfl rfl rfl fun D =>
    j_ic (pc := 379) D rfl fun D =>
    j_iadd (pc := 380) D rfl fun D =>
    j_alp (pc := 381) (e := 10) H.2.1 D rfl rfl ⟨rfl, rfl, rfl⟩ rfl fun q q2 D =>
    j_ivu (pc := 382) (dd := 8) (a := [(0, h 10 x0.toNat (wI (x3 + 1)).toNat)]) (rest := []) H.2.1 D rfl rfl rfl rfl rfl (fun m4 v2 h1 e1 D =>
      have T := fj_run_ok _ _ _ _ _ _ H.1 e1
      have H := shp_st H T
      j_aldn (pc := 385) D rfl rfl rfl fun D =>
      j_aldn (pc := 386) D rfl rfl rfl fun D =>
      j_ildn (pc := 387) D rfl rfl rfl fun D =>
      j_ic (pc := 388) D rfl fun D =>
      j_iadd (pc := 389) D rfl fun D =>
      j_alp (pc := 390) (e := 10) H.2.1 D rfl rfl ⟨rfl, rfl, rfl⟩ rfl fun q q2 D =>
      j_ivu (pc := 391) (dd := 9) (a := [(0, h1 10 x0.toNat (wI (x3 + 1)).toNat)]) (rest := [(0, v2)]) H.2.1 D rfl rfl rfl rfl rfl (fun m8 v6 h5 e1 D =>
        have T := fj_run_ok _ _ _ _ _ _ H.1 e1
        have H := shp_st H T
        j_ieq (pc := 394) D rfl (fun q =>
          fk_jump cut_720_2393 rfl rfl) (fun q D =>
          j_ic (pc := 397) D rfl fun D =>
          j_zret D rt_720 (gy (by decide)))) (fun m8 q7 h5 e1 =>
        j_tx (hx_720 _))) (fun m4 q3 h1 e1 =>
      j_tx (hx_720 _))
theorem e_720_399 (d : Nat) (x0 x1 x2 x3 : Int) {h : fi_H} (H : Shp h) : c_720_399 d x0 x1 x2 x3 h =
  if h 0 x0.toNat 0 = 10 ∧ 0 ≤ wI (x3 + 1) ∧ wI (x3 + 1) < h 1 x0.toNat 0 then
  if h 0 x0.toNat 0 = 10 ∧ 0 ≤ wI (x3 + 2) ∧ wI (x3 + 2) < h 1 x0.toNat 0 then
  if h 0 x0.toNat 0 = 10 ∧ 0 ≤ wI (x3 + 3) ∧ wI (x3 + 3) < h 1 x0.toNat 0 then
  if h 0 x0.toNat 0 = 10 ∧ 0 ≤ wI (x3 + 4) ∧ wI (x3 + 4) < h 1 x0.toNat 0 then
  dv_ (fi_vt 10 (h 0 x1.toNat 0)) fun m4 => ca_ (fj_run d m4 h [(4, x1), (0, h 10 x0.toNat (wI (x3 + 1)).toNat), (0, h 10 x0.toNat (wI (x3 + 2)).toNat), (0, h 10 x0.toNat (wI (x3 + 3)).toNat), (0, h 10 x0.toNat (wI (x3 + 4)).toNat)]) 0
    (fun v2 h1 =>
    if h1 0 x0.toNat 0 = 10 ∧ 0 ≤ wI (x3 + 1) ∧ wI (x3 + 1) < h1 1 x0.toNat 0 then
    if h1 0 x0.toNat 0 = 10 ∧ 0 ≤ wI (x3 + 2) ∧ wI (x3 + 2) < h1 1 x0.toNat 0 then
    if h1 0 x0.toNat 0 = 10 ∧ 0 ≤ wI (x3 + 3) ∧ wI (x3 + 3) < h1 1 x0.toNat 0 then
    if h1 0 x0.toNat 0 = 10 ∧ 0 ≤ wI (x3 + 4) ∧ wI (x3 + 4) < h1 1 x0.toNat 0 then
    dv_ (fi_vt 11 (h1 0 x2.toNat 0)) fun m8 => ca_ (fj_run d m8 h1 [(4, x2), (0, h1 10 x0.toNat (wI (x3 + 1)).toNat), (0, h1 10 x0.toNat (wI (x3 + 2)).toNat), (0, h1 10 x0.toNat (wI (x3 + 3)).toNat), (0, h1 10 x0.toNat (wI (x3 + 4)).toNat)]) 0
      (fun v6 h5 =>
      if v2 = v6 then
        c_720_2393 d x0 x1 x2 x3 h5
      else
        some (.inl (some (0, 0)), h5))
      (fun q7 h5 => tx_ q7 h5)
    else none
    else none
    else none
    else none)
    (fun q3 h1 => tx_ q3 h1)
  else none
  else none
  else none
  else none := by
  unfold c_720_399
  exact
    have D : fk_D 720 [(399, some [0, 1, 2, 3], .aload_n 1, 1, 0, 0, 0), (400, none, .aload_n 0, 1, 0, 0, 0), (401, none, .iload_n 3, 1, 0, 0, 0), (402, none, .iconst 1, 1, 0, 1, 0), (403, none, .iadd, 1, 0, 0, 0), (404, none, .iaload, 1, 0, 0, 0), (405, none, .aload_n 0, 1, 0, 0, 0), (406, none, .iload_n 3, 1, 0, 0, 0), (407, none, .iconst 2, 1, 0, 2, 0), (408, none, .iadd, 1, 0, 0, 0), (409, none, .iaload, 1, 0, 0, 0), (410, none, .aload_n 0, 1, 0, 0, 0), (411, none, .iload_n 3, 1, 0, 0, 0), (412, none, .iconst 3, 1, 0, 3, 0), (413, none, .iadd, 1, 0, 0, 0), (414, none, .iaload, 1, 0, 0, 0), (415, none, .aload_n 0, 1, 0, 0, 0), (416, none, .iload_n 3, 1, 0, 0, 0), (417, none, .iconst 4, 1, 0, 4, 0), (418, none, .iadd, 1, 0, 0, 0)] := fq_of2 cd_720 ow_720 cl_720 rfl (pc := 399) (by decide +kernel)
    j_aldn (pc := 399) D rfl rfl rfl fun D =>
    j_aldn (pc := 400) D rfl rfl rfl fun D =>
    j_ildn (pc := 401) D rfl rfl rfl fun D =>
    j_ic (pc := 402) D rfl fun D =>
    j_iadd (pc := 403) D rfl fun D =>
    j_alp (pc := 404) (e := 10) H.2.1 D rfl rfl ⟨rfl, rfl, rfl⟩ rfl fun q q2 D =>
    j_aldn (pc := 405) D rfl rfl rfl fun D =>
    j_ildn (pc := 406) D rfl rfl rfl fun D =>
    j_ic (pc := 407) D rfl fun D =>
    j_iadd (pc := 408) D rfl fun D =>
    j_alp (pc := 409) (e := 10) H.2.1 D rfl rfl ⟨rfl, rfl, rfl⟩ rfl fun q q2 D =>
    j_aldn (pc := 410) D rfl rfl rfl fun D =>
    j_ildn (pc := 411) D rfl rfl rfl fun D =>
    j_ic (pc := 412) D rfl fun D =>
    j_iadd (pc := 413) D rfl fun D =>
    j_alp (pc := 414) (e := 10) H.2.1 D rfl rfl ⟨rfl, rfl, rfl⟩ rfl fun q q2 D =>
    j_aldn (pc := 415) D rfl rfl rfl fun D =>
    j_ildn (pc := 416) D rfl rfl rfl fun D =>
    j_ic (pc := 417) D rfl fun D =>
    j_iadd (pc := 418) D rfl fun D =>
    have D : fk_D 720 [(419, none, .iaload, 1, 0, 0, 0), (420, none, .invokevirtual 36, 3, 4, 10, 1), (423, none, .aload_n 2, 1, 0, 0, 0), (424, none, .aload_n 0, 1, 0, 0, 0), (425, none, .iload_n 3, 1, 0, 0, 0), (426, none, .iconst 1, 1, 0, 1, 0), (427, none, .iadd, 1, 0, 0, 0), (428, none, .iaload, 1, 0, 0, 0), (429, none, .aload_n 0, 1, 0, 0, 0), (430, none, .iload_n 3, 1, 0, 0, 0), (431, none, .iconst 2, 1, 0, 2, 0), (432, none, .iadd, 1, 0, 0, 0), (433, none, .iaload, 1, 0, 0, 0), (434, none, .aload_n 0, 1, 0, 0, 0), (435, none, .iload_n 3, 1, 0, 0, 0), (436, none, .iconst 3, 1, 0, 3, 0), (437, none, .iadd, 1, 0, 0, 0), (438, none, .iaload, 1, 0, 0, 0), (439, none, .aload_n 0, 1, 0, 0, 0), (440, none, .iload_n 3, 1, 0, 0, 0)] := fq_of2 cd_720 ow_720 cl_720 rfl (pc := 419) (by decide +kernel)
    j_alp (pc := 419) (e := 10) H.2.1 D rfl rfl ⟨rfl, rfl, rfl⟩ rfl fun q q2 D =>
    j_ivu (pc := 420) (dd := 10) (a := [(0, h 10 x0.toNat (wI (x3 + 1)).toNat), (0, h 10 x0.toNat (wI (x3 + 2)).toNat), (0, h 10 x0.toNat (wI (x3 + 3)).toNat), (0, h 10 x0.toNat (wI (x3 + 4)).toNat)]) (rest := []) H.2.1 D rfl rfl rfl rfl rfl (fun m4 v2 h1 e1 D =>
      have T := fj_run_ok _ _ _ _ _ _ H.1 e1
      have H := shp_st H T
      j_aldn (pc := 423) D rfl rfl rfl fun D =>
      j_aldn (pc := 424) D rfl rfl rfl fun D =>
      j_ildn (pc := 425) D rfl rfl rfl fun D =>
      j_ic (pc := 426) D rfl fun D =>
      j_iadd (pc := 427) D rfl fun D =>
      j_alp (pc := 428) (e := 10) H.2.1 D rfl rfl ⟨rfl, rfl, rfl⟩ rfl fun q q2 D =>
      j_aldn (pc := 429) D rfl rfl rfl fun D =>
      j_ildn (pc := 430) D rfl rfl rfl fun D =>
      j_ic (pc := 431) D rfl fun D =>
      j_iadd (pc := 432) D rfl fun D =>
      j_alp (pc := 433) (e := 10) H.2.1 D rfl rfl ⟨rfl, rfl, rfl⟩ rfl fun q q2 D =>
      j_aldn (pc := 434) D rfl rfl rfl fun D =>
      j_ildn (pc := 435) D rfl rfl rfl fun D =>
      j_ic (pc := 436) D rfl fun D =>
      j_iadd (pc := 437) D rfl fun D =>
      j_alp (pc := 438) (e := 10) H.2.1 D rfl rfl ⟨rfl, rfl, rfl⟩ rfl fun q q2 D =>
      j_aldn (pc := 439) D rfl rfl rfl fun D =>
      j_ildn (pc := 440) D rfl rfl rfl fun D =>
      have D : fk_D 720 [(441, none, .iconst 4, 1, 0, 4, 0), (442, none, .iadd, 1, 0, 0, 0), (443, none, .iaload, 1, 0, 0, 0), (444, none, .invokevirtual 40, 3, 4, 11, 1), (447, none, .if_icmp .eq 1946, 3, 2393, 0, 0), (450, none, .iconst 0, 1, 0, 0, 0), (451, none, .ireturn, 1, 0, 0, 0)] := fq_of2 cd_720 ow_720 cl_720 rfl (pc := 441) (by decide +kernel)
      j_ic (pc := 441) D rfl fun D =>
      j_iadd (pc := 442) D rfl fun D =>
      j_alp (pc := 443) (e := 10) H.2.1 D rfl rfl ⟨rfl, rfl, rfl⟩ rfl fun q q2 D =>
      j_ivu (pc := 444) (dd := 11) (a := [(0, h1 10 x0.toNat (wI (x3 + 1)).toNat), (0, h1 10 x0.toNat (wI (x3 + 2)).toNat), (0, h1 10 x0.toNat (wI (x3 + 3)).toNat), (0, h1 10 x0.toNat (wI (x3 + 4)).toNat)]) (rest := [(0, v2)]) H.2.1 D rfl rfl rfl rfl rfl (fun m8 v6 h5 e1 D =>
        have T := fj_run_ok _ _ _ _ _ _ H.1 e1
        have H := shp_st H T
        j_ieq (pc := 447) D rfl (fun q =>
          fk_jump cut_720_2393 rfl rfl) (fun q D =>
          j_ic (pc := 450) D rfl fun D =>
          j_zret D rt_720 (gy (by decide)))) (fun m8 q7 h5 e1 =>
        j_tx (hx_720 _))) (fun m4 q3 h1 e1 =>
      j_tx (hx_720 _))
theorem e_720_452 (d : Nat) (x0 x1 x2 x3 : Int) {h : fi_H} (H : Shp h) : c_720_452 d x0 x1 x2 x3 h =
  dv_ (fi_vt 12 (h 0 x1.toNat 0)) fun m4 => ca_ (fj_run d m4 h [(4, x1)]) 0
    (fun v2 h1 =>
    dv_ (fi_vt 13 (h1 0 x2.toNat 0)) fun m8 => ca_ (fj_run d m8 h1 [(4, x2)]) 0
      (fun v6 h5 =>
      if v2 = v6 then
        c_720_2393 d x0 x1 x2 x3 h5
      else
        some (.inl (some (0, 0)), h5))
      (fun q7 h5 => tx_ q7 h5))
    (fun q3 h1 => tx_ q3 h1) := by
  unfold c_720_452
  exact
    have D : fk_D 720 [(452, some [0, 1, 2, 3], .aload_n 1, 1, 0, 0, 0), (453, none, .invokevirtual 41, 3, 0, 12, 1), (456, none, .aload_n 2, 1, 0, 0, 0), (457, none, .invokevirtual 44, 3, 0, 13, 1), (460, none, .if_icmp .eq 1933, 3, 2393, 0, 0), (463, none, .iconst 0, 1, 0, 0, 0), (464, none, .ireturn, 1, 0, 0, 0)] := fq_of2 cd_720 ow_720 cl_720 rfl (pc := 452) (by decide +kernel)
    j_aldn (pc := 452) D rfl rfl rfl fun D =>
    j_ivu (pc := 453) (dd := 12) (a := []) (rest := []) H.2.1 D rfl rfl rfl rfl rfl (fun m4 v2 h1 e1 D =>
      have T := fj_run_ok _ _ _ _ _ _ H.1 e1
      have H := shp_st H T
      j_aldn (pc := 456) D rfl rfl rfl fun D =>
      j_ivu (pc := 457) (dd := 13) (a := []) (rest := [(0, v2)]) H.2.1 D rfl rfl rfl rfl rfl (fun m8 v6 h5 e1 D =>
        have T := fj_run_ok _ _ _ _ _ _ H.1 e1
        have H := shp_st H T
        j_ieq (pc := 460) D rfl (fun q =>
          fk_jump cut_720_2393 rfl rfl) (fun q D =>
          j_ic (pc := 463) D rfl fun D =>
          j_zret D rt_720 (gy (by decide)))) (fun m8 q7 h5 e1 =>
        j_tx (hx_720 _))) (fun m4 q3 h1 e1 =>
      j_tx (hx_720 _))
theorem e_720_465 (d : Nat) (x0 x1 x2 x3 : Int) {h : fi_H} (H : Shp h) : c_720_465 d x0 x1 x2 x3 h =
  if h 0 x0.toNat 0 = 10 ∧ 0 ≤ wI (x3 + 1) ∧ wI (x3 + 1) < h 1 x0.toNat 0 then
  dv_ (fi_vt 14 (h 0 x1.toNat 0)) fun m4 => ca_ (fj_run d m4 h [(4, x1), (0, h 10 x0.toNat (wI (x3 + 1)).toNat)]) 0
    (fun v2 h1 =>
    if h1 0 x0.toNat 0 = 10 ∧ 0 ≤ wI (x3 + 1) ∧ wI (x3 + 1) < h1 1 x0.toNat 0 then
    dv_ (fi_vt 15 (h1 0 x2.toNat 0)) fun m8 => ca_ (fj_run d m8 h1 [(4, x2), (0, h1 10 x0.toNat (wI (x3 + 1)).toNat)]) 0
      (fun v6 h5 =>
      if v2 = v6 then
        c_720_2393 d x0 x1 x2 x3 h5
      else
        some (.inl (some (0, 0)), h5))
      (fun q7 h5 => tx_ q7 h5)
    else none)
    (fun q3 h1 => tx_ q3 h1)
  else none := by
  unfold c_720_465
  exact
    have D : fk_D 720 [(465, some [0, 1, 2, 3], .aload_n 1, 1, 0, 0, 0), (466, none, .aload_n 0, 1, 0, 0, 0), (467, none, .iload_n 3, 1, 0, 0, 0), (468, none, .iconst 1, 1, 0, 1, 0), (469, none, .iadd, 1, 0, 0, 0), (470, none, .iaload, 1, 0, 0, 0), (471, none, .invokevirtual 45, 3, 1, 14, 1), (474, none, .aload_n 2, 1, 0, 0, 0), (475, none, .aload_n 0, 1, 0, 0, 0), (476, none, .iload_n 3, 1, 0, 0, 0), (477, none, .iconst 1, 1, 0, 1, 0), (478, none, .iadd, 1, 0, 0, 0), (479, none, .iaload, 1, 0, 0, 0), (480, none, .invokevirtual 48, 3, 1, 15, 1), (483, none, .if_icmp .eq 1910, 3, 2393, 0, 0), (486, none, .iconst 0, 1, 0, 0, 0), (487, none, .ireturn, 1, 0, 0, 0)] := fq_of2 cd_720 ow_720 cl_720 rfl (pc := 465) (by decide +kernel)
    j_aldn (pc := 465) D rfl rfl rfl fun D =>
    j_aldn (pc := 466) D rfl rfl rfl fun D =>
    j_ildn (pc := 467) D rfl rfl rfl fun D =>
    j_ic (pc := 468) D rfl fun D =>
    j_iadd (pc := 469) D rfl fun D =>
    j_alp (pc := 470) (e := 10) H.2.1 D rfl rfl ⟨rfl, rfl, rfl⟩ rfl fun q q2 D =>
    j_ivu (pc := 471) (dd := 14) (a := [(0, h 10 x0.toNat (wI (x3 + 1)).toNat)]) (rest := []) H.2.1 D rfl rfl rfl rfl rfl (fun m4 v2 h1 e1 D =>
      have T := fj_run_ok _ _ _ _ _ _ H.1 e1
      have H := shp_st H T
      j_aldn (pc := 474) D rfl rfl rfl fun D =>
      j_aldn (pc := 475) D rfl rfl rfl fun D =>
      j_ildn (pc := 476) D rfl rfl rfl fun D =>
      j_ic (pc := 477) D rfl fun D =>
      j_iadd (pc := 478) D rfl fun D =>
      j_alp (pc := 479) (e := 10) H.2.1 D rfl rfl ⟨rfl, rfl, rfl⟩ rfl fun q q2 D =>
      j_ivu (pc := 480) (dd := 15) (a := [(0, h1 10 x0.toNat (wI (x3 + 1)).toNat)]) (rest := [(0, v2)]) H.2.1 D rfl rfl rfl rfl rfl (fun m8 v6 h5 e1 D =>
        have T := fj_run_ok _ _ _ _ _ _ H.1 e1
        have H := shp_st H T
        j_ieq (pc := 483) D rfl (fun q =>
          fk_jump cut_720_2393 rfl rfl) (fun q D =>
          j_ic (pc := 486) D rfl fun D =>
          j_zret D rt_720 (gy (by decide)))) (fun m8 q7 h5 e1 =>
        j_tx (hx_720 _))) (fun m4 q3 h1 e1 =>
      j_tx (hx_720 _))
theorem e_720_488 (d : Nat) (x0 x1 x2 x3 : Int) {h : fi_H} (H : Shp h) : c_720_488 d x0 x1 x2 x3 h =
  if h 0 x0.toNat 0 = 10 ∧ 0 ≤ wI (x3 + 1) ∧ wI (x3 + 1) < h 1 x0.toNat 0 then
  if h 0 x0.toNat 0 = 10 ∧ 0 ≤ wI (x3 + 2) ∧ wI (x3 + 2) < h 1 x0.toNat 0 then
  dv_ (fi_vt 16 (h 0 x1.toNat 0)) fun m4 => ca_ (fj_run d m4 h [(4, x1), (0, h 10 x0.toNat (wI (x3 + 1)).toNat), (0, h 10 x0.toNat (wI (x3 + 2)).toNat)]) 0
    (fun v2 h1 =>
    if h1 0 x0.toNat 0 = 10 ∧ 0 ≤ wI (x3 + 1) ∧ wI (x3 + 1) < h1 1 x0.toNat 0 then
    if h1 0 x0.toNat 0 = 10 ∧ 0 ≤ wI (x3 + 2) ∧ wI (x3 + 2) < h1 1 x0.toNat 0 then
    dv_ (fi_vt 17 (h1 0 x2.toNat 0)) fun m8 => ca_ (fj_run d m8 h1 [(4, x2), (0, h1 10 x0.toNat (wI (x3 + 1)).toNat), (0, h1 10 x0.toNat (wI (x3 + 2)).toNat)]) 0
      (fun v6 h5 =>
      if v2 = v6 then
        c_720_2393 d x0 x1 x2 x3 h5
      else
        some (.inl (some (0, 0)), h5))
      (fun q7 h5 => tx_ q7 h5)
    else none
    else none)
    (fun q3 h1 => tx_ q3 h1)
  else none
  else none := by
  unfold c_720_488
  exact
    have D : fk_D 720 [(488, some [0, 1, 2, 3], .aload_n 1, 1, 0, 0, 0), (489, none, .aload_n 0, 1, 0, 0, 0), (490, none, .iload_n 3, 1, 0, 0, 0), (491, none, .iconst 1, 1, 0, 1, 0), (492, none, .iadd, 1, 0, 0, 0), (493, none, .iaload, 1, 0, 0, 0), (494, none, .aload_n 0, 1, 0, 0, 0), (495, none, .iload_n 3, 1, 0, 0, 0), (496, none, .iconst 2, 1, 0, 2, 0), (497, none, .iadd, 1, 0, 0, 0), (498, none, .iaload, 1, 0, 0, 0), (499, none, .invokevirtual 49, 3, 2, 16, 1), (502, none, .aload_n 2, 1, 0, 0, 0), (503, none, .aload_n 0, 1, 0, 0, 0), (504, none, .iload_n 3, 1, 0, 0, 0), (505, none, .iconst 1, 1, 0, 1, 0), (506, none, .iadd, 1, 0, 0, 0), (507, none, .iaload, 1, 0, 0, 0), (508, none, .aload_n 0, 1, 0, 0, 0), (509, none, .iload_n 3, 1, 0, 0, 0)] := fq_of2 cd_720 ow_720 cl_720 rfl (pc := 488) (by decide +kernel)
    j_aldn (pc := 488) D rfl rfl rfl fun D =>
    j_aldn (pc := 489) D rfl rfl rfl fun D =>
    j_ildn (pc := 490) D rfl rfl rfl fun D =>
    j_ic (pc := 491) D rfl fun D =>
    j_iadd (pc := 492) D rfl fun D =>
    j_alp (pc := 493) (e := 10) H.2.1 D rfl rfl ⟨rfl, rfl, rfl⟩ rfl fun q q2 D =>
    j_aldn (pc := 494) D rfl rfl rfl fun D =>
    j_ildn (pc := 495) D rfl rfl rfl fun D =>
    j_ic (pc := 496) D rfl fun D =>
    j_iadd (pc := 497) D rfl fun D =>
    j_alp (pc := 498) (e := 10) H.2.1 D rfl rfl ⟨rfl, rfl, rfl⟩ rfl fun q q2 D =>
    j_ivu (pc := 499) (dd := 16) (a := [(0, h 10 x0.toNat (wI (x3 + 1)).toNat), (0, h 10 x0.toNat (wI (x3 + 2)).toNat)]) (rest := []) H.2.1 D rfl rfl rfl rfl rfl (fun m4 v2 h1 e1 D =>
      have T := fj_run_ok _ _ _ _ _ _ H.1 e1
      have H := shp_st H T
      j_aldn (pc := 502) D rfl rfl rfl fun D =>
      j_aldn (pc := 503) D rfl rfl rfl fun D =>
      j_ildn (pc := 504) D rfl rfl rfl fun D =>
      j_ic (pc := 505) D rfl fun D =>
      j_iadd (pc := 506) D rfl fun D =>
      j_alp (pc := 507) (e := 10) H.2.1 D rfl rfl ⟨rfl, rfl, rfl⟩ rfl fun q q2 D =>
      j_aldn (pc := 508) D rfl rfl rfl fun D =>
      j_ildn (pc := 509) D rfl rfl rfl fun D =>
      have D : fk_D 720 [(510, none, .iconst 2, 1, 0, 2, 0), (511, none, .iadd, 1, 0, 0, 0), (512, none, .iaload, 1, 0, 0, 0), (513, none, .invokevirtual 53, 3, 2, 17, 1), (516, none, .if_icmp .eq 1877, 3, 2393, 0, 0), (519, none, .iconst 0, 1, 0, 0, 0), (520, none, .ireturn, 1, 0, 0, 0)] := fq_of2 cd_720 ow_720 cl_720 rfl (pc := 510) (by decide +kernel)
      j_ic (pc := 510) D rfl fun D =>
      j_iadd (pc := 511) D rfl fun D =>
      j_alp (pc := 512) (e := 10) H.2.1 D rfl rfl ⟨rfl, rfl, rfl⟩ rfl fun q q2 D =>
      j_ivu (pc := 513) (dd := 17) (a := [(0, h1 10 x0.toNat (wI (x3 + 1)).toNat), (0, h1 10 x0.toNat (wI (x3 + 2)).toNat)]) (rest := [(0, v2)]) H.2.1 D rfl rfl rfl rfl rfl (fun m8 v6 h5 e1 D =>
        have T := fj_run_ok _ _ _ _ _ _ H.1 e1
        have H := shp_st H T
        j_ieq (pc := 516) D rfl (fun q =>
          fk_jump cut_720_2393 rfl rfl) (fun q D =>
          j_ic (pc := 519) D rfl fun D =>
          j_zret D rt_720 (gy (by decide)))) (fun m8 q7 h5 e1 =>
        j_tx (hx_720 _))) (fun m4 q3 h1 e1 =>
      j_tx (hx_720 _))
theorem e_720_521 (d : Nat) (x0 x1 x2 x3 : Int) {h : fi_H} (H : Shp h) : c_720_521 d x0 x1 x2 x3 h =
  if h 0 x0.toNat 0 = 10 ∧ 0 ≤ wI (x3 + 1) ∧ wI (x3 + 1) < h 1 x0.toNat 0 then
  dv_ (fi_vt 18 (h 0 x1.toNat 0)) fun m4 => ca_ (fj_run d m4 h [(4, x1), (0, h 10 x0.toNat (wI (x3 + 1)).toNat)]) 0
    (fun v2 h1 =>
    if h1 0 x0.toNat 0 = 10 ∧ 0 ≤ wI (x3 + 1) ∧ wI (x3 + 1) < h1 1 x0.toNat 0 then
    dv_ (fi_vt 19 (h1 0 x2.toNat 0)) fun m8 => ca_ (fj_run d m8 h1 [(4, x2), (0, h1 10 x0.toNat (wI (x3 + 1)).toNat)]) 0
      (fun v6 h5 =>
      if v2 = v6 then
        c_720_2393 d x0 x1 x2 x3 h5
      else
        some (.inl (some (0, 0)), h5))
      (fun q7 h5 => tx_ q7 h5)
    else none)
    (fun q3 h1 => tx_ q3 h1)
  else none := by
  unfold c_720_521
  exact
    have D : fk_D 720 [(521, some [0, 1, 2, 3], .aload_n 1, 1, 0, 0, 0), (522, none, .aload_n 0, 1, 0, 0, 0), (523, none, .iload_n 3, 1, 0, 0, 0), (524, none, .iconst 1, 1, 0, 1, 0), (525, none, .iadd, 1, 0, 0, 0), (526, none, .iaload, 1, 0, 0, 0), (527, none, .invokevirtual 54, 3, 1, 18, 1), (530, none, .aload_n 2, 1, 0, 0, 0), (531, none, .aload_n 0, 1, 0, 0, 0), (532, none, .iload_n 3, 1, 0, 0, 0), (533, none, .iconst 1, 1, 0, 1, 0), (534, none, .iadd, 1, 0, 0, 0), (535, none, .iaload, 1, 0, 0, 0), (536, none, .invokevirtual 57, 3, 1, 19, 1), (539, none, .if_icmp .eq 1854, 3, 2393, 0, 0), (542, none, .iconst 0, 1, 0, 0, 0), (543, none, .ireturn, 1, 0, 0, 0)] := fq_of2 cd_720 ow_720 cl_720 rfl (pc := 521) (by decide +kernel)
    j_aldn (pc := 521) D rfl rfl rfl fun D =>
    j_aldn (pc := 522) D rfl rfl rfl fun D =>
    j_ildn (pc := 523) D rfl rfl rfl fun D =>
    j_ic (pc := 524) D rfl fun D =>
    j_iadd (pc := 525) D rfl fun D =>
    j_alp (pc := 526) (e := 10) H.2.1 D rfl rfl ⟨rfl, rfl, rfl⟩ rfl fun q q2 D =>
    j_ivu (pc := 527) (dd := 18) (a := [(0, h 10 x0.toNat (wI (x3 + 1)).toNat)]) (rest := []) H.2.1 D rfl rfl rfl rfl rfl (fun m4 v2 h1 e1 D =>
      have T := fj_run_ok _ _ _ _ _ _ H.1 e1
      have H := shp_st H T
      j_aldn (pc := 530) D rfl rfl rfl fun D =>
      j_aldn (pc := 531) D rfl rfl rfl fun D =>
      j_ildn (pc := 532) D rfl rfl rfl fun D =>
      j_ic (pc := 533) D rfl fun D =>
      j_iadd (pc := 534) D rfl fun D =>
      j_alp (pc := 535) (e := 10) H.2.1 D rfl rfl ⟨rfl, rfl, rfl⟩ rfl fun q q2 D =>
      j_ivu (pc := 536) (dd := 19) (a := [(0, h1 10 x0.toNat (wI (x3 + 1)).toNat)]) (rest := [(0, v2)]) H.2.1 D rfl rfl rfl rfl rfl (fun m8 v6 h5 e1 D =>
        have T := fj_run_ok _ _ _ _ _ _ H.1 e1
        have H := shp_st H T
        j_ieq (pc := 539) D rfl (fun q =>
          fk_jump cut_720_2393 rfl rfl) (fun q D =>
          j_ic (pc := 542) D rfl fun D =>
          j_zret D rt_720 (gy (by decide)))) (fun m8 q7 h5 e1 =>
        j_tx (hx_720 _))) (fun m4 q3 h1 e1 =>
      j_tx (hx_720 _))
theorem e_720_544 (d : Nat) (x0 x1 x2 x3 : Int) {h : fi_H} (H : Shp h) : c_720_544 d x0 x1 x2 x3 h =
  if h 0 x0.toNat 0 = 10 ∧ 0 ≤ wI (x3 + 1) ∧ wI (x3 + 1) < h 1 x0.toNat 0 then
  if h 0 x0.toNat 0 = 10 ∧ 0 ≤ wI (x3 + 2) ∧ wI (x3 + 2) < h 1 x0.toNat 0 then
  if h 0 x0.toNat 0 = 10 ∧ 0 ≤ wI (x3 + 3) ∧ wI (x3 + 3) < h 1 x0.toNat 0 then
  dv_ (fi_vt 20 (h 0 x1.toNat 0)) fun m4 => ca_ (fj_run d m4 h [(4, x1), (0, h 10 x0.toNat (wI (x3 + 1)).toNat), (0, h 10 x0.toNat (wI (x3 + 2)).toNat), (0, h 10 x0.toNat (wI (x3 + 3)).toNat)]) 0
    (fun v2 h1 =>
    if h1 0 x0.toNat 0 = 10 ∧ 0 ≤ wI (x3 + 1) ∧ wI (x3 + 1) < h1 1 x0.toNat 0 then
    if h1 0 x0.toNat 0 = 10 ∧ 0 ≤ wI (x3 + 2) ∧ wI (x3 + 2) < h1 1 x0.toNat 0 then
    if h1 0 x0.toNat 0 = 10 ∧ 0 ≤ wI (x3 + 3) ∧ wI (x3 + 3) < h1 1 x0.toNat 0 then
    dv_ (fi_vt 21 (h1 0 x2.toNat 0)) fun m8 => ca_ (fj_run d m8 h1 [(4, x2), (0, h1 10 x0.toNat (wI (x3 + 1)).toNat), (0, h1 10 x0.toNat (wI (x3 + 2)).toNat), (0, h1 10 x0.toNat (wI (x3 + 3)).toNat)]) 0
      (fun v6 h5 =>
      if v2 = v6 then
        c_720_2393 d x0 x1 x2 x3 h5
      else
        some (.inl (some (0, 0)), h5))
      (fun q7 h5 => tx_ q7 h5)
    else none
    else none
    else none)
    (fun q3 h1 => tx_ q3 h1)
  else none
  else none
  else none := by
  unfold c_720_544
  exact
    have D : fk_D 720 [(544, some [0, 1, 2, 3], .aload_n 1, 1, 0, 0, 0), (545, none, .aload_n 0, 1, 0, 0, 0), (546, none, .iload_n 3, 1, 0, 0, 0), (547, none, .iconst 1, 1, 0, 1, 0), (548, none, .iadd, 1, 0, 0, 0), (549, none, .iaload, 1, 0, 0, 0), (550, none, .aload_n 0, 1, 0, 0, 0), (551, none, .iload_n 3, 1, 0, 0, 0), (552, none, .iconst 2, 1, 0, 2, 0), (553, none, .iadd, 1, 0, 0, 0), (554, none, .iaload, 1, 0, 0, 0), (555, none, .aload_n 0, 1, 0, 0, 0), (556, none, .iload_n 3, 1, 0, 0, 0), (557, none, .iconst 3, 1, 0, 3, 0), (558, none, .iadd, 1, 0, 0, 0), (559, none, .iaload, 1, 0, 0, 0), (560, none, .invokevirtual 58, 3, 3, 20, 1), (563, none, .aload_n 2, 1, 0, 0, 0), (564, none, .aload_n 0, 1, 0, 0, 0), (565, none, .iload_n 3, 1, 0, 0, 0)] := fq_of2 cd_720 ow_720 cl_720 rfl (pc := 544) (by decide +kernel)
    j_aldn (pc := 544) D rfl rfl rfl fun D =>
    j_aldn (pc := 545) D rfl rfl rfl fun D =>
    j_ildn (pc := 546) D rfl rfl rfl fun D =>
    j_ic (pc := 547) D rfl fun D =>
    j_iadd (pc := 548) D rfl fun D =>
    j_alp (pc := 549) (e := 10) H.2.1 D rfl rfl ⟨rfl, rfl, rfl⟩ rfl fun q q2 D =>
    j_aldn (pc := 550) D rfl rfl rfl fun D =>
    j_ildn (pc := 551) D rfl rfl rfl fun D =>
    j_ic (pc := 552) D rfl fun D =>
    j_iadd (pc := 553) D rfl fun D =>
    j_alp (pc := 554) (e := 10) H.2.1 D rfl rfl ⟨rfl, rfl, rfl⟩ rfl fun q q2 D =>
    j_aldn (pc := 555) D rfl rfl rfl fun D =>
    j_ildn (pc := 556) D rfl rfl rfl fun D =>
    j_ic (pc := 557) D rfl fun D =>
    j_iadd (pc := 558) D rfl fun D =>
    j_alp (pc := 559) (e := 10) H.2.1 D rfl rfl ⟨rfl, rfl, rfl⟩ rfl fun q q2 D =>
    j_ivu (pc := 560) (dd := 20) (a := [(0, h 10 x0.toNat (wI (x3 + 1)).toNat), (0, h 10 x0.toNat (wI (x3 + 2)).toNat), (0, h 10 x0.toNat (wI (x3 + 3)).toNat)]) (rest := []) H.2.1 D rfl rfl rfl rfl rfl (fun m4 v2 h1 e1 D =>
      have T := fj_run_ok _ _ _ _ _ _ H.1 e1
      have H := shp_st H T
      j_aldn (pc := 563) D rfl rfl rfl fun D =>
      j_aldn (pc := 564) D rfl rfl rfl fun D =>
      j_ildn (pc := 565) D rfl rfl rfl fun D =>
      have D : fk_D 720 [(566, none, .iconst 1, 1, 0, 1, 0), (567, none, .iadd, 1, 0, 0, 0), (568, none, .iaload, 1, 0, 0, 0), (569, none, .aload_n 0, 1, 0, 0, 0), (570, none, .iload_n 3, 1, 0, 0, 0), (571, none, .iconst 2, 1, 0, 2, 0), (572, none, .iadd, 1, 0, 0, 0), (573, none, .iaload, 1, 0, 0, 0), (574, none, .aload_n 0, 1, 0, 0, 0), (575, none, .iload_n 3, 1, 0, 0, 0), (576, none, .iconst 3, 1, 0, 3, 0), (577, none, .iadd, 1, 0, 0, 0), (578, none, .iaload, 1, 0, 0, 0), (579, none, .invokevirtual 62, 3, 3, 21, 1), (582, none, .if_icmp .eq 1811, 3, 2393, 0, 0), (585, none, .iconst 0, 1, 0, 0, 0), (586, none, .ireturn, 1, 0, 0, 0)] := fq_of2 cd_720 ow_720 cl_720 rfl (pc := 566) (by decide +kernel)
      j_ic (pc := 566) D rfl fun D =>
      j_iadd (pc := 567) D rfl fun D =>
      j_alp (pc := 568) (e := 10) H.2.1 D rfl rfl ⟨rfl, rfl, rfl⟩ rfl fun q q2 D =>
      j_aldn (pc := 569) D rfl rfl rfl fun D =>
      j_ildn (pc := 570) D rfl rfl rfl fun D =>
      j_ic (pc := 571) D rfl fun D =>
      j_iadd (pc := 572) D rfl fun D =>
      j_alp (pc := 573) (e := 10) H.2.1 D rfl rfl ⟨rfl, rfl, rfl⟩ rfl fun q q2 D =>
      j_aldn (pc := 574) D rfl rfl rfl fun D =>
      j_ildn (pc := 575) D rfl rfl rfl fun D =>
      j_ic (pc := 576) D rfl fun D =>
      j_iadd (pc := 577) D rfl fun D =>
      j_alp (pc := 578) (e := 10) H.2.1 D rfl rfl ⟨rfl, rfl, rfl⟩ rfl fun q q2 D =>
      j_ivu (pc := 579) (dd := 21) (a := [(0, h1 10 x0.toNat (wI (x3 + 1)).toNat), (0, h1 10 x0.toNat (wI (x3 + 2)).toNat), (0, h1 10 x0.toNat (wI (x3 + 3)).toNat)]) (rest := [(0, v2)]) H.2.1 D rfl rfl rfl rfl rfl (fun m8 v6 h5 e1 D =>
        have T := fj_run_ok _ _ _ _ _ _ H.1 e1
        have H := shp_st H T
        j_ieq (pc := 582) D rfl (fun q =>
          fk_jump cut_720_2393 rfl rfl) (fun q D =>
          j_ic (pc := 585) D rfl fun D =>
          j_zret D rt_720 (gy (by decide)))) (fun m8 q7 h5 e1 =>
        j_tx (hx_720 _))) (fun m4 q3 h1 e1 =>
      j_tx (hx_720 _))
theorem e_720_587 (d : Nat) (x0 x1 x2 x3 : Int) {h : fi_H} (H : Shp h) : c_720_587 d x0 x1 x2 x3 h =
  dv_ (fi_vt 22 (h 0 x1.toNat 0)) fun m4 => ca_ (fj_run d m4 h [(4, x1)]) 0
    (fun v2 h1 =>
    dv_ (fi_vt 23 (h1 0 x2.toNat 0)) fun m8 => ca_ (fj_run d m8 h1 [(4, x2)]) 0
      (fun v6 h5 =>
      if v2 = v6 then
        c_720_2393 d x0 x1 x2 x3 h5
      else
        some (.inl (some (0, 0)), h5))
      (fun q7 h5 => tx_ q7 h5))
    (fun q3 h1 => tx_ q3 h1) := by
  unfold c_720_587
  exact
    have D : fk_D 720 [(587, some [0, 1, 2, 3], .aload_n 1, 1, 0, 0, 0), (588, none, .invokevirtual 63, 3, 0, 22, 1), (591, none, .aload_n 2, 1, 0, 0, 0), (592, none, .invokevirtual 66, 3, 0, 23, 1), (595, none, .if_icmp .eq 1798, 3, 2393, 0, 0), (598, none, .iconst 0, 1, 0, 0, 0), (599, none, .ireturn, 1, 0, 0, 0)] := fq_of2 cd_720 ow_720 cl_720 rfl (pc := 587) (by decide +kernel)
    j_aldn (pc := 587) D rfl rfl rfl fun D =>
    j_ivu (pc := 588) (dd := 22) (a := []) (rest := []) H.2.1 D rfl rfl rfl rfl rfl (fun m4 v2 h1 e1 D =>
      have T := fj_run_ok _ _ _ _ _ _ H.1 e1
      have H := shp_st H T
      j_aldn (pc := 591) D rfl rfl rfl fun D =>
      j_ivu (pc := 592) (dd := 23) (a := []) (rest := [(0, v2)]) H.2.1 D rfl rfl rfl rfl rfl (fun m8 v6 h5 e1 D =>
        have T := fj_run_ok _ _ _ _ _ _ H.1 e1
        have H := shp_st H T
        j_ieq (pc := 595) D rfl (fun q =>
          fk_jump cut_720_2393 rfl rfl) (fun q D =>
          j_ic (pc := 598) D rfl fun D =>
          j_zret D rt_720 (gy (by decide)))) (fun m8 q7 h5 e1 =>
        j_tx (hx_720 _))) (fun m4 q3 h1 e1 =>
      j_tx (hx_720 _))
theorem e_720_600 (d : Nat) (x0 x1 x2 x3 : Int) {h : fi_H} (H : Shp h) : c_720_600 d x0 x1 x2 x3 h =
  if h 0 x0.toNat 0 = 10 ∧ 0 ≤ wI (x3 + 1) ∧ wI (x3 + 1) < h 1 x0.toNat 0 then
  if h 0 x0.toNat 0 = 10 ∧ 0 ≤ wI (x3 + 2) ∧ wI (x3 + 2) < h 1 x0.toNat 0 then
  dv_ (fi_vt 24 (h 0 x1.toNat 0)) fun m4 => ca_ (fj_run d m4 h [(4, x1), (0, h 10 x0.toNat (wI (x3 + 1)).toNat), (0, h 10 x0.toNat (wI (x3 + 2)).toNat)]) 0
    (fun v2 h1 =>
    if h1 0 x0.toNat 0 = 10 ∧ 0 ≤ wI (x3 + 1) ∧ wI (x3 + 1) < h1 1 x0.toNat 0 then
    if h1 0 x0.toNat 0 = 10 ∧ 0 ≤ wI (x3 + 2) ∧ wI (x3 + 2) < h1 1 x0.toNat 0 then
    dv_ (fi_vt 25 (h1 0 x2.toNat 0)) fun m8 => ca_ (fj_run d m8 h1 [(4, x2), (0, h1 10 x0.toNat (wI (x3 + 1)).toNat), (0, h1 10 x0.toNat (wI (x3 + 2)).toNat)]) 0
      (fun v6 h5 =>
      if v2 = v6 then
        c_720_2393 d x0 x1 x2 x3 h5
      else
        some (.inl (some (0, 0)), h5))
      (fun q7 h5 => tx_ q7 h5)
    else none
    else none)
    (fun q3 h1 => tx_ q3 h1)
  else none
  else none := by
  unfold c_720_600
  exact
    have D : fk_D 720 [(600, some [0, 1, 2, 3], .aload_n 1, 1, 0, 0, 0), (601, none, .aload_n 0, 1, 0, 0, 0), (602, none, .iload_n 3, 1, 0, 0, 0), (603, none, .iconst 1, 1, 0, 1, 0), (604, none, .iadd, 1, 0, 0, 0), (605, none, .iaload, 1, 0, 0, 0), (606, none, .aload_n 0, 1, 0, 0, 0), (607, none, .iload_n 3, 1, 0, 0, 0), (608, none, .iconst 2, 1, 0, 2, 0), (609, none, .iadd, 1, 0, 0, 0), (610, none, .iaload, 1, 0, 0, 0), (611, none, .invokevirtual 67, 3, 2, 24, 1), (614, none, .aload_n 2, 1, 0, 0, 0), (615, none, .aload_n 0, 1, 0, 0, 0), (616, none, .iload_n 3, 1, 0, 0, 0), (617, none, .iconst 1, 1, 0, 1, 0), (618, none, .iadd, 1, 0, 0, 0), (619, none, .iaload, 1, 0, 0, 0), (620, none, .aload_n 0, 1, 0, 0, 0), (621, none, .iload_n 3, 1, 0, 0, 0)] := fq_of2 cd_720 ow_720 cl_720 rfl (pc := 600) (by decide +kernel)
    j_aldn (pc := 600) D rfl rfl rfl fun D =>
    j_aldn (pc := 601) D rfl rfl rfl fun D =>
    j_ildn (pc := 602) D rfl rfl rfl fun D =>
    j_ic (pc := 603) D rfl fun D =>
    j_iadd (pc := 604) D rfl fun D =>
    j_alp (pc := 605) (e := 10) H.2.1 D rfl rfl ⟨rfl, rfl, rfl⟩ rfl fun q q2 D =>
    j_aldn (pc := 606) D rfl rfl rfl fun D =>
    j_ildn (pc := 607) D rfl rfl rfl fun D =>
    j_ic (pc := 608) D rfl fun D =>
    j_iadd (pc := 609) D rfl fun D =>
    j_alp (pc := 610) (e := 10) H.2.1 D rfl rfl ⟨rfl, rfl, rfl⟩ rfl fun q q2 D =>
    j_ivu (pc := 611) (dd := 24) (a := [(0, h 10 x0.toNat (wI (x3 + 1)).toNat), (0, h 10 x0.toNat (wI (x3 + 2)).toNat)]) (rest := []) H.2.1 D rfl rfl rfl rfl rfl (fun m4 v2 h1 e1 D =>
      have T := fj_run_ok _ _ _ _ _ _ H.1 e1
      have H := shp_st H T
      j_aldn (pc := 614) D rfl rfl rfl fun D =>
      j_aldn (pc := 615) D rfl rfl rfl fun D =>
      j_ildn (pc := 616) D rfl rfl rfl fun D =>
      j_ic (pc := 617) D rfl fun D =>
      j_iadd (pc := 618) D rfl fun D =>
      j_alp (pc := 619) (e := 10) H.2.1 D rfl rfl ⟨rfl, rfl, rfl⟩ rfl fun q q2 D =>
      j_aldn (pc := 620) D rfl rfl rfl fun D =>
      j_ildn (pc := 621) D rfl rfl rfl fun D =>
      have D : fk_D 720 [(622, none, .iconst 2, 1, 0, 2, 0), (623, none, .iadd, 1, 0, 0, 0), (624, none, .iaload, 1, 0, 0, 0), (625, none, .invokevirtual 70, 3, 2, 25, 1), (628, none, .if_icmp .eq 1765, 3, 2393, 0, 0), (631, none, .iconst 0, 1, 0, 0, 0), (632, none, .ireturn, 1, 0, 0, 0)] := fq_of2 cd_720 ow_720 cl_720 rfl (pc := 622) (by decide +kernel)
      j_ic (pc := 622) D rfl fun D =>
      j_iadd (pc := 623) D rfl fun D =>
      j_alp (pc := 624) (e := 10) H.2.1 D rfl rfl ⟨rfl, rfl, rfl⟩ rfl fun q q2 D =>
      j_ivu (pc := 625) (dd := 25) (a := [(0, h1 10 x0.toNat (wI (x3 + 1)).toNat), (0, h1 10 x0.toNat (wI (x3 + 2)).toNat)]) (rest := [(0, v2)]) H.2.1 D rfl rfl rfl rfl rfl (fun m8 v6 h5 e1 D =>
        have T := fj_run_ok _ _ _ _ _ _ H.1 e1
        have H := shp_st H T
        j_ieq (pc := 628) D rfl (fun q =>
          fk_jump cut_720_2393 rfl rfl) (fun q D =>
          j_ic (pc := 631) D rfl fun D =>
          j_zret D rt_720 (gy (by decide)))) (fun m8 q7 h5 e1 =>
        j_tx (hx_720 _))) (fun m4 q3 h1 e1 =>
      j_tx (hx_720 _))
theorem e_720_633 (d : Nat) (x0 x1 x2 x3 : Int) {h : fi_H} (H : Shp h) : c_720_633 d x0 x1 x2 x3 h =
  if h 0 x0.toNat 0 = 10 ∧ 0 ≤ wI (x3 + 1) ∧ wI (x3 + 1) < h 1 x0.toNat 0 then
  if h 0 x0.toNat 0 = 10 ∧ 0 ≤ wI (x3 + 2) ∧ wI (x3 + 2) < h 1 x0.toNat 0 then
  if h 0 x0.toNat 0 = 10 ∧ 0 ≤ wI (x3 + 3) ∧ wI (x3 + 3) < h 1 x0.toNat 0 then
  if h 0 x0.toNat 0 = 10 ∧ 0 ≤ wI (x3 + 4) ∧ wI (x3 + 4) < h 1 x0.toNat 0 then
  if h 0 x0.toNat 0 = 10 ∧ 0 ≤ wI (x3 + 5) ∧ wI (x3 + 5) < h 1 x0.toNat 0 then
  if h 0 x0.toNat 0 = 10 ∧ 0 ≤ wI (x3 + 6) ∧ wI (x3 + 6) < h 1 x0.toNat 0 then
  if h 0 x0.toNat 0 = 10 ∧ 0 ≤ wI (x3 + 7) ∧ wI (x3 + 7) < h 1 x0.toNat 0 then
  if h 0 x0.toNat 0 = 10 ∧ 0 ≤ wI (x3 + 8) ∧ wI (x3 + 8) < h 1 x0.toNat 0 then
  dv_ (fi_vt 26 (h 0 x1.toNat 0)) fun m4 => ca_ (fj_run d m4 h [(4, x1), (0, h 10 x0.toNat (wI (x3 + 1)).toNat), (0, h 10 x0.toNat (wI (x3 + 2)).toNat), (1, lo_ (lsl_ (wI (h 10 x0.toNat (wI (x3 + 3)).toNat)) 32) (la_ (wI (h 10 x0.toNat (wI (x3 + 4)).toNat)) 4294967295)), (1, lo_ (lsl_ (wI (h 10 x0.toNat (wI (x3 + 5)).toNat)) 32) (la_ (wI (h 10 x0.toNat (wI (x3 + 6)).toNat)) 4294967295)), (0, h 10 x0.toNat (wI (x3 + 7)).toNat), (0, h 10 x0.toNat (wI (x3 + 8)).toNat)]) 0
    (fun v2 h1 =>
    if h1 0 x0.toNat 0 = 10 ∧ 0 ≤ wI (x3 + 1) ∧ wI (x3 + 1) < h1 1 x0.toNat 0 then
    if h1 0 x0.toNat 0 = 10 ∧ 0 ≤ wI (x3 + 2) ∧ wI (x3 + 2) < h1 1 x0.toNat 0 then
    if h1 0 x0.toNat 0 = 10 ∧ 0 ≤ wI (x3 + 3) ∧ wI (x3 + 3) < h1 1 x0.toNat 0 then
    if h1 0 x0.toNat 0 = 10 ∧ 0 ≤ wI (x3 + 4) ∧ wI (x3 + 4) < h1 1 x0.toNat 0 then
    if h1 0 x0.toNat 0 = 10 ∧ 0 ≤ wI (x3 + 5) ∧ wI (x3 + 5) < h1 1 x0.toNat 0 then
    if h1 0 x0.toNat 0 = 10 ∧ 0 ≤ wI (x3 + 6) ∧ wI (x3 + 6) < h1 1 x0.toNat 0 then
    if h1 0 x0.toNat 0 = 10 ∧ 0 ≤ wI (x3 + 7) ∧ wI (x3 + 7) < h1 1 x0.toNat 0 then
    if h1 0 x0.toNat 0 = 10 ∧ 0 ≤ wI (x3 + 8) ∧ wI (x3 + 8) < h1 1 x0.toNat 0 then
    dv_ (fi_vt 27 (h1 0 x2.toNat 0)) fun m8 => ca_ (fj_run d m8 h1 [(4, x2), (0, h1 10 x0.toNat (wI (x3 + 1)).toNat), (0, h1 10 x0.toNat (wI (x3 + 2)).toNat), (1, lo_ (lsl_ (wI (h1 10 x0.toNat (wI (x3 + 3)).toNat)) 32) (la_ (wI (h1 10 x0.toNat (wI (x3 + 4)).toNat)) 4294967295)), (1, lo_ (lsl_ (wI (h1 10 x0.toNat (wI (x3 + 5)).toNat)) 32) (la_ (wI (h1 10 x0.toNat (wI (x3 + 6)).toNat)) 4294967295)), (0, h1 10 x0.toNat (wI (x3 + 7)).toNat), (0, h1 10 x0.toNat (wI (x3 + 8)).toNat)]) 0
      (fun v6 h5 =>
      if v2 = v6 then
        c_720_2393 d x0 x1 x2 x3 h5
      else
        some (.inl (some (0, 0)), h5))
      (fun q7 h5 => tx_ q7 h5)
    else none
    else none
    else none
    else none
    else none
    else none
    else none
    else none)
    (fun q3 h1 => tx_ q3 h1)
  else none
  else none
  else none
  else none
  else none
  else none
  else none
  else none := by
  unfold c_720_633
  exact
    have D : fk_D 720 [(633, some [0, 1, 2, 3], .aload_n 1, 1, 0, 0, 0), (634, none, .aload_n 0, 1, 0, 0, 0), (635, none, .iload_n 3, 1, 0, 0, 0), (636, none, .iconst 1, 1, 0, 1, 0), (637, none, .iadd, 1, 0, 0, 0), (638, none, .iaload, 1, 0, 0, 0), (639, none, .aload_n 0, 1, 0, 0, 0), (640, none, .iload_n 3, 1, 0, 0, 0), (641, none, .iconst 2, 1, 0, 2, 0), (642, none, .iadd, 1, 0, 0, 0), (643, none, .iaload, 1, 0, 0, 0), (644, none, .aload_n 0, 1, 0, 0, 0), (645, none, .iload_n 3, 1, 0, 0, 0), (646, none, .iconst 3, 1, 0, 3, 0), (647, none, .iadd, 1, 0, 0, 0), (648, none, .iaload, 1, 0, 0, 0), (649, none, .i2l, 1, 0, 0, 0), (650, none, .bipush 32, 2, 0, 32, 0), (652, none, .lshl, 1, 0, 0, 0), (653, none, .aload_n 0, 1, 0, 0, 0)] := fq_of2 cd_720 ow_720 cl_720 rfl (pc := 633) (by decide +kernel)
    j_aldn (pc := 633) D rfl rfl rfl fun D =>
    j_aldn (pc := 634) D rfl rfl rfl fun D =>
    j_ildn (pc := 635) D rfl rfl rfl fun D =>
    j_ic (pc := 636) D rfl fun D =>
    j_iadd (pc := 637) D rfl fun D =>
    j_alp (pc := 638) (e := 10) H.2.1 D rfl rfl ⟨rfl, rfl, rfl⟩ rfl fun q q2 D =>
    j_aldn (pc := 639) D rfl rfl rfl fun D =>
    j_ildn (pc := 640) D rfl rfl rfl fun D =>
    j_ic (pc := 641) D rfl fun D =>
    j_iadd (pc := 642) D rfl fun D =>
    j_alp (pc := 643) (e := 10) H.2.1 D rfl rfl ⟨rfl, rfl, rfl⟩ rfl fun q q2 D =>
    j_aldn (pc := 644) D rfl rfl rfl fun D =>
    j_ildn (pc := 645) D rfl rfl rfl fun D =>
    j_ic (pc := 646) D rfl fun D =>
    j_iadd (pc := 647) D rfl fun D =>
    j_alp (pc := 648) (e := 10) H.2.1 D rfl rfl ⟨rfl, rfl, rfl⟩ rfl fun q q2 D =>
    j_i2l (pc := 649) D rfl fun D =>
    j_bp (pc := 650) D rfl fun D =>
    j_lshl (pc := 652) D rfl fun D =>
    j_aldn (pc := 653) D rfl rfl rfl fun D =>
    have D : fk_D 720 [(654, none, .iload_n 3, 1, 0, 0, 0), (655, none, .iconst 4, 1, 0, 4, 0), (656, none, .iadd, 1, 0, 0, 0), (657, none, .iaload, 1, 0, 0, 0), (658, none, .i2l, 1, 0, 0, 0), (659, none, .ldc2_w 71, 3, 1, 4294967295, 0), (662, none, .land, 1, 0, 0, 0), (663, none, .lor, 1, 0, 0, 0), (664, none, .aload_n 0, 1, 0, 0, 0), (665, none, .iload_n 3, 1, 0, 0, 0), (666, none, .iconst 5, 1, 0, 5, 0), (667, none, .iadd, 1, 0, 0, 0), (668, none, .iaload, 1, 0, 0, 0), (669, none, .i2l, 1, 0, 0, 0), (670, none, .bipush 32, 2, 0, 32, 0), (672, none, .lshl, 1, 0, 0, 0), (673, none, .aload_n 0, 1, 0, 0, 0), (674, none, .iload_n 3, 1, 0, 0, 0), (675, none, .bipush 6, 2, 0, 6, 0), (677, none, .iadd, 1, 0, 0, 0)] := fq_of2 cd_720 ow_720 cl_720 rfl (pc := 654) (by decide +kernel)
    j_ildn (pc := 654) D rfl rfl rfl fun D =>
    j_ic (pc := 655) D rfl fun D =>
    j_iadd (pc := 656) D rfl fun D =>
    j_alp (pc := 657) (e := 10) H.2.1 D rfl rfl ⟨rfl, rfl, rfl⟩ rfl fun q q2 D =>
    j_i2l (pc := 658) D rfl fun D =>
    j_ldc2 (pc := 659) D rfl fun D =>
    j_land (pc := 662) D rfl fun D =>
    j_lor (pc := 663) D rfl fun D =>
    j_aldn (pc := 664) D rfl rfl rfl fun D =>
    j_ildn (pc := 665) D rfl rfl rfl fun D =>
    j_ic (pc := 666) D rfl fun D =>
    j_iadd (pc := 667) D rfl fun D =>
    j_alp (pc := 668) (e := 10) H.2.1 D rfl rfl ⟨rfl, rfl, rfl⟩ rfl fun q q2 D =>
    j_i2l (pc := 669) D rfl fun D =>
    j_bp (pc := 670) D rfl fun D =>
    j_lshl (pc := 672) D rfl fun D =>
    j_aldn (pc := 673) D rfl rfl rfl fun D =>
    j_ildn (pc := 674) D rfl rfl rfl fun D =>
    j_bp (pc := 675) D rfl fun D =>
    j_iadd (pc := 677) D rfl fun D =>
    have D : fk_D 720 [(678, none, .iaload, 1, 0, 0, 0), (679, none, .i2l, 1, 0, 0, 0), (680, none, .ldc2_w 71, 3, 1, 4294967295, 0), (683, none, .land, 1, 0, 0, 0), (684, none, .lor, 1, 0, 0, 0), (685, none, .aload_n 0, 1, 0, 0, 0), (686, none, .iload_n 3, 1, 0, 0, 0), (687, none, .bipush 7, 2, 0, 7, 0), (689, none, .iadd, 1, 0, 0, 0), (690, none, .iaload, 1, 0, 0, 0), (691, none, .aload_n 0, 1, 0, 0, 0), (692, none, .iload_n 3, 1, 0, 0, 0), (693, none, .bipush 8, 2, 0, 8, 0), (695, none, .iadd, 1, 0, 0, 0), (696, none, .iaload, 1, 0, 0, 0), (697, none, .invokevirtual 73, 3, 6, 26, 1), (700, none, .aload_n 2, 1, 0, 0, 0), (701, none, .aload_n 0, 1, 0, 0, 0), (702, none, .iload_n 3, 1, 0, 0, 0), (703, none, .iconst 1, 1, 0, 1, 0)] := fq_of2 cd_720 ow_720 cl_720 rfl (pc := 678) (by decide +kernel)
    j_alp (pc := 678) (e := 10) H.2.1 D rfl rfl ⟨rfl, rfl, rfl⟩ rfl fun q q2 D =>
    j_i2l (pc := 679) D rfl fun D =>
    j_ldc2 (pc := 680) D rfl fun D =>
    j_land (pc := 683) D rfl fun D =>
    j_lor (pc := 684) D rfl fun D =>
    j_aldn (pc := 685) D rfl rfl rfl fun D =>
    j_ildn (pc := 686) D rfl rfl rfl fun D =>
    j_bp (pc := 687) D rfl fun D =>
    j_iadd (pc := 689) D rfl fun D =>
    j_alp (pc := 690) (e := 10) H.2.1 D rfl rfl ⟨rfl, rfl, rfl⟩ rfl fun q q2 D =>
    j_aldn (pc := 691) D rfl rfl rfl fun D =>
    j_ildn (pc := 692) D rfl rfl rfl fun D =>
    j_bp (pc := 693) D rfl fun D =>
    j_iadd (pc := 695) D rfl fun D =>
    j_alp (pc := 696) (e := 10) H.2.1 D rfl rfl ⟨rfl, rfl, rfl⟩ rfl fun q q2 D =>
    j_ivu (pc := 697) (dd := 26) (a := [(0, h 10 x0.toNat (wI (x3 + 1)).toNat), (0, h 10 x0.toNat (wI (x3 + 2)).toNat), (1, lo_ (lsl_ (wI (h 10 x0.toNat (wI (x3 + 3)).toNat)) 32) (la_ (wI (h 10 x0.toNat (wI (x3 + 4)).toNat)) 4294967295)), (1, lo_ (lsl_ (wI (h 10 x0.toNat (wI (x3 + 5)).toNat)) 32) (la_ (wI (h 10 x0.toNat (wI (x3 + 6)).toNat)) 4294967295)), (0, h 10 x0.toNat (wI (x3 + 7)).toNat), (0, h 10 x0.toNat (wI (x3 + 8)).toNat)]) (rest := []) H.2.1 D rfl rfl rfl rfl rfl (fun m4 v2 h1 e1 D =>
      have T := fj_run_ok _ _ _ _ _ _ H.1 e1
      have H := shp_st H T
      j_aldn (pc := 700) D rfl rfl rfl fun D =>
      j_aldn (pc := 701) D rfl rfl rfl fun D =>
      j_ildn (pc := 702) D rfl rfl rfl fun D =>
      j_ic (pc := 703) D rfl fun D =>
      have D : fk_D 720 [(704, none, .iadd, 1, 0, 0, 0), (705, none, .iaload, 1, 0, 0, 0), (706, none, .aload_n 0, 1, 0, 0, 0), (707, none, .iload_n 3, 1, 0, 0, 0), (708, none, .iconst 2, 1, 0, 2, 0), (709, none, .iadd, 1, 0, 0, 0), (710, none, .iaload, 1, 0, 0, 0), (711, none, .aload_n 0, 1, 0, 0, 0), (712, none, .iload_n 3, 1, 0, 0, 0), (713, none, .iconst 3, 1, 0, 3, 0), (714, none, .iadd, 1, 0, 0, 0), (715, none, .iaload, 1, 0, 0, 0), (716, none, .i2l, 1, 0, 0, 0), (717, none, .bipush 32, 2, 0, 32, 0), (719, none, .lshl, 1, 0, 0, 0), (720, none, .aload_n 0, 1, 0, 0, 0), (721, none, .iload_n 3, 1, 0, 0, 0), (722, none, .iconst 4, 1, 0, 4, 0), (723, none, .iadd, 1, 0, 0, 0), (724, none, .iaload, 1, 0, 0, 0)] := fq_of2 cd_720 ow_720 cl_720 rfl (pc := 704) (by decide +kernel)
      j_iadd (pc := 704) D rfl fun D =>
      j_alp (pc := 705) (e := 10) H.2.1 D rfl rfl ⟨rfl, rfl, rfl⟩ rfl fun q q2 D =>
      j_aldn (pc := 706) D rfl rfl rfl fun D =>
      j_ildn (pc := 707) D rfl rfl rfl fun D =>
      j_ic (pc := 708) D rfl fun D =>
      j_iadd (pc := 709) D rfl fun D =>
      j_alp (pc := 710) (e := 10) H.2.1 D rfl rfl ⟨rfl, rfl, rfl⟩ rfl fun q q2 D =>
      j_aldn (pc := 711) D rfl rfl rfl fun D =>
      j_ildn (pc := 712) D rfl rfl rfl fun D =>
      j_ic (pc := 713) D rfl fun D =>
      j_iadd (pc := 714) D rfl fun D =>
      j_alp (pc := 715) (e := 10) H.2.1 D rfl rfl ⟨rfl, rfl, rfl⟩ rfl fun q q2 D =>
      j_i2l (pc := 716) D rfl fun D =>
      j_bp (pc := 717) D rfl fun D =>
      j_lshl (pc := 719) D rfl fun D =>
      j_aldn (pc := 720) D rfl rfl rfl fun D =>
      j_ildn (pc := 721) D rfl rfl rfl fun D =>
      j_ic (pc := 722) D rfl fun D =>
      j_iadd (pc := 723) D rfl fun D =>
      j_alp (pc := 724) (e := 10) H.2.1 D rfl rfl ⟨rfl, rfl, rfl⟩ rfl fun q q2 D =>
      have D : fk_D 720 [(725, none, .i2l, 1, 0, 0, 0), (726, none, .ldc2_w 71, 3, 1, 4294967295, 0), (729, none, .land, 1, 0, 0, 0), (730, none, .lor, 1, 0, 0, 0), (731, none, .aload_n 0, 1, 0, 0, 0), (732, none, .iload_n 3, 1, 0, 0, 0), (733, none, .iconst 5, 1, 0, 5, 0), (734, none, .iadd, 1, 0, 0, 0), (735, none, .iaload, 1, 0, 0, 0), (736, none, .i2l, 1, 0, 0, 0), (737, none, .bipush 32, 2, 0, 32, 0), (739, none, .lshl, 1, 0, 0, 0), (740, none, .aload_n 0, 1, 0, 0, 0), (741, none, .iload_n 3, 1, 0, 0, 0), (742, none, .bipush 6, 2, 0, 6, 0), (744, none, .iadd, 1, 0, 0, 0), (745, none, .iaload, 1, 0, 0, 0), (746, none, .i2l, 1, 0, 0, 0), (747, none, .ldc2_w 71, 3, 1, 4294967295, 0), (750, none, .land, 1, 0, 0, 0)] := fq_of2 cd_720 ow_720 cl_720 rfl (pc := 725) (by decide +kernel)
      j_i2l (pc := 725) D rfl fun D =>
      j_ldc2 (pc := 726) D rfl fun D =>
      j_land (pc := 729) D rfl fun D =>
      j_lor (pc := 730) D rfl fun D =>
      j_aldn (pc := 731) D rfl rfl rfl fun D =>
      j_ildn (pc := 732) D rfl rfl rfl fun D =>
      j_ic (pc := 733) D rfl fun D =>
      j_iadd (pc := 734) D rfl fun D =>
      j_alp (pc := 735) (e := 10) H.2.1 D rfl rfl ⟨rfl, rfl, rfl⟩ rfl fun q q2 D =>
      j_i2l (pc := 736) D rfl fun D =>
      j_bp (pc := 737) D rfl fun D =>
      j_lshl (pc := 739) D rfl fun D =>
      j_aldn (pc := 740) D rfl rfl rfl fun D =>
      j_ildn (pc := 741) D rfl rfl rfl fun D =>
      j_bp (pc := 742) D rfl fun D =>
      j_iadd (pc := 744) D rfl fun D =>
      j_alp (pc := 745) (e := 10) H.2.1 D rfl rfl ⟨rfl, rfl, rfl⟩ rfl fun q q2 D =>
      j_i2l (pc := 746) D rfl fun D =>
      j_ldc2 (pc := 747) D rfl fun D =>
      j_land (pc := 750) D rfl fun D =>
      have D : fk_D 720 [(751, none, .lor, 1, 0, 0, 0), (752, none, .aload_n 0, 1, 0, 0, 0), (753, none, .iload_n 3, 1, 0, 0, 0), (754, none, .bipush 7, 2, 0, 7, 0), (756, none, .iadd, 1, 0, 0, 0), (757, none, .iaload, 1, 0, 0, 0), (758, none, .aload_n 0, 1, 0, 0, 0), (759, none, .iload_n 3, 1, 0, 0, 0), (760, none, .bipush 8, 2, 0, 8, 0), (762, none, .iadd, 1, 0, 0, 0), (763, none, .iaload, 1, 0, 0, 0), (764, none, .invokevirtual 77, 3, 6, 27, 1), (767, none, .if_icmp .eq 1626, 3, 2393, 0, 0), (770, none, .iconst 0, 1, 0, 0, 0), (771, none, .ireturn, 1, 0, 0, 0)] := fq_of2 cd_720 ow_720 cl_720 rfl (pc := 751) (by decide +kernel)
      j_lor (pc := 751) D rfl fun D =>
      j_aldn (pc := 752) D rfl rfl rfl fun D =>
      j_ildn (pc := 753) D rfl rfl rfl fun D =>
      j_bp (pc := 754) D rfl fun D =>
      j_iadd (pc := 756) D rfl fun D =>
      j_alp (pc := 757) (e := 10) H.2.1 D rfl rfl ⟨rfl, rfl, rfl⟩ rfl fun q q2 D =>
      j_aldn (pc := 758) D rfl rfl rfl fun D =>
      j_ildn (pc := 759) D rfl rfl rfl fun D =>
      j_bp (pc := 760) D rfl fun D =>
      j_iadd (pc := 762) D rfl fun D =>
      j_alp (pc := 763) (e := 10) H.2.1 D rfl rfl ⟨rfl, rfl, rfl⟩ rfl fun q q2 D =>
      j_ivu (pc := 764) (dd := 27) (a := [(0, h1 10 x0.toNat (wI (x3 + 1)).toNat), (0, h1 10 x0.toNat (wI (x3 + 2)).toNat), (1, lo_ (lsl_ (wI (h1 10 x0.toNat (wI (x3 + 3)).toNat)) 32) (la_ (wI (h1 10 x0.toNat (wI (x3 + 4)).toNat)) 4294967295)), (1, lo_ (lsl_ (wI (h1 10 x0.toNat (wI (x3 + 5)).toNat)) 32) (la_ (wI (h1 10 x0.toNat (wI (x3 + 6)).toNat)) 4294967295)), (0, h1 10 x0.toNat (wI (x3 + 7)).toNat), (0, h1 10 x0.toNat (wI (x3 + 8)).toNat)]) (rest := [(0, v2)]) H.2.1 D rfl rfl rfl rfl rfl (fun m8 v6 h5 e1 D =>
        have T := fj_run_ok _ _ _ _ _ _ H.1 e1
        have H := shp_st H T
        j_ieq (pc := 767) D rfl (fun q =>
          fk_jump cut_720_2393 rfl rfl) (fun q D =>
          j_ic (pc := 770) D rfl fun D =>
          j_zret D rt_720 (gy (by decide)))) (fun m8 q7 h5 e1 =>
        j_tx (hx_720 _))) (fun m4 q3 h1 e1 =>
      j_tx (hx_720 _))
theorem e_720_772 (d : Nat) (x0 x1 x2 x3 : Int) {h : fi_H} (H : Shp h) : c_720_772 d x0 x1 x2 x3 h =
  if h 0 x0.toNat 0 = 10 ∧ 0 ≤ wI (x3 + 1) ∧ wI (x3 + 1) < h 1 x0.toNat 0 then
  if h 0 x0.toNat 0 = 10 ∧ 0 ≤ wI (x3 + 2) ∧ wI (x3 + 2) < h 1 x0.toNat 0 then
  if h 0 x0.toNat 0 = 10 ∧ 0 ≤ wI (x3 + 3) ∧ wI (x3 + 3) < h 1 x0.toNat 0 then
  if h 0 x0.toNat 0 = 10 ∧ 0 ≤ wI (x3 + 4) ∧ wI (x3 + 4) < h 1 x0.toNat 0 then
  dv_ (fi_vt 28 (h 0 x1.toNat 0)) fun m4 => ca_ (fj_run d m4 h [(4, x1), (0, h 10 x0.toNat (wI (x3 + 1)).toNat), (0, h 10 x0.toNat (wI (x3 + 2)).toNat), (0, h 10 x0.toNat (wI (x3 + 3)).toNat), (0, h 10 x0.toNat (wI (x3 + 4)).toNat)]) 0
    (fun v2 h1 =>
    if h1 0 x0.toNat 0 = 10 ∧ 0 ≤ wI (x3 + 1) ∧ wI (x3 + 1) < h1 1 x0.toNat 0 then
    if h1 0 x0.toNat 0 = 10 ∧ 0 ≤ wI (x3 + 2) ∧ wI (x3 + 2) < h1 1 x0.toNat 0 then
    if h1 0 x0.toNat 0 = 10 ∧ 0 ≤ wI (x3 + 3) ∧ wI (x3 + 3) < h1 1 x0.toNat 0 then
    if h1 0 x0.toNat 0 = 10 ∧ 0 ≤ wI (x3 + 4) ∧ wI (x3 + 4) < h1 1 x0.toNat 0 then
    dv_ (fi_vt 29 (h1 0 x2.toNat 0)) fun m8 => ca_ (fj_run d m8 h1 [(4, x2), (0, h1 10 x0.toNat (wI (x3 + 1)).toNat), (0, h1 10 x0.toNat (wI (x3 + 2)).toNat), (0, h1 10 x0.toNat (wI (x3 + 3)).toNat), (0, h1 10 x0.toNat (wI (x3 + 4)).toNat)]) 0
      (fun v6 h5 =>
      if v2 = v6 then
        c_720_2393 d x0 x1 x2 x3 h5
      else
        some (.inl (some (0, 0)), h5))
      (fun q7 h5 => tx_ q7 h5)
    else none
    else none
    else none
    else none)
    (fun q3 h1 => tx_ q3 h1)
  else none
  else none
  else none
  else none := by
  unfold c_720_772
  exact
    have D : fk_D 720 [(772, some [0, 1, 2, 3], .aload_n 1, 1, 0, 0, 0), (773, none, .aload_n 0, 1, 0, 0, 0), (774, none, .iload_n 3, 1, 0, 0, 0), (775, none, .iconst 1, 1, 0, 1, 0), (776, none, .iadd, 1, 0, 0, 0), (777, none, .iaload, 1, 0, 0, 0), (778, none, .aload_n 0, 1, 0, 0, 0), (779, none, .iload_n 3, 1, 0, 0, 0), (780, none, .iconst 2, 1, 0, 2, 0), (781, none, .iadd, 1, 0, 0, 0), (782, none, .iaload, 1, 0, 0, 0), (783, none, .aload_n 0, 1, 0, 0, 0), (784, none, .iload_n 3, 1, 0, 0, 0), (785, none, .iconst 3, 1, 0, 3, 0), (786, none, .iadd, 1, 0, 0, 0), (787, none, .iaload, 1, 0, 0, 0), (788, none, .aload_n 0, 1, 0, 0, 0), (789, none, .iload_n 3, 1, 0, 0, 0), (790, none, .iconst 4, 1, 0, 4, 0), (791, none, .iadd, 1, 0, 0, 0)] := fq_of2 cd_720 ow_720 cl_720 rfl (pc := 772) (by decide +kernel)
    j_aldn (pc := 772) D rfl rfl rfl fun D =>
    j_aldn (pc := 773) D rfl rfl rfl fun D =>
    j_ildn (pc := 774) D rfl rfl rfl fun D =>
    j_ic (pc := 775) D rfl fun D =>
    j_iadd (pc := 776) D rfl fun D =>
    j_alp (pc := 777) (e := 10) H.2.1 D rfl rfl ⟨rfl, rfl, rfl⟩ rfl fun q q2 D =>
    j_aldn (pc := 778) D rfl rfl rfl fun D =>
    j_ildn (pc := 779) D rfl rfl rfl fun D =>
    j_ic (pc := 780) D rfl fun D =>
    j_iadd (pc := 781) D rfl fun D =>
    j_alp (pc := 782) (e := 10) H.2.1 D rfl rfl ⟨rfl, rfl, rfl⟩ rfl fun q q2 D =>
    j_aldn (pc := 783) D rfl rfl rfl fun D =>
    j_ildn (pc := 784) D rfl rfl rfl fun D =>
    j_ic (pc := 785) D rfl fun D =>
    j_iadd (pc := 786) D rfl fun D =>
    j_alp (pc := 787) (e := 10) H.2.1 D rfl rfl ⟨rfl, rfl, rfl⟩ rfl fun q q2 D =>
    j_aldn (pc := 788) D rfl rfl rfl fun D =>
    j_ildn (pc := 789) D rfl rfl rfl fun D =>
    j_ic (pc := 790) D rfl fun D =>
    j_iadd (pc := 791) D rfl fun D =>
    have D : fk_D 720 [(792, none, .iaload, 1, 0, 0, 0), (793, none, .invokevirtual 78, 3, 4, 28, 1), (796, none, .aload_n 2, 1, 0, 0, 0), (797, none, .aload_n 0, 1, 0, 0, 0), (798, none, .iload_n 3, 1, 0, 0, 0), (799, none, .iconst 1, 1, 0, 1, 0), (800, none, .iadd, 1, 0, 0, 0), (801, none, .iaload, 1, 0, 0, 0), (802, none, .aload_n 0, 1, 0, 0, 0), (803, none, .iload_n 3, 1, 0, 0, 0), (804, none, .iconst 2, 1, 0, 2, 0), (805, none, .iadd, 1, 0, 0, 0), (806, none, .iaload, 1, 0, 0, 0), (807, none, .aload_n 0, 1, 0, 0, 0), (808, none, .iload_n 3, 1, 0, 0, 0), (809, none, .iconst 3, 1, 0, 3, 0), (810, none, .iadd, 1, 0, 0, 0), (811, none, .iaload, 1, 0, 0, 0), (812, none, .aload_n 0, 1, 0, 0, 0), (813, none, .iload_n 3, 1, 0, 0, 0)] := fq_of2 cd_720 ow_720 cl_720 rfl (pc := 792) (by decide +kernel)
    j_alp (pc := 792) (e := 10) H.2.1 D rfl rfl ⟨rfl, rfl, rfl⟩ rfl fun q q2 D =>
    j_ivu (pc := 793) (dd := 28) (a := [(0, h 10 x0.toNat (wI (x3 + 1)).toNat), (0, h 10 x0.toNat (wI (x3 + 2)).toNat), (0, h 10 x0.toNat (wI (x3 + 3)).toNat), (0, h 10 x0.toNat (wI (x3 + 4)).toNat)]) (rest := []) H.2.1 D rfl rfl rfl rfl rfl (fun m4 v2 h1 e1 D =>
      have T := fj_run_ok _ _ _ _ _ _ H.1 e1
      have H := shp_st H T
      j_aldn (pc := 796) D rfl rfl rfl fun D =>
      j_aldn (pc := 797) D rfl rfl rfl fun D =>
      j_ildn (pc := 798) D rfl rfl rfl fun D =>
      j_ic (pc := 799) D rfl fun D =>
      j_iadd (pc := 800) D rfl fun D =>
      j_alp (pc := 801) (e := 10) H.2.1 D rfl rfl ⟨rfl, rfl, rfl⟩ rfl fun q q2 D =>
      j_aldn (pc := 802) D rfl rfl rfl fun D =>
      j_ildn (pc := 803) D rfl rfl rfl fun D =>
      j_ic (pc := 804) D rfl fun D =>
      j_iadd (pc := 805) D rfl fun D =>
      j_alp (pc := 806) (e := 10) H.2.1 D rfl rfl ⟨rfl, rfl, rfl⟩ rfl fun q q2 D =>
      j_aldn (pc := 807) D rfl rfl rfl fun D =>
      j_ildn (pc := 808) D rfl rfl rfl fun D =>
      j_ic (pc := 809) D rfl fun D =>
      j_iadd (pc := 810) D rfl fun D =>
      j_alp (pc := 811) (e := 10) H.2.1 D rfl rfl ⟨rfl, rfl, rfl⟩ rfl fun q q2 D =>
      j_aldn (pc := 812) D rfl rfl rfl fun D =>
      j_ildn (pc := 813) D rfl rfl rfl fun D =>
      have D : fk_D 720 [(814, none, .iconst 4, 1, 0, 4, 0), (815, none, .iadd, 1, 0, 0, 0), (816, none, .iaload, 1, 0, 0, 0), (817, none, .invokevirtual 81, 3, 4, 29, 1), (820, none, .if_icmp .eq 1573, 3, 2393, 0, 0), (823, none, .iconst 0, 1, 0, 0, 0), (824, none, .ireturn, 1, 0, 0, 0)] := fq_of2 cd_720 ow_720 cl_720 rfl (pc := 814) (by decide +kernel)
      j_ic (pc := 814) D rfl fun D =>
      j_iadd (pc := 815) D rfl fun D =>
      j_alp (pc := 816) (e := 10) H.2.1 D rfl rfl ⟨rfl, rfl, rfl⟩ rfl fun q q2 D =>
      j_ivu (pc := 817) (dd := 29) (a := [(0, h1 10 x0.toNat (wI (x3 + 1)).toNat), (0, h1 10 x0.toNat (wI (x3 + 2)).toNat), (0, h1 10 x0.toNat (wI (x3 + 3)).toNat), (0, h1 10 x0.toNat (wI (x3 + 4)).toNat)]) (rest := [(0, v2)]) H.2.1 D rfl rfl rfl rfl rfl (fun m8 v6 h5 e1 D =>
        have T := fj_run_ok _ _ _ _ _ _ H.1 e1
        have H := shp_st H T
        j_ieq (pc := 820) D rfl (fun q =>
          fk_jump cut_720_2393 rfl rfl) (fun q D =>
          j_ic (pc := 823) D rfl fun D =>
          j_zret D rt_720 (gy (by decide)))) (fun m8 q7 h5 e1 =>
        j_tx (hx_720 _))) (fun m4 q3 h1 e1 =>
      j_tx (hx_720 _))
theorem e_720_825 (d : Nat) (x0 x1 x2 x3 : Int) {h : fi_H} (H : Shp h) : c_720_825 d x0 x1 x2 x3 h =
  if h 0 x0.toNat 0 = 10 ∧ 0 ≤ wI (x3 + 1) ∧ wI (x3 + 1) < h 1 x0.toNat 0 then
  if h 0 x0.toNat 0 = 10 ∧ 0 ≤ wI (x3 + 2) ∧ wI (x3 + 2) < h 1 x0.toNat 0 then
  if h 0 x0.toNat 0 = 10 ∧ 0 ≤ wI (x3 + 3) ∧ wI (x3 + 3) < h 1 x0.toNat 0 then
  if h 0 x0.toNat 0 = 10 ∧ 0 ≤ wI (x3 + 4) ∧ wI (x3 + 4) < h 1 x0.toNat 0 then
  if h 0 x0.toNat 0 = 10 ∧ 0 ≤ wI (x3 + 5) ∧ wI (x3 + 5) < h 1 x0.toNat 0 then
  if h 0 x0.toNat 0 = 10 ∧ 0 ≤ wI (x3 + 6) ∧ wI (x3 + 6) < h 1 x0.toNat 0 then
  dv_ (fi_vt 30 (h 0 x1.toNat 0)) fun m4 => ca_ (fj_run d m4 h [(4, x1), (0, h 10 x0.toNat (wI (x3 + 1)).toNat), (0, h 10 x0.toNat (wI (x3 + 2)).toNat), (1, lo_ (lsl_ (wI (h 10 x0.toNat (wI (x3 + 3)).toNat)) 32) (la_ (wI (h 10 x0.toNat (wI (x3 + 4)).toNat)) 4294967295)), (1, lo_ (lsl_ (wI (h 10 x0.toNat (wI (x3 + 5)).toNat)) 32) (la_ (wI (h 10 x0.toNat (wI (x3 + 6)).toNat)) 4294967295))]) 0
    (fun v2 h1 =>
    if h1 0 x0.toNat 0 = 10 ∧ 0 ≤ wI (x3 + 1) ∧ wI (x3 + 1) < h1 1 x0.toNat 0 then
    if h1 0 x0.toNat 0 = 10 ∧ 0 ≤ wI (x3 + 2) ∧ wI (x3 + 2) < h1 1 x0.toNat 0 then
    if h1 0 x0.toNat 0 = 10 ∧ 0 ≤ wI (x3 + 3) ∧ wI (x3 + 3) < h1 1 x0.toNat 0 then
    if h1 0 x0.toNat 0 = 10 ∧ 0 ≤ wI (x3 + 4) ∧ wI (x3 + 4) < h1 1 x0.toNat 0 then
    if h1 0 x0.toNat 0 = 10 ∧ 0 ≤ wI (x3 + 5) ∧ wI (x3 + 5) < h1 1 x0.toNat 0 then
    if h1 0 x0.toNat 0 = 10 ∧ 0 ≤ wI (x3 + 6) ∧ wI (x3 + 6) < h1 1 x0.toNat 0 then
    dv_ (fi_vt 31 (h1 0 x2.toNat 0)) fun m8 => ca_ (fj_run d m8 h1 [(4, x2), (0, h1 10 x0.toNat (wI (x3 + 1)).toNat), (0, h1 10 x0.toNat (wI (x3 + 2)).toNat), (1, lo_ (lsl_ (wI (h1 10 x0.toNat (wI (x3 + 3)).toNat)) 32) (la_ (wI (h1 10 x0.toNat (wI (x3 + 4)).toNat)) 4294967295)), (1, lo_ (lsl_ (wI (h1 10 x0.toNat (wI (x3 + 5)).toNat)) 32) (la_ (wI (h1 10 x0.toNat (wI (x3 + 6)).toNat)) 4294967295))]) 0
      (fun v6 h5 =>
      if v2 = v6 then
        c_720_2393 d x0 x1 x2 x3 h5
      else
        some (.inl (some (0, 0)), h5))
      (fun q7 h5 => tx_ q7 h5)
    else none
    else none
    else none
    else none
    else none
    else none)
    (fun q3 h1 => tx_ q3 h1)
  else none
  else none
  else none
  else none
  else none
  else none := by
  unfold c_720_825
  exact
    have D : fk_D 720 [(825, some [0, 1, 2, 3], .aload_n 1, 1, 0, 0, 0), (826, none, .aload_n 0, 1, 0, 0, 0), (827, none, .iload_n 3, 1, 0, 0, 0), (828, none, .iconst 1, 1, 0, 1, 0), (829, none, .iadd, 1, 0, 0, 0), (830, none, .iaload, 1, 0, 0, 0), (831, none, .aload_n 0, 1, 0, 0, 0), (832, none, .iload_n 3, 1, 0, 0, 0), (833, none, .iconst 2, 1, 0, 2, 0), (834, none, .iadd, 1, 0, 0, 0), (835, none, .iaload, 1, 0, 0, 0), (836, none, .aload_n 0, 1, 0, 0, 0), (837, none, .iload_n 3, 1, 0, 0, 0), (838, none, .iconst 3, 1, 0, 3, 0), (839, none, .iadd, 1, 0, 0, 0), (840, none, .iaload, 1, 0, 0, 0), (841, none, .i2l, 1, 0, 0, 0), (842, none, .bipush 32, 2, 0, 32, 0), (844, none, .lshl, 1, 0, 0, 0), (845, none, .aload_n 0, 1, 0, 0, 0)] := fq_of2 cd_720 ow_720 cl_720 rfl (pc := 825) (by decide +kernel)
    j_aldn (pc := 825) D rfl rfl rfl fun D =>
    j_aldn (pc := 826) D rfl rfl rfl fun D =>
    j_ildn (pc := 827) D rfl rfl rfl fun D =>
    j_ic (pc := 828) D rfl fun D =>
    j_iadd (pc := 829) D rfl fun D =>
    j_alp (pc := 830) (e := 10) H.2.1 D rfl rfl ⟨rfl, rfl, rfl⟩ rfl fun q q2 D =>
    j_aldn (pc := 831) D rfl rfl rfl fun D =>
    j_ildn (pc := 832) D rfl rfl rfl fun D =>
    j_ic (pc := 833) D rfl fun D =>
    j_iadd (pc := 834) D rfl fun D =>
    j_alp (pc := 835) (e := 10) H.2.1 D rfl rfl ⟨rfl, rfl, rfl⟩ rfl fun q q2 D =>
    j_aldn (pc := 836) D rfl rfl rfl fun D =>
    j_ildn (pc := 837) D rfl rfl rfl fun D =>
    j_ic (pc := 838) D rfl fun D =>
    j_iadd (pc := 839) D rfl fun D =>
    j_alp (pc := 840) (e := 10) H.2.1 D rfl rfl ⟨rfl, rfl, rfl⟩ rfl fun q q2 D =>
    j_i2l (pc := 841) D rfl fun D =>
    j_bp (pc := 842) D rfl fun D =>
    j_lshl (pc := 844) D rfl fun D =>
    j_aldn (pc := 845) D rfl rfl rfl fun D =>
    have D : fk_D 720 [(846, none, .iload_n 3, 1, 0, 0, 0), (847, none, .iconst 4, 1, 0, 4, 0), (848, none, .iadd, 1, 0, 0, 0), (849, none, .iaload, 1, 0, 0, 0), (850, none, .i2l, 1, 0, 0, 0), (851, none, .ldc2_w 71, 3, 1, 4294967295, 0), (854, none, .land, 1, 0, 0, 0), (855, none, .lor, 1, 0, 0, 0), (856, none, .aload_n 0, 1, 0, 0, 0), (857, none, .iload_n 3, 1, 0, 0, 0), (858, none, .iconst 5, 1, 0, 5, 0), (859, none, .iadd, 1, 0, 0, 0), (860, none, .iaload, 1, 0, 0, 0), (861, none, .i2l, 1, 0, 0, 0), (862, none, .bipush 32, 2, 0, 32, 0), (864, none, .lshl, 1, 0, 0, 0), (865, none, .aload_n 0, 1, 0, 0, 0), (866, none, .iload_n 3, 1, 0, 0, 0), (867, none, .bipush 6, 2, 0, 6, 0), (869, none, .iadd, 1, 0, 0, 0)] := fq_of2 cd_720 ow_720 cl_720 rfl (pc := 846) (by decide +kernel)
    j_ildn (pc := 846) D rfl rfl rfl fun D =>
    j_ic (pc := 847) D rfl fun D =>
    j_iadd (pc := 848) D rfl fun D =>
    j_alp (pc := 849) (e := 10) H.2.1 D rfl rfl ⟨rfl, rfl, rfl⟩ rfl fun q q2 D =>
    j_i2l (pc := 850) D rfl fun D =>
    j_ldc2 (pc := 851) D rfl fun D =>
    j_land (pc := 854) D rfl fun D =>
    j_lor (pc := 855) D rfl fun D =>
    j_aldn (pc := 856) D rfl rfl rfl fun D =>
    j_ildn (pc := 857) D rfl rfl rfl fun D =>
    j_ic (pc := 858) D rfl fun D =>
    j_iadd (pc := 859) D rfl fun D =>
    j_alp (pc := 860) (e := 10) H.2.1 D rfl rfl ⟨rfl, rfl, rfl⟩ rfl fun q q2 D =>
    j_i2l (pc := 861) D rfl fun D =>
    j_bp (pc := 862) D rfl fun D =>
    j_lshl (pc := 864) D rfl fun D =>
    j_aldn (pc := 865) D rfl rfl rfl fun D =>
    j_ildn (pc := 866) D rfl rfl rfl fun D =>
    j_bp (pc := 867) D rfl fun D =>
    j_iadd (pc := 869) D rfl fun D =>
    have D : fk_D 720 [(870, none, .iaload, 1, 0, 0, 0), (871, none, .i2l, 1, 0, 0, 0), (872, none, .ldc2_w 71, 3, 1, 4294967295, 0), (875, none, .land, 1, 0, 0, 0), (876, none, .lor, 1, 0, 0, 0), (877, none, .invokevirtual 82, 3, 4, 30, 1), (880, none, .aload_n 2, 1, 0, 0, 0), (881, none, .aload_n 0, 1, 0, 0, 0), (882, none, .iload_n 3, 1, 0, 0, 0), (883, none, .iconst 1, 1, 0, 1, 0), (884, none, .iadd, 1, 0, 0, 0), (885, none, .iaload, 1, 0, 0, 0), (886, none, .aload_n 0, 1, 0, 0, 0), (887, none, .iload_n 3, 1, 0, 0, 0), (888, none, .iconst 2, 1, 0, 2, 0), (889, none, .iadd, 1, 0, 0, 0), (890, none, .iaload, 1, 0, 0, 0), (891, none, .aload_n 0, 1, 0, 0, 0), (892, none, .iload_n 3, 1, 0, 0, 0), (893, none, .iconst 3, 1, 0, 3, 0)] := fq_of2 cd_720 ow_720 cl_720 rfl (pc := 870) (by decide +kernel)
    j_alp (pc := 870) (e := 10) H.2.1 D rfl rfl ⟨rfl, rfl, rfl⟩ rfl fun q q2 D =>
    j_i2l (pc := 871) D rfl fun D =>
    j_ldc2 (pc := 872) D rfl fun D =>
    j_land (pc := 875) D rfl fun D =>
    j_lor (pc := 876) D rfl fun D =>
    j_ivu (pc := 877) (dd := 30) (a := [(0, h 10 x0.toNat (wI (x3 + 1)).toNat), (0, h 10 x0.toNat (wI (x3 + 2)).toNat), (1, lo_ (lsl_ (wI (h 10 x0.toNat (wI (x3 + 3)).toNat)) 32) (la_ (wI (h 10 x0.toNat (wI (x3 + 4)).toNat)) 4294967295)), (1, lo_ (lsl_ (wI (h 10 x0.toNat (wI (x3 + 5)).toNat)) 32) (la_ (wI (h 10 x0.toNat (wI (x3 + 6)).toNat)) 4294967295))]) (rest := []) H.2.1 D rfl rfl rfl rfl rfl (fun m4 v2 h1 e1 D =>
      have T := fj_run_ok _ _ _ _ _ _ H.1 e1
      have H := shp_st H T
      j_aldn (pc := 880) D rfl rfl rfl fun D =>
      j_aldn (pc := 881) D rfl rfl rfl fun D =>
      j_ildn (pc := 882) D rfl rfl rfl fun D =>
      j_ic (pc := 883) D rfl fun D =>
      j_iadd (pc := 884) D rfl fun D =>
      j_alp (pc := 885) (e := 10) H.2.1 D rfl rfl ⟨rfl, rfl, rfl⟩ rfl fun q q2 D =>
      j_aldn (pc := 886) D rfl rfl rfl fun D =>
      j_ildn (pc := 887) D rfl rfl rfl fun D =>
      j_ic (pc := 888) D rfl fun D =>
      j_iadd (pc := 889) D rfl fun D =>
      j_alp (pc := 890) (e := 10) H.2.1 D rfl rfl ⟨rfl, rfl, rfl⟩ rfl fun q q2 D =>
      j_aldn (pc := 891) D rfl rfl rfl fun D =>
      j_ildn (pc := 892) D rfl rfl rfl fun D =>
      j_ic (pc := 893) D rfl fun D =>
      have D : fk_D 720 [(894, none, .iadd, 1, 0, 0, 0), (895, none, .iaload, 1, 0, 0, 0), (896, none, .i2l, 1, 0, 0, 0), (897, none, .bipush 32, 2, 0, 32, 0), (899, none, .lshl, 1, 0, 0, 0), (900, none, .aload_n 0, 1, 0, 0, 0), (901, none, .iload_n 3, 1, 0, 0, 0), (902, none, .iconst 4, 1, 0, 4, 0), (903, none, .iadd, 1, 0, 0, 0), (904, none, .iaload, 1, 0, 0, 0), (905, none, .i2l, 1, 0, 0, 0), (906, none, .ldc2_w 71, 3, 1, 4294967295, 0), (909, none, .land, 1, 0, 0, 0), (910, none, .lor, 1, 0, 0, 0), (911, none, .aload_n 0, 1, 0, 0, 0), (912, none, .iload_n 3, 1, 0, 0, 0), (913, none, .iconst 5, 1, 0, 5, 0), (914, none, .iadd, 1, 0, 0, 0), (915, none, .iaload, 1, 0, 0, 0), (916, none, .i2l, 1, 0, 0, 0)] := fq_of2 cd_720 ow_720 cl_720 rfl (pc := 894) (by decide +kernel)
      j_iadd (pc := 894) D rfl fun D =>
      j_alp (pc := 895) (e := 10) H.2.1 D rfl rfl ⟨rfl, rfl, rfl⟩ rfl fun q q2 D =>
      j_i2l (pc := 896) D rfl fun D =>
      j_bp (pc := 897) D rfl fun D =>
      j_lshl (pc := 899) D rfl fun D =>
      j_aldn (pc := 900) D rfl rfl rfl fun D =>
      j_ildn (pc := 901) D rfl rfl rfl fun D =>
      j_ic (pc := 902) D rfl fun D =>
      j_iadd (pc := 903) D rfl fun D =>
      j_alp (pc := 904) (e := 10) H.2.1 D rfl rfl ⟨rfl, rfl, rfl⟩ rfl fun q q2 D =>
      j_i2l (pc := 905) D rfl fun D =>
      j_ldc2 (pc := 906) D rfl fun D =>
      j_land (pc := 909) D rfl fun D =>
      j_lor (pc := 910) D rfl fun D =>
      j_aldn (pc := 911) D rfl rfl rfl fun D =>
      j_ildn (pc := 912) D rfl rfl rfl fun D =>
      j_ic (pc := 913) D rfl fun D =>
      j_iadd (pc := 914) D rfl fun D =>
      j_alp (pc := 915) (e := 10) H.2.1 D rfl rfl ⟨rfl, rfl, rfl⟩ rfl fun q q2 D =>
      j_i2l (pc := 916) D rfl fun D =>
      have D : fk_D 720 [(917, none, .bipush 32, 2, 0, 32, 0), (919, none, .lshl, 1, 0, 0, 0), (920, none, .aload_n 0, 1, 0, 0, 0), (921, none, .iload_n 3, 1, 0, 0, 0), (922, none, .bipush 6, 2, 0, 6, 0), (924, none, .iadd, 1, 0, 0, 0), (925, none, .iaload, 1, 0, 0, 0), (926, none, .i2l, 1, 0, 0, 0), (927, none, .ldc2_w 71, 3, 1, 4294967295, 0), (930, none, .land, 1, 0, 0, 0), (931, none, .lor, 1, 0, 0, 0), (932, none, .invokevirtual 86, 3, 4, 31, 1), (935, none, .if_icmp .eq 1458, 3, 2393, 0, 0), (938, none, .iconst 0, 1, 0, 0, 0), (939, none, .ireturn, 1, 0, 0, 0)] := fq_of2 cd_720 ow_720 cl_720 rfl (pc := 917) (by decide +kernel)
      j_bp (pc := 917) D rfl fun D =>
      j_lshl (pc := 919) D rfl fun D =>
      j_aldn (pc := 920) D rfl rfl rfl fun D =>
      j_ildn (pc := 921) D rfl rfl rfl fun D =>
      j_bp (pc := 922) D rfl fun D =>
      j_iadd (pc := 924) D rfl fun D =>
      j_alp (pc := 925) (e := 10) H.2.1 D rfl rfl ⟨rfl, rfl, rfl⟩ rfl fun q q2 D =>
      j_i2l (pc := 926) D rfl fun D =>
      j_ldc2 (pc := 927) D rfl fun D =>
      j_land (pc := 930) D rfl fun D =>
      j_lor (pc := 931) D rfl fun D =>
      j_ivu (pc := 932) (dd := 31) (a := [(0, h1 10 x0.toNat (wI (x3 + 1)).toNat), (0, h1 10 x0.toNat (wI (x3 + 2)).toNat), (1, lo_ (lsl_ (wI (h1 10 x0.toNat (wI (x3 + 3)).toNat)) 32) (la_ (wI (h1 10 x0.toNat (wI (x3 + 4)).toNat)) 4294967295)), (1, lo_ (lsl_ (wI (h1 10 x0.toNat (wI (x3 + 5)).toNat)) 32) (la_ (wI (h1 10 x0.toNat (wI (x3 + 6)).toNat)) 4294967295))]) (rest := [(0, v2)]) H.2.1 D rfl rfl rfl rfl rfl (fun m8 v6 h5 e1 D =>
        have T := fj_run_ok _ _ _ _ _ _ H.1 e1
        have H := shp_st H T
        j_ieq (pc := 935) D rfl (fun q =>
          fk_jump cut_720_2393 rfl rfl) (fun q D =>
          j_ic (pc := 938) D rfl fun D =>
          j_zret D rt_720 (gy (by decide)))) (fun m8 q7 h5 e1 =>
        j_tx (hx_720 _))) (fun m4 q3 h1 e1 =>
      j_tx (hx_720 _))
theorem e_720_940 (d : Nat) (x0 x1 x2 x3 : Int) {h : fi_H} (H : Shp h) : c_720_940 d x0 x1 x2 x3 h =
  dv_ (fi_vt 32 (h 0 x1.toNat 0)) fun m4 => ca_ (fj_run d m4 h [(4, x1)]) 0
    (fun v2 h1 =>
    dv_ (fi_vt 33 (h1 0 x2.toNat 0)) fun m8 => ca_ (fj_run d m8 h1 [(4, x2)]) 0
      (fun v6 h5 =>
      if v2 = v6 then
        c_720_2393 d x0 x1 x2 x3 h5
      else
        some (.inl (some (0, 0)), h5))
      (fun q7 h5 => tx_ q7 h5))
    (fun q3 h1 => tx_ q3 h1) := by
  unfold c_720_940
  exact
    have D : fk_D 720 [(940, some [0, 1, 2, 3], .aload_n 1, 1, 0, 0, 0), (941, none, .invokevirtual 87, 3, 0, 32, 1), (944, none, .aload_n 2, 1, 0, 0, 0), (945, none, .invokevirtual 90, 3, 0, 33, 1), (948, none, .if_icmp .eq 1445, 3, 2393, 0, 0), (951, none, .iconst 0, 1, 0, 0, 0), (952, none, .ireturn, 1, 0, 0, 0)] := fq_of2 cd_720 ow_720 cl_720 rfl (pc := 940) (by decide +kernel)
    j_aldn (pc := 940) D rfl rfl rfl fun D =>
    j_ivu (pc := 941) (dd := 32) (a := []) (rest := []) H.2.1 D rfl rfl rfl rfl rfl (fun m4 v2 h1 e1 D =>
      have T := fj_run_ok _ _ _ _ _ _ H.1 e1
      have H := shp_st H T
      j_aldn (pc := 944) D rfl rfl rfl fun D =>
      j_ivu (pc := 945) (dd := 33) (a := []) (rest := [(0, v2)]) H.2.1 D rfl rfl rfl rfl rfl (fun m8 v6 h5 e1 D =>
        have T := fj_run_ok _ _ _ _ _ _ H.1 e1
        have H := shp_st H T
        j_ieq (pc := 948) D rfl (fun q =>
          fk_jump cut_720_2393 rfl rfl) (fun q D =>
          j_ic (pc := 951) D rfl fun D =>
          j_zret D rt_720 (gy (by decide)))) (fun m8 q7 h5 e1 =>
        j_tx (hx_720 _))) (fun m4 q3 h1 e1 =>
      j_tx (hx_720 _))
theorem e_720_953 (d : Nat) (x0 x1 x2 x3 : Int) {h : fi_H} (H : Shp h) : c_720_953 d x0 x1 x2 x3 h =
  if h 0 x0.toNat 0 = 10 ∧ 0 ≤ wI (x3 + 1) ∧ wI (x3 + 1) < h 1 x0.toNat 0 then
  if h 0 x0.toNat 0 = 10 ∧ 0 ≤ wI (x3 + 2) ∧ wI (x3 + 2) < h 1 x0.toNat 0 then
  if h 0 x0.toNat 0 = 10 ∧ 0 ≤ wI (x3 + 3) ∧ wI (x3 + 3) < h 1 x0.toNat 0 then
  if h 0 x0.toNat 0 = 10 ∧ 0 ≤ wI (x3 + 4) ∧ wI (x3 + 4) < h 1 x0.toNat 0 then
  if h 0 x0.toNat 0 = 10 ∧ 0 ≤ wI (x3 + 5) ∧ wI (x3 + 5) < h 1 x0.toNat 0 then
  dv_ (fi_vt 34 (h 0 x1.toNat 0)) fun m4 => ca_ (fj_run d m4 h [(4, x1), (0, h 10 x0.toNat (wI (x3 + 1)).toNat), (0, h 10 x0.toNat (wI (x3 + 2)).toNat), (0, h 10 x0.toNat (wI (x3 + 3)).toNat), (0, h 10 x0.toNat (wI (x3 + 4)).toNat), (0, h 10 x0.toNat (wI (x3 + 5)).toNat)]) 0
    (fun v2 h1 =>
    if h1 0 x0.toNat 0 = 10 ∧ 0 ≤ wI (x3 + 1) ∧ wI (x3 + 1) < h1 1 x0.toNat 0 then
    if h1 0 x0.toNat 0 = 10 ∧ 0 ≤ wI (x3 + 2) ∧ wI (x3 + 2) < h1 1 x0.toNat 0 then
    if h1 0 x0.toNat 0 = 10 ∧ 0 ≤ wI (x3 + 3) ∧ wI (x3 + 3) < h1 1 x0.toNat 0 then
    if h1 0 x0.toNat 0 = 10 ∧ 0 ≤ wI (x3 + 4) ∧ wI (x3 + 4) < h1 1 x0.toNat 0 then
    if h1 0 x0.toNat 0 = 10 ∧ 0 ≤ wI (x3 + 5) ∧ wI (x3 + 5) < h1 1 x0.toNat 0 then
    dv_ (fi_vt 35 (h1 0 x2.toNat 0)) fun m8 => ca_ (fj_run d m8 h1 [(4, x2), (0, h1 10 x0.toNat (wI (x3 + 1)).toNat), (0, h1 10 x0.toNat (wI (x3 + 2)).toNat), (0, h1 10 x0.toNat (wI (x3 + 3)).toNat), (0, h1 10 x0.toNat (wI (x3 + 4)).toNat), (0, h1 10 x0.toNat (wI (x3 + 5)).toNat)]) 0
      (fun v6 h5 =>
      if v2 = v6 then
        c_720_2393 d x0 x1 x2 x3 h5
      else
        some (.inl (some (0, 0)), h5))
      (fun q7 h5 => tx_ q7 h5)
    else none
    else none
    else none
    else none
    else none)
    (fun q3 h1 => tx_ q3 h1)
  else none
  else none
  else none
  else none
  else none := by
  unfold c_720_953
  exact
    have D : fk_D 720 [(953, some [0, 1, 2, 3], .aload_n 1, 1, 0, 0, 0), (954, none, .aload_n 0, 1, 0, 0, 0), (955, none, .iload_n 3, 1, 0, 0, 0), (956, none, .iconst 1, 1, 0, 1, 0), (957, none, .iadd, 1, 0, 0, 0), (958, none, .iaload, 1, 0, 0, 0), (959, none, .aload_n 0, 1, 0, 0, 0), (960, none, .iload_n 3, 1, 0, 0, 0), (961, none, .iconst 2, 1, 0, 2, 0), (962, none, .iadd, 1, 0, 0, 0), (963, none, .iaload, 1, 0, 0, 0), (964, none, .aload_n 0, 1, 0, 0, 0), (965, none, .iload_n 3, 1, 0, 0, 0), (966, none, .iconst 3, 1, 0, 3, 0), (967, none, .iadd, 1, 0, 0, 0), (968, none, .iaload, 1, 0, 0, 0), (969, none, .aload_n 0, 1, 0, 0, 0), (970, none, .iload_n 3, 1, 0, 0, 0), (971, none, .iconst 4, 1, 0, 4, 0), (972, none, .iadd, 1, 0, 0, 0)] := fq_of2 cd_720 ow_720 cl_720 rfl (pc := 953) (by decide +kernel)
    j_aldn (pc := 953) D rfl rfl rfl fun D =>
    j_aldn (pc := 954) D rfl rfl rfl fun D =>
    j_ildn (pc := 955) D rfl rfl rfl fun D =>
    j_ic (pc := 956) D rfl fun D =>
    j_iadd (pc := 957) D rfl fun D =>
    j_alp (pc := 958) (e := 10) H.2.1 D rfl rfl ⟨rfl, rfl, rfl⟩ rfl fun q q2 D =>
    j_aldn (pc := 959) D rfl rfl rfl fun D =>
    j_ildn (pc := 960) D rfl rfl rfl fun D =>
    j_ic (pc := 961) D rfl fun D =>
    j_iadd (pc := 962) D rfl fun D =>
    j_alp (pc := 963) (e := 10) H.2.1 D rfl rfl ⟨rfl, rfl, rfl⟩ rfl fun q q2 D =>
    j_aldn (pc := 964) D rfl rfl rfl fun D =>
    j_ildn (pc := 965) D rfl rfl rfl fun D =>
    j_ic (pc := 966) D rfl fun D =>
    j_iadd (pc := 967) D rfl fun D =>
    j_alp (pc := 968) (e := 10) H.2.1 D rfl rfl ⟨rfl, rfl, rfl⟩ rfl fun q q2 D =>
    j_aldn (pc := 969) D rfl rfl rfl fun D =>
    j_ildn (pc := 970) D rfl rfl rfl fun D =>
    j_ic (pc := 971) D rfl fun D =>
    j_iadd (pc := 972) D rfl fun D =>
    have D : fk_D 720 [(973, none, .iaload, 1, 0, 0, 0), (974, none, .aload_n 0, 1, 0, 0, 0), (975, none, .iload_n 3, 1, 0, 0, 0), (976, none, .iconst 5, 1, 0, 5, 0), (977, none, .iadd, 1, 0, 0, 0), (978, none, .iaload, 1, 0, 0, 0), (979, none, .invokevirtual 91, 3, 5, 34, 1), (982, none, .aload_n 2, 1, 0, 0, 0), (983, none, .aload_n 0, 1, 0, 0, 0), (984, none, .iload_n 3, 1, 0, 0, 0), (985, none, .iconst 1, 1, 0, 1, 0), (986, none, .iadd, 1, 0, 0, 0), (987, none, .iaload, 1, 0, 0, 0), (988, none, .aload_n 0, 1, 0, 0, 0), (989, none, .iload_n 3, 1, 0, 0, 0), (990, none, .iconst 2, 1, 0, 2, 0), (991, none, .iadd, 1, 0, 0, 0), (992, none, .iaload, 1, 0, 0, 0), (993, none, .aload_n 0, 1, 0, 0, 0), (994, none, .iload_n 3, 1, 0, 0, 0)] := fq_of2 cd_720 ow_720 cl_720 rfl (pc := 973) (by decide +kernel)
    j_alp (pc := 973) (e := 10) H.2.1 D rfl rfl ⟨rfl, rfl, rfl⟩ rfl fun q q2 D =>
    j_aldn (pc := 974) D rfl rfl rfl fun D =>
    j_ildn (pc := 975) D rfl rfl rfl fun D =>
    j_ic (pc := 976) D rfl fun D =>
    j_iadd (pc := 977) D rfl fun D =>
    j_alp (pc := 978) (e := 10) H.2.1 D rfl rfl ⟨rfl, rfl, rfl⟩ rfl fun q q2 D =>
    j_ivu (pc := 979) (dd := 34) (a := [(0, h 10 x0.toNat (wI (x3 + 1)).toNat), (0, h 10 x0.toNat (wI (x3 + 2)).toNat), (0, h 10 x0.toNat (wI (x3 + 3)).toNat), (0, h 10 x0.toNat (wI (x3 + 4)).toNat), (0, h 10 x0.toNat (wI (x3 + 5)).toNat)]) (rest := []) H.2.1 D rfl rfl rfl rfl rfl (fun m4 v2 h1 e1 D =>
      have T := fj_run_ok _ _ _ _ _ _ H.1 e1
      have H := shp_st H T
      j_aldn (pc := 982) D rfl rfl rfl fun D =>
      j_aldn (pc := 983) D rfl rfl rfl fun D =>
      j_ildn (pc := 984) D rfl rfl rfl fun D =>
      j_ic (pc := 985) D rfl fun D =>
      j_iadd (pc := 986) D rfl fun D =>
      j_alp (pc := 987) (e := 10) H.2.1 D rfl rfl ⟨rfl, rfl, rfl⟩ rfl fun q q2 D =>
      j_aldn (pc := 988) D rfl rfl rfl fun D =>
      j_ildn (pc := 989) D rfl rfl rfl fun D =>
      j_ic (pc := 990) D rfl fun D =>
      j_iadd (pc := 991) D rfl fun D =>
      j_alp (pc := 992) (e := 10) H.2.1 D rfl rfl ⟨rfl, rfl, rfl⟩ rfl fun q q2 D =>
      j_aldn (pc := 993) D rfl rfl rfl fun D =>
      j_ildn (pc := 994) D rfl rfl rfl fun D =>
      have D : fk_D 720 [(995, none, .iconst 3, 1, 0, 3, 0), (996, none, .iadd, 1, 0, 0, 0), (997, none, .iaload, 1, 0, 0, 0), (998, none, .aload_n 0, 1, 0, 0, 0), (999, none, .iload_n 3, 1, 0, 0, 0), (1000, none, .iconst 4, 1, 0, 4, 0), (1001, none, .iadd, 1, 0, 0, 0), (1002, none, .iaload, 1, 0, 0, 0), (1003, none, .aload_n 0, 1, 0, 0, 0), (1004, none, .iload_n 3, 1, 0, 0, 0), (1005, none, .iconst 5, 1, 0, 5, 0), (1006, none, .iadd, 1, 0, 0, 0), (1007, none, .iaload, 1, 0, 0, 0), (1008, none, .invokevirtual 94, 3, 5, 35, 1), (1011, none, .if_icmp .eq 1382, 3, 2393, 0, 0), (1014, none, .iconst 0, 1, 0, 0, 0), (1015, none, .ireturn, 1, 0, 0, 0)] := fq_of2 cd_720 ow_720 cl_720 rfl (pc := 995) (by decide +kernel)
      j_ic (pc := 995) D rfl fun D =>
      j_iadd (pc := 996) D rfl fun D =>
      j_alp (pc := 997) (e := 10) H.2.1 D rfl rfl ⟨rfl, rfl, rfl⟩ rfl fun q q2 D =>
      j_aldn (pc := 998) D rfl rfl rfl fun D =>
      j_ildn (pc := 999) D rfl rfl rfl fun D =>
      j_ic (pc := 1000) D rfl fun D =>
      j_iadd (pc := 1001) D rfl fun D =>
      j_alp (pc := 1002) (e := 10) H.2.1 D rfl rfl ⟨rfl, rfl, rfl⟩ rfl fun q q2 D =>
      j_aldn (pc := 1003) D rfl rfl rfl fun D =>
      j_ildn (pc := 1004) D rfl rfl rfl fun D =>
      j_ic (pc := 1005) D rfl fun D =>
      j_iadd (pc := 1006) D rfl fun D =>
      j_alp (pc := 1007) (e := 10) H.2.1 D rfl rfl ⟨rfl, rfl, rfl⟩ rfl fun q q2 D =>
      j_ivu (pc := 1008) (dd := 35) (a := [(0, h1 10 x0.toNat (wI (x3 + 1)).toNat), (0, h1 10 x0.toNat (wI (x3 + 2)).toNat), (0, h1 10 x0.toNat (wI (x3 + 3)).toNat), (0, h1 10 x0.toNat (wI (x3 + 4)).toNat), (0, h1 10 x0.toNat (wI (x3 + 5)).toNat)]) (rest := [(0, v2)]) H.2.1 D rfl rfl rfl rfl rfl (fun m8 v6 h5 e1 D =>
        have T := fj_run_ok _ _ _ _ _ _ H.1 e1
        have H := shp_st H T
        j_ieq (pc := 1011) D rfl (fun q =>
          fk_jump cut_720_2393 rfl rfl) (fun q D =>
          j_ic (pc := 1014) D rfl fun D =>
          j_zret D rt_720 (gy (by decide)))) (fun m8 q7 h5 e1 =>
        j_tx (hx_720 _))) (fun m4 q3 h1 e1 =>
      j_tx (hx_720 _))
theorem e_720_1016 (d : Nat) (x0 x1 x2 x3 : Int) {h : fi_H} (H : Shp h) : c_720_1016 d x0 x1 x2 x3 h =
  if h 0 x0.toNat 0 = 10 ∧ 0 ≤ wI (x3 + 1) ∧ wI (x3 + 1) < h 1 x0.toNat 0 then
  dv_ (fi_vt 36 (h 0 x1.toNat 0)) fun m4 => ca_ (fj_run d m4 h [(4, x1), (0, h 10 x0.toNat (wI (x3 + 1)).toNat)]) 1
    (fun v2 h1 =>
    if h1 0 x0.toNat 0 = 10 ∧ 0 ≤ wI (x3 + 1) ∧ wI (x3 + 1) < h1 1 x0.toNat 0 then
    dv_ (fi_vt 37 (h1 0 x2.toNat 0)) fun m8 => ca_ (fj_run d m8 h1 [(4, x2), (0, h1 10 x0.toNat (wI (x3 + 1)).toNat)]) 1
      (fun v6 h5 =>
      if lc_ v2 v6 = 0 then
        c_720_2393 d x0 x1 x2 x3 h5
      else
        some (.inl (some (0, 0)), h5))
      (fun q7 h5 => tx_ q7 h5)
    else none)
    (fun q3 h1 => tx_ q3 h1)
  else none := by
  unfold c_720_1016
  exact
    have D : fk_D 720 [(1016, some [0, 1, 2, 3], .aload_n 1, 1, 0, 0, 0), (1017, none, .aload_n 0, 1, 0, 0, 0), (1018, none, .iload_n 3, 1, 0, 0, 0), (1019, none, .iconst 1, 1, 0, 1, 0), (1020, none, .iadd, 1, 0, 0, 0), (1021, none, .iaload, 1, 0, 0, 0), (1022, none, .invokevirtual 95, 3, 1, 36, 2), (1025, none, .aload_n 2, 1, 0, 0, 0), (1026, none, .aload_n 0, 1, 0, 0, 0), (1027, none, .iload_n 3, 1, 0, 0, 0), (1028, none, .iconst 1, 1, 0, 1, 0), (1029, none, .iadd, 1, 0, 0, 0), (1030, none, .iaload, 1, 0, 0, 0), (1031, none, .invokevirtual 99, 3, 1, 37, 2), (1034, none, .lcmp, 1, 0, 0, 0), (1035, none, .ifCond .eq 1358, 3, 2393, 0, 0), (1038, none, .iconst 0, 1, 0, 0, 0), (1039, none, .ireturn, 1, 0, 0, 0)] := fq_of2 cd_720 ow_720 cl_720 rfl (pc := 1016) (by decide +kernel)
    j_aldn (pc := 1016) D rfl rfl rfl fun D =>
    j_aldn (pc := 1017) D rfl rfl rfl fun D =>
    j_ildn (pc := 1018) D rfl rfl rfl fun D =>
    j_ic (pc := 1019) D rfl fun D =>
    j_iadd (pc := 1020) D rfl fun D =>
    j_alp (pc := 1021) (e := 10) H.2.1 D rfl rfl ⟨rfl, rfl, rfl⟩ rfl fun q q2 D =>
    j_ivu (pc := 1022) (dd := 36) (a := [(0, h 10 x0.toNat (wI (x3 + 1)).toNat)]) (rest := []) H.2.1 D rfl rfl rfl rfl rfl (fun m4 v2 h1 e1 D =>
      have T := fj_run_ok _ _ _ _ _ _ H.1 e1
      have H := shp_st H T
      j_aldn (pc := 1025) D rfl rfl rfl fun D =>
      j_aldn (pc := 1026) D rfl rfl rfl fun D =>
      j_ildn (pc := 1027) D rfl rfl rfl fun D =>
      j_ic (pc := 1028) D rfl fun D =>
      j_iadd (pc := 1029) D rfl fun D =>
      j_alp (pc := 1030) (e := 10) H.2.1 D rfl rfl ⟨rfl, rfl, rfl⟩ rfl fun q q2 D =>
      j_ivu (pc := 1031) (dd := 37) (a := [(0, h1 10 x0.toNat (wI (x3 + 1)).toNat)]) (rest := [(1, v2)]) H.2.1 D rfl rfl rfl rfl rfl (fun m8 v6 h5 e1 D =>
        have T := fj_run_ok _ _ _ _ _ _ H.1 e1
        have H := shp_st H T
        j_lcmp (pc := 1034) D rfl fun D =>
        j_ifeq (pc := 1035) D rfl (fun q =>
          fk_jump cut_720_2393 rfl rfl) (fun q D =>
          j_ic (pc := 1038) D rfl fun D =>
          j_zret D rt_720 (gy (by decide)))) (fun m8 q7 h5 e1 =>
        j_tx (hx_720 _))) (fun m4 q3 h1 e1 =>
      j_tx (hx_720 _))
theorem e_720_1040 (d : Nat) (x0 x1 x2 x3 : Int) {h : fi_H} (H : Shp h) : c_720_1040 d x0 x1 x2 x3 h =
  if h 0 x0.toNat 0 = 10 ∧ 0 ≤ wI (x3 + 1) ∧ wI (x3 + 1) < h 1 x0.toNat 0 then
  dv_ (fi_vt 38 (h 0 x1.toNat 0)) fun m4 => ca_ (fj_run d m4 h [(4, x1), (0, h 10 x0.toNat (wI (x3 + 1)).toNat)]) 0
    (fun v2 h1 =>
    if h1 0 x0.toNat 0 = 10 ∧ 0 ≤ wI (x3 + 1) ∧ wI (x3 + 1) < h1 1 x0.toNat 0 then
    dv_ (fi_vt 39 (h1 0 x2.toNat 0)) fun m8 => ca_ (fj_run d m8 h1 [(4, x2), (0, h1 10 x0.toNat (wI (x3 + 1)).toNat)]) 0
      (fun v6 h5 =>
      if v2 = v6 then
        c_720_2393 d x0 x1 x2 x3 h5
      else
        some (.inl (some (0, 0)), h5))
      (fun q7 h5 => tx_ q7 h5)
    else none)
    (fun q3 h1 => tx_ q3 h1)
  else none := by
  unfold c_720_1040
  exact
    have D : fk_D 720 [(1040, some [0, 1, 2, 3], .aload_n 1, 1, 0, 0, 0), (1041, none, .aload_n 0, 1, 0, 0, 0), (1042, none, .iload_n 3, 1, 0, 0, 0), (1043, none, .iconst 1, 1, 0, 1, 0), (1044, none, .iadd, 1, 0, 0, 0), (1045, none, .iaload, 1, 0, 0, 0), (1046, none, .invokevirtual 100, 3, 1, 38, 1), (1049, none, .aload_n 2, 1, 0, 0, 0), (1050, none, .aload_n 0, 1, 0, 0, 0), (1051, none, .iload_n 3, 1, 0, 0, 0), (1052, none, .iconst 1, 1, 0, 1, 0), (1053, none, .iadd, 1, 0, 0, 0), (1054, none, .iaload, 1, 0, 0, 0), (1055, none, .invokevirtual 103, 3, 1, 39, 1), (1058, none, .if_icmp .eq 1335, 3, 2393, 0, 0), (1061, none, .iconst 0, 1, 0, 0, 0), (1062, none, .ireturn, 1, 0, 0, 0)] := fq_of2 cd_720 ow_720 cl_720 rfl (pc := 1040) (by decide +kernel)
    j_aldn (pc := 1040) D rfl rfl rfl fun D =>
    j_aldn (pc := 1041) D rfl rfl rfl fun D =>
    j_ildn (pc := 1042) D rfl rfl rfl fun D =>
    j_ic (pc := 1043) D rfl fun D =>
    j_iadd (pc := 1044) D rfl fun D =>
    j_alp (pc := 1045) (e := 10) H.2.1 D rfl rfl ⟨rfl, rfl, rfl⟩ rfl fun q q2 D =>
    j_ivu (pc := 1046) (dd := 38) (a := [(0, h 10 x0.toNat (wI (x3 + 1)).toNat)]) (rest := []) H.2.1 D rfl rfl rfl rfl rfl (fun m4 v2 h1 e1 D =>
      have T := fj_run_ok _ _ _ _ _ _ H.1 e1
      have H := shp_st H T
      j_aldn (pc := 1049) D rfl rfl rfl fun D =>
      j_aldn (pc := 1050) D rfl rfl rfl fun D =>
      j_ildn (pc := 1051) D rfl rfl rfl fun D =>
      j_ic (pc := 1052) D rfl fun D =>
      j_iadd (pc := 1053) D rfl fun D =>
      j_alp (pc := 1054) (e := 10) H.2.1 D rfl rfl ⟨rfl, rfl, rfl⟩ rfl fun q q2 D =>
      j_ivu (pc := 1055) (dd := 39) (a := [(0, h1 10 x0.toNat (wI (x3 + 1)).toNat)]) (rest := [(0, v2)]) H.2.1 D rfl rfl rfl rfl rfl (fun m8 v6 h5 e1 D =>
        have T := fj_run_ok _ _ _ _ _ _ H.1 e1
        have H := shp_st H T
        j_ieq (pc := 1058) D rfl (fun q =>
          fk_jump cut_720_2393 rfl rfl) (fun q D =>
          j_ic (pc := 1061) D rfl fun D =>
          j_zret D rt_720 (gy (by decide)))) (fun m8 q7 h5 e1 =>
        j_tx (hx_720 _))) (fun m4 q3 h1 e1 =>
      j_tx (hx_720 _))
theorem e_720_1063 (d : Nat) (x0 x1 x2 x3 : Int) {h : fi_H} (H : Shp h) : c_720_1063 d x0 x1 x2 x3 h =
  if h 0 x0.toNat 0 = 10 ∧ 0 ≤ wI (x3 + 1) ∧ wI (x3 + 1) < h 1 x0.toNat 0 then
  if h 0 x0.toNat 0 = 10 ∧ 0 ≤ wI (x3 + 2) ∧ wI (x3 + 2) < h 1 x0.toNat 0 then
  dv_ (fi_vt 40 (h 0 x1.toNat 0)) fun m4 => ca_ (fj_run d m4 h [(4, x1), (0, h 10 x0.toNat (wI (x3 + 1)).toNat), (0, h 10 x0.toNat (wI (x3 + 2)).toNat)]) 1
    (fun v2 h1 =>
    if h1 0 x0.toNat 0 = 10 ∧ 0 ≤ wI (x3 + 1) ∧ wI (x3 + 1) < h1 1 x0.toNat 0 then
    if h1 0 x0.toNat 0 = 10 ∧ 0 ≤ wI (x3 + 2) ∧ wI (x3 + 2) < h1 1 x0.toNat 0 then
    dv_ (fi_vt 41 (h1 0 x2.toNat 0)) fun m8 => ca_ (fj_run d m8 h1 [(4, x2), (0, h1 10 x0.toNat (wI (x3 + 1)).toNat), (0, h1 10 x0.toNat (wI (x3 + 2)).toNat)]) 1
      (fun v6 h5 =>
      if lc_ v2 v6 = 0 then
        c_720_2393 d x0 x1 x2 x3 h5
      else
        some (.inl (some (0, 0)), h5))
      (fun q7 h5 => tx_ q7 h5)
    else none
    else none)
    (fun q3 h1 => tx_ q3 h1)
  else none
  else none := by
  unfold c_720_1063
  exact
    have D : fk_D 720 [(1063, some [0, 1, 2, 3], .aload_n 1, 1, 0, 0, 0), (1064, none, .aload_n 0, 1, 0, 0, 0), (1065, none, .iload_n 3, 1, 0, 0, 0), (1066, none, .iconst 1, 1, 0, 1, 0), (1067, none, .iadd, 1, 0, 0, 0), (1068, none, .iaload, 1, 0, 0, 0), (1069, none, .aload_n 0, 1, 0, 0, 0), (1070, none, .iload_n 3, 1, 0, 0, 0), (1071, none, .iconst 2, 1, 0, 2, 0), (1072, none, .iadd, 1, 0, 0, 0), (1073, none, .iaload, 1, 0, 0, 0), (1074, none, .invokevirtual 104, 3, 2, 40, 2), (1077, none, .aload_n 2, 1, 0, 0, 0), (1078, none, .aload_n 0, 1, 0, 0, 0), (1079, none, .iload_n 3, 1, 0, 0, 0), (1080, none, .iconst 1, 1, 0, 1, 0), (1081, none, .iadd, 1, 0, 0, 0), (1082, none, .iaload, 1, 0, 0, 0), (1083, none, .aload_n 0, 1, 0, 0, 0), (1084, none, .iload_n 3, 1, 0, 0, 0)] := fq_of2 cd_720 ow_720 cl_720 rfl (pc := 1063) (by decide +kernel)
    j_aldn (pc := 1063) D rfl rfl rfl fun D =>
    j_aldn (pc := 1064) D rfl rfl rfl fun D =>
    j_ildn (pc := 1065) D rfl rfl rfl fun D =>
    j_ic (pc := 1066) D rfl fun D =>
    j_iadd (pc := 1067) D rfl fun D =>
    j_alp (pc := 1068) (e := 10) H.2.1 D rfl rfl ⟨rfl, rfl, rfl⟩ rfl fun q q2 D =>
    j_aldn (pc := 1069) D rfl rfl rfl fun D =>
    j_ildn (pc := 1070) D rfl rfl rfl fun D =>
    j_ic (pc := 1071) D rfl fun D =>
    j_iadd (pc := 1072) D rfl fun D =>
    j_alp (pc := 1073) (e := 10) H.2.1 D rfl rfl ⟨rfl, rfl, rfl⟩ rfl fun q q2 D =>
    j_ivu (pc := 1074) (dd := 40) (a := [(0, h 10 x0.toNat (wI (x3 + 1)).toNat), (0, h 10 x0.toNat (wI (x3 + 2)).toNat)]) (rest := []) H.2.1 D rfl rfl rfl rfl rfl (fun m4 v2 h1 e1 D =>
      have T := fj_run_ok _ _ _ _ _ _ H.1 e1
      have H := shp_st H T
      j_aldn (pc := 1077) D rfl rfl rfl fun D =>
      j_aldn (pc := 1078) D rfl rfl rfl fun D =>
      j_ildn (pc := 1079) D rfl rfl rfl fun D =>
      j_ic (pc := 1080) D rfl fun D =>
      j_iadd (pc := 1081) D rfl fun D =>
      j_alp (pc := 1082) (e := 10) H.2.1 D rfl rfl ⟨rfl, rfl, rfl⟩ rfl fun q q2 D =>
      j_aldn (pc := 1083) D rfl rfl rfl fun D =>
      j_ildn (pc := 1084) D rfl rfl rfl fun D =>
      have D : fk_D 720 [(1085, none, .iconst 2, 1, 0, 2, 0), (1086, none, .iadd, 1, 0, 0, 0), (1087, none, .iaload, 1, 0, 0, 0), (1088, none, .invokevirtual 108, 3, 2, 41, 2), (1091, none, .lcmp, 1, 0, 0, 0), (1092, none, .ifCond .eq 1301, 3, 2393, 0, 0), (1095, none, .iconst 0, 1, 0, 0, 0), (1096, none, .ireturn, 1, 0, 0, 0)] := fq_of2 cd_720 ow_720 cl_720 rfl (pc := 1085) (by decide +kernel)
      j_ic (pc := 1085) D rfl fun D =>
      j_iadd (pc := 1086) D rfl fun D =>
      j_alp (pc := 1087) (e := 10) H.2.1 D rfl rfl ⟨rfl, rfl, rfl⟩ rfl fun q q2 D =>
      j_ivu (pc := 1088) (dd := 41) (a := [(0, h1 10 x0.toNat (wI (x3 + 1)).toNat), (0, h1 10 x0.toNat (wI (x3 + 2)).toNat)]) (rest := [(1, v2)]) H.2.1 D rfl rfl rfl rfl rfl (fun m8 v6 h5 e1 D =>
        have T := fj_run_ok _ _ _ _ _ _ H.1 e1
        have H := shp_st H T
        j_lcmp (pc := 1091) D rfl fun D =>
        j_ifeq (pc := 1092) D rfl (fun q =>
          fk_jump cut_720_2393 rfl rfl) (fun q D =>
          j_ic (pc := 1095) D rfl fun D =>
          j_zret D rt_720 (gy (by decide)))) (fun m8 q7 h5 e1 =>
        j_tx (hx_720 _))) (fun m4 q3 h1 e1 =>
      j_tx (hx_720 _))
theorem e_720_1097 (d : Nat) (x0 x1 x2 x3 : Int) {h : fi_H} (H : Shp h) : c_720_1097 d x0 x1 x2 x3 h =
  dv_ (fi_vt 42 (h 0 x1.toNat 0)) fun m4 => ca_ (fj_run d m4 h [(4, x1)]) 0
    (fun v2 h1 =>
    dv_ (fi_vt 43 (h1 0 x2.toNat 0)) fun m8 => ca_ (fj_run d m8 h1 [(4, x2)]) 0
      (fun v6 h5 =>
      if v2 = v6 then
        c_720_2393 d x0 x1 x2 x3 h5
      else
        some (.inl (some (0, 0)), h5))
      (fun q7 h5 => tx_ q7 h5))
    (fun q3 h1 => tx_ q3 h1) := by
  unfold c_720_1097
  exact
    have D : fk_D 720 [(1097, some [0, 1, 2, 3], .aload_n 1, 1, 0, 0, 0), (1098, none, .invokevirtual 109, 3, 0, 42, 1), (1101, none, .aload_n 2, 1, 0, 0, 0), (1102, none, .invokevirtual 112, 3, 0, 43, 1), (1105, none, .if_icmp .eq 1288, 3, 2393, 0, 0), (1108, none, .iconst 0, 1, 0, 0, 0), (1109, none, .ireturn, 1, 0, 0, 0)] := fq_of2 cd_720 ow_720 cl_720 rfl (pc := 1097) (by decide +kernel)
    j_aldn (pc := 1097) D rfl rfl rfl fun D =>
    j_ivu (pc := 1098) (dd := 42) (a := []) (rest := []) H.2.1 D rfl rfl rfl rfl rfl (fun m4 v2 h1 e1 D =>
      have T := fj_run_ok _ _ _ _ _ _ H.1 e1
      have H := shp_st H T
      j_aldn (pc := 1101) D rfl rfl rfl fun D =>
      j_ivu (pc := 1102) (dd := 43) (a := []) (rest := [(0, v2)]) H.2.1 D rfl rfl rfl rfl rfl (fun m8 v6 h5 e1 D =>
        have T := fj_run_ok _ _ _ _ _ _ H.1 e1
        have H := shp_st H T
        j_ieq (pc := 1105) D rfl (fun q =>
          fk_jump cut_720_2393 rfl rfl) (fun q D =>
          j_ic (pc := 1108) D rfl fun D =>
          j_zret D rt_720 (gy (by decide)))) (fun m8 q7 h5 e1 =>
        j_tx (hx_720 _))) (fun m4 q3 h1 e1 =>
      j_tx (hx_720 _))
theorem e_720_1110 (d : Nat) (x0 x1 x2 x3 : Int) {h : fi_H} (H : Shp h) : c_720_1110 d x0 x1 x2 x3 h =
  if h 0 x0.toNat 0 = 10 ∧ 0 ≤ wI (x3 + 1) ∧ wI (x3 + 1) < h 1 x0.toNat 0 then
  if h 0 x0.toNat 0 = 10 ∧ 0 ≤ wI (x3 + 2) ∧ wI (x3 + 2) < h 1 x0.toNat 0 then
  if h 0 x0.toNat 0 = 10 ∧ 0 ≤ wI (x3 + 3) ∧ wI (x3 + 3) < h 1 x0.toNat 0 then
  if h 0 x0.toNat 0 = 10 ∧ 0 ≤ wI (x3 + 4) ∧ wI (x3 + 4) < h 1 x0.toNat 0 then
  if h 0 x0.toNat 0 = 10 ∧ 0 ≤ wI (x3 + 5) ∧ wI (x3 + 5) < h 1 x0.toNat 0 then
  if h 0 x0.toNat 0 = 10 ∧ 0 ≤ wI (x3 + 6) ∧ wI (x3 + 6) < h 1 x0.toNat 0 then
  dv_ (fi_vt 44 (h 0 x1.toNat 0)) fun m4 => ca_ (fj_run d m4 h [(4, x1), (0, h 10 x0.toNat (wI (x3 + 1)).toNat), (0, h 10 x0.toNat (wI (x3 + 2)).toNat), (0, h 10 x0.toNat (wI (x3 + 3)).toNat), (0, h 10 x0.toNat (wI (x3 + 4)).toNat), (0, h 10 x0.toNat (wI (x3 + 5)).toNat), (0, h 10 x0.toNat (wI (x3 + 6)).toNat)]) 0
    (fun v2 h1 =>
    if h1 0 x0.toNat 0 = 10 ∧ 0 ≤ wI (x3 + 1) ∧ wI (x3 + 1) < h1 1 x0.toNat 0 then
    if h1 0 x0.toNat 0 = 10 ∧ 0 ≤ wI (x3 + 2) ∧ wI (x3 + 2) < h1 1 x0.toNat 0 then
    if h1 0 x0.toNat 0 = 10 ∧ 0 ≤ wI (x3 + 3) ∧ wI (x3 + 3) < h1 1 x0.toNat 0 then
    if h1 0 x0.toNat 0 = 10 ∧ 0 ≤ wI (x3 + 4) ∧ wI (x3 + 4) < h1 1 x0.toNat 0 then
    if h1 0 x0.toNat 0 = 10 ∧ 0 ≤ wI (x3 + 5) ∧ wI (x3 + 5) < h1 1 x0.toNat 0 then
    if h1 0 x0.toNat 0 = 10 ∧ 0 ≤ wI (x3 + 6) ∧ wI (x3 + 6) < h1 1 x0.toNat 0 then
    dv_ (fi_vt 45 (h1 0 x2.toNat 0)) fun m8 => ca_ (fj_run d m8 h1 [(4, x2), (0, h1 10 x0.toNat (wI (x3 + 1)).toNat), (0, h1 10 x0.toNat (wI (x3 + 2)).toNat), (0, h1 10 x0.toNat (wI (x3 + 3)).toNat), (0, h1 10 x0.toNat (wI (x3 + 4)).toNat), (0, h1 10 x0.toNat (wI (x3 + 5)).toNat), (0, h1 10 x0.toNat (wI (x3 + 6)).toNat)]) 0
      (fun v6 h5 =>
      if v2 = v6 then
        c_720_2393 d x0 x1 x2 x3 h5
      else
        some (.inl (some (0, 0)), h5))
      (fun q7 h5 => tx_ q7 h5)
    else none
    else none
    else none
    else none
    else none
    else none)
    (fun q3 h1 => tx_ q3 h1)
  else none
  else none
  else none
  else none
  else none
  else none := by
  unfold c_720_1110
  exact
    have D : fk_D 720 [(1110, some [0, 1, 2, 3], .aload_n 1, 1, 0, 0, 0), (1111, none, .aload_n 0, 1, 0, 0, 0), (1112, none, .iload_n 3, 1, 0, 0, 0), (1113, none, .iconst 1, 1, 0, 1, 0), (1114, none, .iadd, 1, 0, 0, 0), (1115, none, .iaload, 1, 0, 0, 0), (1116, none, .aload_n 0, 1, 0, 0, 0), (1117, none, .iload_n 3, 1, 0, 0, 0), (1118, none, .iconst 2, 1, 0, 2, 0), (1119, none, .iadd, 1, 0, 0, 0), (1120, none, .iaload, 1, 0, 0, 0), (1121, none, .aload_n 0, 1, 0, 0, 0), (1122, none, .iload_n 3, 1, 0, 0, 0), (1123, none, .iconst 3, 1, 0, 3, 0), (1124, none, .iadd, 1, 0, 0, 0), (1125, none, .iaload, 1, 0, 0, 0), (1126, none, .aload_n 0, 1, 0, 0, 0), (1127, none, .iload_n 3, 1, 0, 0, 0), (1128, none, .iconst 4, 1, 0, 4, 0), (1129, none, .iadd, 1, 0, 0, 0)] := fq_of2 cd_720 ow_720 cl_720 rfl (pc := 1110) (by decide +kernel)
    j_aldn (pc := 1110) D rfl rfl rfl fun D =>
    j_aldn (pc := 1111) D rfl rfl rfl fun D =>
    j_ildn (pc := 1112) D rfl rfl rfl fun D =>
    j_ic (pc := 1113) D rfl fun D =>
    j_iadd (pc := 1114) D rfl fun D =>
    j_alp (pc := 1115) (e := 10) H.2.1 D rfl rfl ⟨rfl, rfl, rfl⟩ rfl fun q q2 D =>
    j_aldn (pc := 1116) D rfl rfl rfl fun D =>
    j_ildn (pc := 1117) D rfl rfl rfl fun D =>
    j_ic (pc := 1118) D rfl fun D =>
    j_iadd (pc := 1119) D rfl fun D =>
    j_alp (pc := 1120) (e := 10) H.2.1 D rfl rfl ⟨rfl, rfl, rfl⟩ rfl fun q q2 D =>
    j_aldn (pc := 1121) D rfl rfl rfl fun D =>
    j_ildn (pc := 1122) D rfl rfl rfl fun D =>
    j_ic (pc := 1123) D rfl fun D =>
    j_iadd (pc := 1124) D rfl fun D =>
    j_alp (pc := 1125) (e := 10) H.2.1 D rfl rfl ⟨rfl, rfl, rfl⟩ rfl fun q q2 D =>
    j_aldn (pc := 1126) D rfl rfl rfl fun D =>
    j_ildn (pc := 1127) D rfl rfl rfl fun D =>
    j_ic (pc := 1128) D rfl fun D =>
    j_iadd (pc := 1129) D rfl fun D =>
    have D : fk_D 720 [(1130, none, .iaload, 1, 0, 0, 0), (1131, none, .aload_n 0, 1, 0, 0, 0), (1132, none, .iload_n 3, 1, 0, 0, 0), (1133, none, .iconst 5, 1, 0, 5, 0), (1134, none, .iadd, 1, 0, 0, 0), (1135, none, .iaload, 1, 0, 0, 0), (1136, none, .aload_n 0, 1, 0, 0, 0), (1137, none, .iload_n 3, 1, 0, 0, 0), (1138, none, .bipush 6, 2, 0, 6, 0), (1140, none, .iadd, 1, 0, 0, 0), (1141, none, .iaload, 1, 0, 0, 0), (1142, none, .invokevirtual 113, 3, 6, 44, 1), (1145, none, .aload_n 2, 1, 0, 0, 0), (1146, none, .aload_n 0, 1, 0, 0, 0), (1147, none, .iload_n 3, 1, 0, 0, 0), (1148, none, .iconst 1, 1, 0, 1, 0), (1149, none, .iadd, 1, 0, 0, 0), (1150, none, .iaload, 1, 0, 0, 0), (1151, none, .aload_n 0, 1, 0, 0, 0), (1152, none, .iload_n 3, 1, 0, 0, 0)] := fq_of2 cd_720 ow_720 cl_720 rfl (pc := 1130) (by decide +kernel)
    j_alp (pc := 1130) (e := 10) H.2.1 D rfl rfl ⟨rfl, rfl, rfl⟩ rfl fun q q2 D =>
    j_aldn (pc := 1131) D rfl rfl rfl fun D =>
    j_ildn (pc := 1132) D rfl rfl rfl fun D =>
    j_ic (pc := 1133) D rfl fun D =>
    j_iadd (pc := 1134) D rfl fun D =>
    j_alp (pc := 1135) (e := 10) H.2.1 D rfl rfl ⟨rfl, rfl, rfl⟩ rfl fun q q2 D =>
    j_aldn (pc := 1136) D rfl rfl rfl fun D =>
    j_ildn (pc := 1137) D rfl rfl rfl fun D =>
    j_bp (pc := 1138) D rfl fun D =>
    j_iadd (pc := 1140) D rfl fun D =>
    j_alp (pc := 1141) (e := 10) H.2.1 D rfl rfl ⟨rfl, rfl, rfl⟩ rfl fun q q2 D =>
    j_ivu (pc := 1142) (dd := 44) (a := [(0, h 10 x0.toNat (wI (x3 + 1)).toNat), (0, h 10 x0.toNat (wI (x3 + 2)).toNat), (0, h 10 x0.toNat (wI (x3 + 3)).toNat), (0, h 10 x0.toNat (wI (x3 + 4)).toNat), (0, h 10 x0.toNat (wI (x3 + 5)).toNat), (0, h 10 x0.toNat (wI (x3 + 6)).toNat)]) (rest := []) H.2.1 D rfl rfl rfl rfl rfl (fun m4 v2 h1 e1 D =>
      have T := fj_run_ok _ _ _ _ _ _ H.1 e1
      have H := shp_st H T
      j_aldn (pc := 1145) D rfl rfl rfl fun D =>
      j_aldn (pc := 1146) D rfl rfl rfl fun D =>
      j_ildn (pc := 1147) D rfl rfl rfl fun D =>
      j_ic (pc := 1148) D rfl fun D =>
      j_iadd (pc := 1149) D rfl fun D =>
      j_alp (pc := 1150) (e := 10) H.2.1 D rfl rfl ⟨rfl, rfl, rfl⟩ rfl fun q q2 D =>
      j_aldn (pc := 1151) D rfl rfl rfl fun D =>
      j_ildn (pc := 1152) D rfl rfl rfl fun D =>
      have D : fk_D 720 [(1153, none, .iconst 2, 1, 0, 2, 0), (1154, none, .iadd, 1, 0, 0, 0), (1155, none, .iaload, 1, 0, 0, 0), (1156, none, .aload_n 0, 1, 0, 0, 0), (1157, none, .iload_n 3, 1, 0, 0, 0), (1158, none, .iconst 3, 1, 0, 3, 0), (1159, none, .iadd, 1, 0, 0, 0), (1160, none, .iaload, 1, 0, 0, 0), (1161, none, .aload_n 0, 1, 0, 0, 0), (1162, none, .iload_n 3, 1, 0, 0, 0), (1163, none, .iconst 4, 1, 0, 4, 0), (1164, none, .iadd, 1, 0, 0, 0), (1165, none, .iaload, 1, 0, 0, 0), (1166, none, .aload_n 0, 1, 0, 0, 0), (1167, none, .iload_n 3, 1, 0, 0, 0), (1168, none, .iconst 5, 1, 0, 5, 0), (1169, none, .iadd, 1, 0, 0, 0), (1170, none, .iaload, 1, 0, 0, 0), (1171, none, .aload_n 0, 1, 0, 0, 0), (1172, none, .iload_n 3, 1, 0, 0, 0)] := fq_of2 cd_720 ow_720 cl_720 rfl (pc := 1153) (by decide +kernel)
      j_ic (pc := 1153) D rfl fun D =>
      j_iadd (pc := 1154) D rfl fun D =>
      j_alp (pc := 1155) (e := 10) H.2.1 D rfl rfl ⟨rfl, rfl, rfl⟩ rfl fun q q2 D =>
      j_aldn (pc := 1156) D rfl rfl rfl fun D =>
      j_ildn (pc := 1157) D rfl rfl rfl fun D =>
      j_ic (pc := 1158) D rfl fun D =>
      j_iadd (pc := 1159) D rfl fun D =>
      j_alp (pc := 1160) (e := 10) H.2.1 D rfl rfl ⟨rfl, rfl, rfl⟩ rfl fun q q2 D =>
      j_aldn (pc := 1161) D rfl rfl rfl fun D =>
      j_ildn (pc := 1162) D rfl rfl rfl fun D =>
      j_ic (pc := 1163) D rfl fun D =>
      j_iadd (pc := 1164) D rfl fun D =>
      j_alp (pc := 1165) (e := 10) H.2.1 D rfl rfl ⟨rfl, rfl, rfl⟩ rfl fun q q2 D =>
      j_aldn (pc := 1166) D rfl rfl rfl fun D =>
      j_ildn (pc := 1167) D rfl rfl rfl fun D =>
      j_ic (pc := 1168) D rfl fun D =>
      j_iadd (pc := 1169) D rfl fun D =>
      j_alp (pc := 1170) (e := 10) H.2.1 D rfl rfl ⟨rfl, rfl, rfl⟩ rfl fun q q2 D =>
      j_aldn (pc := 1171) D rfl rfl rfl fun D =>
      j_ildn (pc := 1172) D rfl rfl rfl fun D =>
      have D : fk_D 720 [(1173, none, .bipush 6, 2, 0, 6, 0), (1175, none, .iadd, 1, 0, 0, 0), (1176, none, .iaload, 1, 0, 0, 0), (1177, none, .invokevirtual 117, 3, 6, 45, 1), (1180, none, .if_icmp .eq 1213, 3, 2393, 0, 0), (1183, none, .iconst 0, 1, 0, 0, 0), (1184, none, .ireturn, 1, 0, 0, 0)] := fq_of2 cd_720 ow_720 cl_720 rfl (pc := 1173) (by decide +kernel)
      j_bp (pc := 1173) D rfl fun D =>
      j_iadd (pc := 1175) D rfl fun D =>
      j_alp (pc := 1176) (e := 10) H.2.1 D rfl rfl ⟨rfl, rfl, rfl⟩ rfl fun q q2 D =>
      j_ivu (pc := 1177) (dd := 45) (a := [(0, h1 10 x0.toNat (wI (x3 + 1)).toNat), (0, h1 10 x0.toNat (wI (x3 + 2)).toNat), (0, h1 10 x0.toNat (wI (x3 + 3)).toNat), (0, h1 10 x0.toNat (wI (x3 + 4)).toNat), (0, h1 10 x0.toNat (wI (x3 + 5)).toNat), (0, h1 10 x0.toNat (wI (x3 + 6)).toNat)]) (rest := [(0, v2)]) H.2.1 D rfl rfl rfl rfl rfl (fun m8 v6 h5 e1 D =>
        have T := fj_run_ok _ _ _ _ _ _ H.1 e1
        have H := shp_st H T
        j_ieq (pc := 1180) D rfl (fun q =>
          fk_jump cut_720_2393 rfl rfl) (fun q D =>
          j_ic (pc := 1183) D rfl fun D =>
          j_zret D rt_720 (gy (by decide)))) (fun m8 q7 h5 e1 =>
        j_tx (hx_720 _))) (fun m4 q3 h1 e1 =>
      j_tx (hx_720 _))
theorem e_720_1185 (d : Nat) (x0 x1 x2 x3 : Int) {h : fi_H} (H : Shp h) : c_720_1185 d x0 x1 x2 x3 h =
  if h 0 x0.toNat 0 = 10 ∧ 0 ≤ wI (x3 + 1) ∧ wI (x3 + 1) < h 1 x0.toNat 0 then
  if h 0 x0.toNat 0 = 10 ∧ 0 ≤ wI (x3 + 2) ∧ wI (x3 + 2) < h 1 x0.toNat 0 then
  dv_ (fi_vt 46 (h 0 x1.toNat 0)) fun m4 => ca_ (fj_run d m4 h [(4, x1), (0, h 10 x0.toNat (wI (x3 + 1)).toNat), (0, h 10 x0.toNat (wI (x3 + 2)).toNat)]) 1
    (fun v2 h1 =>
    if h1 0 x0.toNat 0 = 10 ∧ 0 ≤ wI (x3 + 1) ∧ wI (x3 + 1) < h1 1 x0.toNat 0 then
    if h1 0 x0.toNat 0 = 10 ∧ 0 ≤ wI (x3 + 2) ∧ wI (x3 + 2) < h1 1 x0.toNat 0 then
    dv_ (fi_vt 47 (h1 0 x2.toNat 0)) fun m8 => ca_ (fj_run d m8 h1 [(4, x2), (0, h1 10 x0.toNat (wI (x3 + 1)).toNat), (0, h1 10 x0.toNat (wI (x3 + 2)).toNat)]) 1
      (fun v6 h5 =>
      if lc_ v2 v6 = 0 then
        c_720_2393 d x0 x1 x2 x3 h5
      else
        some (.inl (some (0, 0)), h5))
      (fun q7 h5 => tx_ q7 h5)
    else none
    else none)
    (fun q3 h1 => tx_ q3 h1)
  else none
  else none := by
  unfold c_720_1185
  exact
    have D : fk_D 720 [(1185, some [0, 1, 2, 3], .aload_n 1, 1, 0, 0, 0), (1186, none, .aload_n 0, 1, 0, 0, 0), (1187, none, .iload_n 3, 1, 0, 0, 0), (1188, none, .iconst 1, 1, 0, 1, 0), (1189, none, .iadd, 1, 0, 0, 0), (1190, none, .iaload, 1, 0, 0, 0), (1191, none, .aload_n 0, 1, 0, 0, 0), (1192, none, .iload_n 3, 1, 0, 0, 0), (1193, none, .iconst 2, 1, 0, 2, 0), (1194, none, .iadd, 1, 0, 0, 0), (1195, none, .iaload, 1, 0, 0, 0), (1196, none, .invokevirtual 118, 3, 2, 46, 2), (1199, none, .aload_n 2, 1, 0, 0, 0), (1200, none, .aload_n 0, 1, 0, 0, 0), (1201, none, .iload_n 3, 1, 0, 0, 0), (1202, none, .iconst 1, 1, 0, 1, 0), (1203, none, .iadd, 1, 0, 0, 0), (1204, none, .iaload, 1, 0, 0, 0), (1205, none, .aload_n 0, 1, 0, 0, 0), (1206, none, .iload_n 3, 1, 0, 0, 0)] := fq_of2 cd_720 ow_720 cl_720 rfl (pc := 1185) (by decide +kernel)
    j_aldn (pc := 1185) D rfl rfl rfl fun D =>
    j_aldn (pc := 1186) D rfl rfl rfl fun D =>
    j_ildn (pc := 1187) D rfl rfl rfl fun D =>
    j_ic (pc := 1188) D rfl fun D =>
    j_iadd (pc := 1189) D rfl fun D =>
    j_alp (pc := 1190) (e := 10) H.2.1 D rfl rfl ⟨rfl, rfl, rfl⟩ rfl fun q q2 D =>
    j_aldn (pc := 1191) D rfl rfl rfl fun D =>
    j_ildn (pc := 1192) D rfl rfl rfl fun D =>
    j_ic (pc := 1193) D rfl fun D =>
    j_iadd (pc := 1194) D rfl fun D =>
    j_alp (pc := 1195) (e := 10) H.2.1 D rfl rfl ⟨rfl, rfl, rfl⟩ rfl fun q q2 D =>
    j_ivu (pc := 1196) (dd := 46) (a := [(0, h 10 x0.toNat (wI (x3 + 1)).toNat), (0, h 10 x0.toNat (wI (x3 + 2)).toNat)]) (rest := []) H.2.1 D rfl rfl rfl rfl rfl (fun m4 v2 h1 e1 D =>
      have T := fj_run_ok _ _ _ _ _ _ H.1 e1
      have H := shp_st H T
      j_aldn (pc := 1199) D rfl rfl rfl fun D =>
      j_aldn (pc := 1200) D rfl rfl rfl fun D =>
      j_ildn (pc := 1201) D rfl rfl rfl fun D =>
      j_ic (pc := 1202) D rfl fun D =>
      j_iadd (pc := 1203) D rfl fun D =>
      j_alp (pc := 1204) (e := 10) H.2.1 D rfl rfl ⟨rfl, rfl, rfl⟩ rfl fun q q2 D =>
      j_aldn (pc := 1205) D rfl rfl rfl fun D =>
      j_ildn (pc := 1206) D rfl rfl rfl fun D =>
      have D : fk_D 720 [(1207, none, .iconst 2, 1, 0, 2, 0), (1208, none, .iadd, 1, 0, 0, 0), (1209, none, .iaload, 1, 0, 0, 0), (1210, none, .invokevirtual 121, 3, 2, 47, 2), (1213, none, .lcmp, 1, 0, 0, 0), (1214, none, .ifCond .eq 1179, 3, 2393, 0, 0), (1217, none, .iconst 0, 1, 0, 0, 0), (1218, none, .ireturn, 1, 0, 0, 0)] := fq_of2 cd_720 ow_720 cl_720 rfl (pc := 1207) (by decide +kernel)
      j_ic (pc := 1207) D rfl fun D =>
      j_iadd (pc := 1208) D rfl fun D =>
      j_alp (pc := 1209) (e := 10) H.2.1 D rfl rfl ⟨rfl, rfl, rfl⟩ rfl fun q q2 D =>
      j_ivu (pc := 1210) (dd := 47) (a := [(0, h1 10 x0.toNat (wI (x3 + 1)).toNat), (0, h1 10 x0.toNat (wI (x3 + 2)).toNat)]) (rest := [(1, v2)]) H.2.1 D rfl rfl rfl rfl rfl (fun m8 v6 h5 e1 D =>
        have T := fj_run_ok _ _ _ _ _ _ H.1 e1
        have H := shp_st H T
        j_lcmp (pc := 1213) D rfl fun D =>
        j_ifeq (pc := 1214) D rfl (fun q =>
          fk_jump cut_720_2393 rfl rfl) (fun q D =>
          j_ic (pc := 1217) D rfl fun D =>
          j_zret D rt_720 (gy (by decide)))) (fun m8 q7 h5 e1 =>
        j_tx (hx_720 _))) (fun m4 q3 h1 e1 =>
      j_tx (hx_720 _))
theorem e_720_1219 (d : Nat) (x0 x1 x2 x3 : Int) {h : fi_H} (H : Shp h) : c_720_1219 d x0 x1 x2 x3 h =
  if h 0 x0.toNat 0 = 10 ∧ 0 ≤ wI (x3 + 1) ∧ wI (x3 + 1) < h 1 x0.toNat 0 then
  if h 0 x0.toNat 0 = 10 ∧ 0 ≤ wI (x3 + 2) ∧ wI (x3 + 2) < h 1 x0.toNat 0 then
  if h 0 x0.toNat 0 = 10 ∧ 0 ≤ wI (x3 + 3) ∧ wI (x3 + 3) < h 1 x0.toNat 0 then
  if h 0 x0.toNat 0 = 10 ∧ 0 ≤ wI (x3 + 4) ∧ wI (x3 + 4) < h 1 x0.toNat 0 then
  if h 0 x0.toNat 0 = 10 ∧ 0 ≤ wI (x3 + 5) ∧ wI (x3 + 5) < h 1 x0.toNat 0 then
  if h 0 x0.toNat 0 = 10 ∧ 0 ≤ wI (x3 + 6) ∧ wI (x3 + 6) < h 1 x0.toNat 0 then
  if h 0 x0.toNat 0 = 10 ∧ 0 ≤ wI (x3 + 7) ∧ wI (x3 + 7) < h 1 x0.toNat 0 then
  if h 0 x0.toNat 0 = 10 ∧ 0 ≤ wI (x3 + 8) ∧ wI (x3 + 8) < h 1 x0.toNat 0 then
  if h 0 x0.toNat 0 = 10 ∧ 0 ≤ wI (x3 + 9) ∧ wI (x3 + 9) < h 1 x0.toNat 0 then
  dv_ (fi_vt 48 (h 0 x1.toNat 0)) fun m4 => ca_ (fj_run d m4 h [(4, x1), (0, h 10 x0.toNat (wI (x3 + 1)).toNat), (0, h 10 x0.toNat (wI (x3 + 2)).toNat), (0, h 10 x0.toNat (wI (x3 + 3)).toNat), (0, h 10 x0.toNat (wI (x3 + 4)).toNat), (0, h 10 x0.toNat (wI (x3 + 5)).toNat), (1, lo_ (lsl_ (wI (h 10 x0.toNat (wI (x3 + 6)).toNat)) 32) (la_ (wI (h 10 x0.toNat (wI (x3 + 7)).toNat)) 4294967295)), (1, lo_ (lsl_ (wI (h 10 x0.toNat (wI (x3 + 8)).toNat)) 32) (la_ (wI (h 10 x0.toNat (wI (x3 + 9)).toNat)) 4294967295))]) 0
    (fun v2 h1 =>
    if h1 0 x0.toNat 0 = 10 ∧ 0 ≤ wI (x3 + 1) ∧ wI (x3 + 1) < h1 1 x0.toNat 0 then
    if h1 0 x0.toNat 0 = 10 ∧ 0 ≤ wI (x3 + 2) ∧ wI (x3 + 2) < h1 1 x0.toNat 0 then
    if h1 0 x0.toNat 0 = 10 ∧ 0 ≤ wI (x3 + 3) ∧ wI (x3 + 3) < h1 1 x0.toNat 0 then
    if h1 0 x0.toNat 0 = 10 ∧ 0 ≤ wI (x3 + 4) ∧ wI (x3 + 4) < h1 1 x0.toNat 0 then
    if h1 0 x0.toNat 0 = 10 ∧ 0 ≤ wI (x3 + 5) ∧ wI (x3 + 5) < h1 1 x0.toNat 0 then
    if h1 0 x0.toNat 0 = 10 ∧ 0 ≤ wI (x3 + 6) ∧ wI (x3 + 6) < h1 1 x0.toNat 0 then
    if h1 0 x0.toNat 0 = 10 ∧ 0 ≤ wI (x3 + 7) ∧ wI (x3 + 7) < h1 1 x0.toNat 0 then
    if h1 0 x0.toNat 0 = 10 ∧ 0 ≤ wI (x3 + 8) ∧ wI (x3 + 8) < h1 1 x0.toNat 0 then
    if h1 0 x0.toNat 0 = 10 ∧ 0 ≤ wI (x3 + 9) ∧ wI (x3 + 9) < h1 1 x0.toNat 0 then
    dv_ (fi_vt 49 (h1 0 x2.toNat 0)) fun m8 => ca_ (fj_run d m8 h1 [(4, x2), (0, h1 10 x0.toNat (wI (x3 + 1)).toNat), (0, h1 10 x0.toNat (wI (x3 + 2)).toNat), (0, h1 10 x0.toNat (wI (x3 + 3)).toNat), (0, h1 10 x0.toNat (wI (x3 + 4)).toNat), (0, h1 10 x0.toNat (wI (x3 + 5)).toNat), (1, lo_ (lsl_ (wI (h1 10 x0.toNat (wI (x3 + 6)).toNat)) 32) (la_ (wI (h1 10 x0.toNat (wI (x3 + 7)).toNat)) 4294967295)), (1, lo_ (lsl_ (wI (h1 10 x0.toNat (wI (x3 + 8)).toNat)) 32) (la_ (wI (h1 10 x0.toNat (wI (x3 + 9)).toNat)) 4294967295))]) 0
      (fun v6 h5 =>
      if v2 = v6 then
        c_720_2393 d x0 x1 x2 x3 h5
      else
        some (.inl (some (0, 0)), h5))
      (fun q7 h5 => tx_ q7 h5)
    else none
    else none
    else none
    else none
    else none
    else none
    else none
    else none
    else none)
    (fun q3 h1 => tx_ q3 h1)
  else none
  else none
  else none
  else none
  else none
  else none
  else none
  else none
  else none := by
  unfold c_720_1219
  exact
    have D : fk_D 720 [(1219, some [0, 1, 2, 3], .aload_n 1, 1, 0, 0, 0), (1220, none, .aload_n 0, 1, 0, 0, 0), (1221, none, .iload_n 3, 1, 0, 0, 0), (1222, none, .iconst 1, 1, 0, 1, 0), (1223, none, .iadd, 1, 0, 0, 0), (1224, none, .iaload, 1, 0, 0, 0), (1225, none, .aload_n 0, 1, 0, 0, 0), (1226, none, .iload_n 3, 1, 0, 0, 0), (1227, none, .iconst 2, 1, 0, 2, 0), (1228, none, .iadd, 1, 0, 0, 0), (1229, none, .iaload, 1, 0, 0, 0), (1230, none, .aload_n 0, 1, 0, 0, 0), (1231, none, .iload_n 3, 1, 0, 0, 0), (1232, none, .iconst 3, 1, 0, 3, 0), (1233, none, .iadd, 1, 0, 0, 0), (1234, none, .iaload, 1, 0, 0, 0), (1235, none, .aload_n 0, 1, 0, 0, 0), (1236, none, .iload_n 3, 1, 0, 0, 0), (1237, none, .iconst 4, 1, 0, 4, 0), (1238, none, .iadd, 1, 0, 0, 0)] := fq_of2 cd_720 ow_720 cl_720 rfl (pc := 1219) (by decide +kernel)
    j_aldn (pc := 1219) D rfl rfl rfl fun D =>
    j_aldn (pc := 1220) D rfl rfl rfl fun D =>
    j_ildn (pc := 1221) D rfl rfl rfl fun D =>
    j_ic (pc := 1222) D rfl fun D =>
    j_iadd (pc := 1223) D rfl fun D =>
    j_alp (pc := 1224) (e := 10) H.2.1 D rfl rfl ⟨rfl, rfl, rfl⟩ rfl fun q q2 D =>
    j_aldn (pc := 1225) D rfl rfl rfl fun D =>
    j_ildn (pc := 1226) D rfl rfl rfl fun D =>
    j_ic (pc := 1227) D rfl fun D =>
    j_iadd (pc := 1228) D rfl fun D =>
    j_alp (pc := 1229) (e := 10) H.2.1 D rfl rfl ⟨rfl, rfl, rfl⟩ rfl fun q q2 D =>
    j_aldn (pc := 1230) D rfl rfl rfl fun D =>
    j_ildn (pc := 1231) D rfl rfl rfl fun D =>
    j_ic (pc := 1232) D rfl fun D =>
    j_iadd (pc := 1233) D rfl fun D =>
    j_alp (pc := 1234) (e := 10) H.2.1 D rfl rfl ⟨rfl, rfl, rfl⟩ rfl fun q q2 D =>
    j_aldn (pc := 1235) D rfl rfl rfl fun D =>
    j_ildn (pc := 1236) D rfl rfl rfl fun D =>
    j_ic (pc := 1237) D rfl fun D =>
    j_iadd (pc := 1238) D rfl fun D =>
    have D : fk_D 720 [(1239, none, .iaload, 1, 0, 0, 0), (1240, none, .aload_n 0, 1, 0, 0, 0), (1241, none, .iload_n 3, 1, 0, 0, 0), (1242, none, .iconst 5, 1, 0, 5, 0), (1243, none, .iadd, 1, 0, 0, 0), (1244, none, .iaload, 1, 0, 0, 0), (1245, none, .aload_n 0, 1, 0, 0, 0), (1246, none, .iload_n 3, 1, 0, 0, 0), (1247, none, .bipush 6, 2, 0, 6, 0), (1249, none, .iadd, 1, 0, 0, 0), (1250, none, .iaload, 1, 0, 0, 0), (1251, none, .i2l, 1, 0, 0, 0), (1252, none, .bipush 32, 2, 0, 32, 0), (1254, none, .lshl, 1, 0, 0, 0), (1255, none, .aload_n 0, 1, 0, 0, 0), (1256, none, .iload_n 3, 1, 0, 0, 0), (1257, none, .bipush 7, 2, 0, 7, 0), (1259, none, .iadd, 1, 0, 0, 0), (1260, none, .iaload, 1, 0, 0, 0), (1261, none, .i2l, 1, 0, 0, 0)] := fq_of2 cd_720 ow_720 cl_720 rfl (pc := 1239) (by decide +kernel)
    j_alp (pc := 1239) (e := 10) H.2.1 D rfl rfl ⟨rfl, rfl, rfl⟩ rfl fun q q2 D =>
    j_aldn (pc := 1240) D rfl rfl rfl fun D =>
    j_ildn (pc := 1241) D rfl rfl rfl fun D =>
    j_ic (pc := 1242) D rfl fun D =>
    j_iadd (pc := 1243) D rfl fun D =>
    j_alp (pc := 1244) (e := 10) H.2.1 D rfl rfl ⟨rfl, rfl, rfl⟩ rfl fun q q2 D =>
    j_aldn (pc := 1245) D rfl rfl rfl fun D =>
    j_ildn (pc := 1246) D rfl rfl rfl fun D =>
    j_bp (pc := 1247) D rfl fun D =>
    j_iadd (pc := 1249) D rfl fun D =>
    j_alp (pc := 1250) (e := 10) H.2.1 D rfl rfl ⟨rfl, rfl, rfl⟩ rfl fun q q2 D =>
    j_i2l (pc := 1251) D rfl fun D =>
    j_bp (pc := 1252) D rfl fun D =>
    j_lshl (pc := 1254) D rfl fun D =>
    j_aldn (pc := 1255) D rfl rfl rfl fun D =>
    j_ildn (pc := 1256) D rfl rfl rfl fun D =>
    j_bp (pc := 1257) D rfl fun D =>
    j_iadd (pc := 1259) D rfl fun D =>
    j_alp (pc := 1260) (e := 10) H.2.1 D rfl rfl ⟨rfl, rfl, rfl⟩ rfl fun q q2 D =>
    j_i2l (pc := 1261) D rfl fun D =>
    have D : fk_D 720 [(1262, none, .ldc2_w 71, 3, 1, 4294967295, 0), (1265, none, .land, 1, 0, 0, 0), (1266, none, .lor, 1, 0, 0, 0), (1267, none, .aload_n 0, 1, 0, 0, 0), (1268, none, .iload_n 3, 1, 0, 0, 0), (1269, none, .bipush 8, 2, 0, 8, 0), (1271, none, .iadd, 1, 0, 0, 0), (1272, none, .iaload, 1, 0, 0, 0), (1273, none, .i2l, 1, 0, 0, 0), (1274, none, .bipush 32, 2, 0, 32, 0), (1276, none, .lshl, 1, 0, 0, 0), (1277, none, .aload_n 0, 1, 0, 0, 0), (1278, none, .iload_n 3, 1, 0, 0, 0), (1279, none, .bipush 9, 2, 0, 9, 0), (1281, none, .iadd, 1, 0, 0, 0), (1282, none, .iaload, 1, 0, 0, 0), (1283, none, .i2l, 1, 0, 0, 0), (1284, none, .ldc2_w 71, 3, 1, 4294967295, 0), (1287, none, .land, 1, 0, 0, 0), (1288, none, .lor, 1, 0, 0, 0)] := fq_of2 cd_720 ow_720 cl_720 rfl (pc := 1262) (by decide +kernel)
    j_ldc2 (pc := 1262) D rfl fun D =>
    j_land (pc := 1265) D rfl fun D =>
    j_lor (pc := 1266) D rfl fun D =>
    j_aldn (pc := 1267) D rfl rfl rfl fun D =>
    j_ildn (pc := 1268) D rfl rfl rfl fun D =>
    j_bp (pc := 1269) D rfl fun D =>
    j_iadd (pc := 1271) D rfl fun D =>
    j_alp (pc := 1272) (e := 10) H.2.1 D rfl rfl ⟨rfl, rfl, rfl⟩ rfl fun q q2 D =>
    j_i2l (pc := 1273) D rfl fun D =>
    j_bp (pc := 1274) D rfl fun D =>
    j_lshl (pc := 1276) D rfl fun D =>
    j_aldn (pc := 1277) D rfl rfl rfl fun D =>
    j_ildn (pc := 1278) D rfl rfl rfl fun D =>
    j_bp (pc := 1279) D rfl fun D =>
    j_iadd (pc := 1281) D rfl fun D =>
    j_alp (pc := 1282) (e := 10) H.2.1 D rfl rfl ⟨rfl, rfl, rfl⟩ rfl fun q q2 D =>
    j_i2l (pc := 1283) D rfl fun D =>
    j_ldc2 (pc := 1284) D rfl fun D =>
    j_land (pc := 1287) D rfl fun D =>
    j_lor (pc := 1288) D rfl fun D =>
    have D : fk_D 720 [(1289, none, .invokevirtual 122, 3, 7, 48, 1), (1292, none, .aload_n 2, 1, 0, 0, 0), (1293, none, .aload_n 0, 1, 0, 0, 0), (1294, none, .iload_n 3, 1, 0, 0, 0), (1295, none, .iconst 1, 1, 0, 1, 0), (1296, none, .iadd, 1, 0, 0, 0), (1297, none, .iaload, 1, 0, 0, 0), (1298, none, .aload_n 0, 1, 0, 0, 0), (1299, none, .iload_n 3, 1, 0, 0, 0), (1300, none, .iconst 2, 1, 0, 2, 0), (1301, none, .iadd, 1, 0, 0, 0), (1302, none, .iaload, 1, 0, 0, 0), (1303, none, .aload_n 0, 1, 0, 0, 0), (1304, none, .iload_n 3, 1, 0, 0, 0), (1305, none, .iconst 3, 1, 0, 3, 0), (1306, none, .iadd, 1, 0, 0, 0), (1307, none, .iaload, 1, 0, 0, 0), (1308, none, .aload_n 0, 1, 0, 0, 0), (1309, none, .iload_n 3, 1, 0, 0, 0), (1310, none, .iconst 4, 1, 0, 4, 0)] := fq_of2 cd_720 ow_720 cl_720 rfl (pc := 1289) (by decide +kernel)
    j_ivu (pc := 1289) (dd := 48) (a := [(0, h 10 x0.toNat (wI (x3 + 1)).toNat), (0, h 10 x0.toNat (wI (x3 + 2)).toNat), (0, h 10 x0.toNat (wI (x3 + 3)).toNat), (0, h 10 x0.toNat (wI (x3 + 4)).toNat), (0, h 10 x0.toNat (wI (x3 + 5)).toNat), (1, lo_ (lsl_ (wI (h 10 x0.toNat (wI (x3 + 6)).toNat)) 32) (la_ (wI (h 10 x0.toNat (wI (x3 + 7)).toNat)) 4294967295)), (1, lo_ (lsl_ (wI (h 10 x0.toNat (wI (x3 + 8)).toNat)) 32) (la_ (wI (h 10 x0.toNat (wI (x3 + 9)).toNat)) 4294967295))]) (rest := []) H.2.1 D rfl rfl rfl rfl rfl (fun m4 v2 h1 e1 D =>
      have T := fj_run_ok _ _ _ _ _ _ H.1 e1
      have H := shp_st H T
      j_aldn (pc := 1292) D rfl rfl rfl fun D =>
      j_aldn (pc := 1293) D rfl rfl rfl fun D =>
      j_ildn (pc := 1294) D rfl rfl rfl fun D =>
      j_ic (pc := 1295) D rfl fun D =>
      j_iadd (pc := 1296) D rfl fun D =>
      j_alp (pc := 1297) (e := 10) H.2.1 D rfl rfl ⟨rfl, rfl, rfl⟩ rfl fun q q2 D =>
      j_aldn (pc := 1298) D rfl rfl rfl fun D =>
      j_ildn (pc := 1299) D rfl rfl rfl fun D =>
      j_ic (pc := 1300) D rfl fun D =>
      j_iadd (pc := 1301) D rfl fun D =>
      j_alp (pc := 1302) (e := 10) H.2.1 D rfl rfl ⟨rfl, rfl, rfl⟩ rfl fun q q2 D =>
      j_aldn (pc := 1303) D rfl rfl rfl fun D =>
      j_ildn (pc := 1304) D rfl rfl rfl fun D =>
      j_ic (pc := 1305) D rfl fun D =>
      j_iadd (pc := 1306) D rfl fun D =>
      j_alp (pc := 1307) (e := 10) H.2.1 D rfl rfl ⟨rfl, rfl, rfl⟩ rfl fun q q2 D =>
      j_aldn (pc := 1308) D rfl rfl rfl fun D =>
      j_ildn (pc := 1309) D rfl rfl rfl fun D =>
      j_ic (pc := 1310) D rfl fun D =>
      have D : fk_D 720 [(1311, none, .iadd, 1, 0, 0, 0), (1312, none, .iaload, 1, 0, 0, 0), (1313, none, .aload_n 0, 1, 0, 0, 0), (1314, none, .iload_n 3, 1, 0, 0, 0), (1315, none, .iconst 5, 1, 0, 5, 0), (1316, none, .iadd, 1, 0, 0, 0), (1317, none, .iaload, 1, 0, 0, 0), (1318, none, .aload_n 0, 1, 0, 0, 0), (1319, none, .iload_n 3, 1, 0, 0, 0), (1320, none, .bipush 6, 2, 0, 6, 0), (1322, none, .iadd, 1, 0, 0, 0), (1323, none, .iaload, 1, 0, 0, 0), (1324, none, .i2l, 1, 0, 0, 0), (1325, none, .bipush 32, 2, 0, 32, 0), (1327, none, .lshl, 1, 0, 0, 0), (1328, none, .aload_n 0, 1, 0, 0, 0), (1329, none, .iload_n 3, 1, 0, 0, 0), (1330, none, .bipush 7, 2, 0, 7, 0), (1332, none, .iadd, 1, 0, 0, 0), (1333, none, .iaload, 1, 0, 0, 0)] := fq_of2 cd_720 ow_720 cl_720 rfl (pc := 1311) (by decide +kernel)
      j_iadd (pc := 1311) D rfl fun D =>
      j_alp (pc := 1312) (e := 10) H.2.1 D rfl rfl ⟨rfl, rfl, rfl⟩ rfl fun q q2 D =>
      j_aldn (pc := 1313) D rfl rfl rfl fun D =>
      j_ildn (pc := 1314) D rfl rfl rfl fun D =>
      j_ic (pc := 1315) D rfl fun D =>
      j_iadd (pc := 1316) D rfl fun D =>
      j_alp (pc := 1317) (e := 10) H.2.1 D rfl rfl ⟨rfl, rfl, rfl⟩ rfl fun q q2 D =>
      j_aldn (pc := 1318) D rfl rfl rfl fun D =>
      j_ildn (pc := 1319) D rfl rfl rfl fun D =>
      j_bp (pc := 1320) D rfl fun D =>
      j_iadd (pc := 1322) D rfl fun D =>
      j_alp (pc := 1323) (e := 10) H.2.1 D rfl rfl ⟨rfl, rfl, rfl⟩ rfl fun q q2 D =>
      j_i2l (pc := 1324) D rfl fun D =>
      j_bp (pc := 1325) D rfl fun D =>
      j_lshl (pc := 1327) D rfl fun D =>
      j_aldn (pc := 1328) D rfl rfl rfl fun D =>
      j_ildn (pc := 1329) D rfl rfl rfl fun D =>
      j_bp (pc := 1330) D rfl fun D =>
      j_iadd (pc := 1332) D rfl fun D =>
      j_alp (pc := 1333) (e := 10) H.2.1 D rfl rfl ⟨rfl, rfl, rfl⟩ rfl fun q q2 D =>
      have D : fk_D 720 [(1334, none, .i2l, 1, 0, 0, 0), (1335, none, .ldc2_w 71, 3, 1, 4294967295, 0), (1338, none, .land, 1, 0, 0, 0), (1339, none, .lor, 1, 0, 0, 0), (1340, none, .aload_n 0, 1, 0, 0, 0), (1341, none, .iload_n 3, 1, 0, 0, 0), (1342, none, .bipush 8, 2, 0, 8, 0), (1344, none, .iadd, 1, 0, 0, 0), (1345, none, .iaload, 1, 0, 0, 0), (1346, none, .i2l, 1, 0, 0, 0), (1347, none, .bipush 32, 2, 0, 32, 0), (1349, none, .lshl, 1, 0, 0, 0), (1350, none, .aload_n 0, 1, 0, 0, 0), (1351, none, .iload_n 3, 1, 0, 0, 0), (1352, none, .bipush 9, 2, 0, 9, 0), (1354, none, .iadd, 1, 0, 0, 0), (1355, none, .iaload, 1, 0, 0, 0), (1356, none, .i2l, 1, 0, 0, 0), (1357, none, .ldc2_w 71, 3, 1, 4294967295, 0), (1360, none, .land, 1, 0, 0, 0)] := fq_of2 cd_720 ow_720 cl_720 rfl (pc := 1334) (by decide +kernel)
      j_i2l (pc := 1334) D rfl fun D =>
      j_ldc2 (pc := 1335) D rfl fun D =>
      j_land (pc := 1338) D rfl fun D =>
      j_lor (pc := 1339) D rfl fun D =>
      j_aldn (pc := 1340) D rfl rfl rfl fun D =>
      j_ildn (pc := 1341) D rfl rfl rfl fun D =>
      j_bp (pc := 1342) D rfl fun D =>
      j_iadd (pc := 1344) D rfl fun D =>
      j_alp (pc := 1345) (e := 10) H.2.1 D rfl rfl ⟨rfl, rfl, rfl⟩ rfl fun q q2 D =>
      j_i2l (pc := 1346) D rfl fun D =>
      j_bp (pc := 1347) D rfl fun D =>
      j_lshl (pc := 1349) D rfl fun D =>
      j_aldn (pc := 1350) D rfl rfl rfl fun D =>
      j_ildn (pc := 1351) D rfl rfl rfl fun D =>
      j_bp (pc := 1352) D rfl fun D =>
      j_iadd (pc := 1354) D rfl fun D =>
      j_alp (pc := 1355) (e := 10) H.2.1 D rfl rfl ⟨rfl, rfl, rfl⟩ rfl fun q q2 D =>
      j_i2l (pc := 1356) D rfl fun D =>
      j_ldc2 (pc := 1357) D rfl fun D =>
      j_land (pc := 1360) D rfl fun D =>
      have D : fk_D 720 [(1361, none, .lor, 1, 0, 0, 0), (1362, none, .invokevirtual 126, 3, 7, 49, 1), (1365, none, .if_icmp .eq 1028, 3, 2393, 0, 0), (1368, none, .iconst 0, 1, 0, 0, 0), (1369, none, .ireturn, 1, 0, 0, 0)] := fq_of2 cd_720 ow_720 cl_720 rfl (pc := 1361) (by decide +kernel)
      j_lor (pc := 1361) D rfl fun D =>
      j_ivu (pc := 1362) (dd := 49) (a := [(0, h1 10 x0.toNat (wI (x3 + 1)).toNat), (0, h1 10 x0.toNat (wI (x3 + 2)).toNat), (0, h1 10 x0.toNat (wI (x3 + 3)).toNat), (0, h1 10 x0.toNat (wI (x3 + 4)).toNat), (0, h1 10 x0.toNat (wI (x3 + 5)).toNat), (1, lo_ (lsl_ (wI (h1 10 x0.toNat (wI (x3 + 6)).toNat)) 32) (la_ (wI (h1 10 x0.toNat (wI (x3 + 7)).toNat)) 4294967295)), (1, lo_ (lsl_ (wI (h1 10 x0.toNat (wI (x3 + 8)).toNat)) 32) (la_ (wI (h1 10 x0.toNat (wI (x3 + 9)).toNat)) 4294967295))]) (rest := [(0, v2)]) H.2.1 D rfl rfl rfl rfl rfl (fun m8 v6 h5 e1 D =>
        have T := fj_run_ok _ _ _ _ _ _ H.1 e1
        have H := shp_st H T
        j_ieq (pc := 1365) D rfl (fun q =>
          fk_jump cut_720_2393 rfl rfl) (fun q D =>
          j_ic (pc := 1368) D rfl fun D =>
          j_zret D rt_720 (gy (by decide)))) (fun m8 q7 h5 e1 =>
        j_tx (hx_720 _))) (fun m4 q3 h1 e1 =>
      j_tx (hx_720 _))
theorem e_720_1370 (d : Nat) (x0 x1 x2 x3 : Int) {h : fi_H} (H : Shp h) : c_720_1370 d x0 x1 x2 x3 h =
  dv_ (fi_vt 50 (h 0 x1.toNat 0)) fun m4 => ca_ (fj_run d m4 h [(4, x1)]) 1
    (fun v2 h1 =>
    dv_ (fi_vt 51 (h1 0 x2.toNat 0)) fun m8 => ca_ (fj_run d m8 h1 [(4, x2)]) 1
      (fun v6 h5 =>
      if lc_ v2 v6 = 0 then
        c_720_2393 d x0 x1 x2 x3 h5
      else
        some (.inl (some (0, 0)), h5))
      (fun q7 h5 => tx_ q7 h5))
    (fun q3 h1 => tx_ q3 h1) := by
  unfold c_720_1370
  exact
    have D : fk_D 720 [(1370, some [0, 1, 2, 3], .aload_n 1, 1, 0, 0, 0), (1371, none, .invokevirtual 127, 3, 0, 50, 2), (1374, none, .aload_n 2, 1, 0, 0, 0), (1375, none, .invokevirtual 131, 3, 0, 51, 2), (1378, none, .lcmp, 1, 0, 0, 0), (1379, none, .ifCond .eq 1014, 3, 2393, 0, 0), (1382, none, .iconst 0, 1, 0, 0, 0), (1383, none, .ireturn, 1, 0, 0, 0)] := fq_of2 cd_720 ow_720 cl_720 rfl (pc := 1370) (by decide +kernel)
    j_aldn (pc := 1370) D rfl rfl rfl fun D =>
    j_ivu (pc := 1371) (dd := 50) (a := []) (rest := []) H.2.1 D rfl rfl rfl rfl rfl (fun m4 v2 h1 e1 D =>
      have T := fj_run_ok _ _ _ _ _ _ H.1 e1
      have H := shp_st H T
      j_aldn (pc := 1374) D rfl rfl rfl fun D =>
      j_ivu (pc := 1375) (dd := 51) (a := []) (rest := [(1, v2)]) H.2.1 D rfl rfl rfl rfl rfl (fun m8 v6 h5 e1 D =>
        have T := fj_run_ok _ _ _ _ _ _ H.1 e1
        have H := shp_st H T
        j_lcmp (pc := 1378) D rfl fun D =>
        j_ifeq (pc := 1379) D rfl (fun q =>
          fk_jump cut_720_2393 rfl rfl) (fun q D =>
          j_ic (pc := 1382) D rfl fun D =>
          j_zret D rt_720 (gy (by decide)))) (fun m8 q7 h5 e1 =>
        j_tx (hx_720 _))) (fun m4 q3 h1 e1 =>
      j_tx (hx_720 _))
theorem e_720_1384 (d : Nat) (x0 x1 x2 x3 : Int) {h : fi_H} (H : Shp h) : c_720_1384 d x0 x1 x2 x3 h =
  if h 0 x0.toNat 0 = 10 ∧ 0 ≤ wI (x3 + 1) ∧ wI (x3 + 1) < h 1 x0.toNat 0 then
  if h 0 x0.toNat 0 = 10 ∧ 0 ≤ wI (x3 + 2) ∧ wI (x3 + 2) < h 1 x0.toNat 0 then
  if h 0 x0.toNat 0 = 10 ∧ 0 ≤ wI (x3 + 3) ∧ wI (x3 + 3) < h 1 x0.toNat 0 then
  dv_ (fi_vt 52 (h 0 x1.toNat 0)) fun m4 => ca_ (fj_run d m4 h [(4, x1), (0, h 10 x0.toNat (wI (x3 + 1)).toNat), (0, h 10 x0.toNat (wI (x3 + 2)).toNat), (0, h 10 x0.toNat (wI (x3 + 3)).toNat)]) 0
    (fun v2 h1 =>
    if h1 0 x0.toNat 0 = 10 ∧ 0 ≤ wI (x3 + 1) ∧ wI (x3 + 1) < h1 1 x0.toNat 0 then
    if h1 0 x0.toNat 0 = 10 ∧ 0 ≤ wI (x3 + 2) ∧ wI (x3 + 2) < h1 1 x0.toNat 0 then
    if h1 0 x0.toNat 0 = 10 ∧ 0 ≤ wI (x3 + 3) ∧ wI (x3 + 3) < h1 1 x0.toNat 0 then
    dv_ (fi_vt 53 (h1 0 x2.toNat 0)) fun m8 => ca_ (fj_run d m8 h1 [(4, x2), (0, h1 10 x0.toNat (wI (x3 + 1)).toNat), (0, h1 10 x0.toNat (wI (x3 + 2)).toNat), (0, h1 10 x0.toNat (wI (x3 + 3)).toNat)]) 0
      (fun v6 h5 =>
      if v2 = v6 then
        c_720_2393 d x0 x1 x2 x3 h5
      else
        some (.inl (some (0, 0)), h5))
      (fun q7 h5 => tx_ q7 h5)
    else none
    else none
    else none)
    (fun q3 h1 => tx_ q3 h1)
  else none
  else none
  else none := by
  unfold c_720_1384
  exact
    have D : fk_D 720 [(1384, some [0, 1, 2, 3], .aload_n 1, 1, 0, 0, 0), (1385, none, .aload_n 0, 1, 0, 0, 0), (1386, none, .iload_n 3, 1, 0, 0, 0), (1387, none, .iconst 1, 1, 0, 1, 0), (1388, none, .iadd, 1, 0, 0, 0), (1389, none, .iaload, 1, 0, 0, 0), (1390, none, .aload_n 0, 1, 0, 0, 0), (1391, none, .iload_n 3, 1, 0, 0, 0), (1392, none, .iconst 2, 1, 0, 2, 0), (1393, none, .iadd, 1, 0, 0, 0), (1394, none, .iaload, 1, 0, 0, 0), (1395, none, .aload_n 0, 1, 0, 0, 0), (1396, none, .iload_n 3, 1, 0, 0, 0), (1397, none, .iconst 3, 1, 0, 3, 0), (1398, none, .iadd, 1, 0, 0, 0), (1399, none, .iaload, 1, 0, 0, 0), (1400, none, .invokevirtual 132, 3, 3, 52, 1), (1403, none, .aload_n 2, 1, 0, 0, 0), (1404, none, .aload_n 0, 1, 0, 0, 0), (1405, none, .iload_n 3, 1, 0, 0, 0)] := fq_of2 cd_720 ow_720 cl_720 rfl (pc := 1384) (by decide +kernel)
    j_aldn (pc := 1384) D rfl rfl rfl fun D =>
    j_aldn (pc := 1385) D rfl rfl rfl fun D =>
    j_ildn (pc := 1386) D rfl rfl rfl fun D =>
    j_ic (pc := 1387) D rfl fun D =>
    j_iadd (pc := 1388) D rfl fun D =>
    j_alp (pc := 1389) (e := 10) H.2.1 D rfl rfl ⟨rfl, rfl, rfl⟩ rfl fun q q2 D =>
    j_aldn (pc := 1390) D rfl rfl rfl fun D =>
    j_ildn (pc := 1391) D rfl rfl rfl fun D =>
    j_ic (pc := 1392) D rfl fun D =>
    j_iadd (pc := 1393) D rfl fun D =>
    j_alp (pc := 1394) (e := 10) H.2.1 D rfl rfl ⟨rfl, rfl, rfl⟩ rfl fun q q2 D =>
    j_aldn (pc := 1395) D rfl rfl rfl fun D =>
    j_ildn (pc := 1396) D rfl rfl rfl fun D =>
    j_ic (pc := 1397) D rfl fun D =>
    j_iadd (pc := 1398) D rfl fun D =>
    j_alp (pc := 1399) (e := 10) H.2.1 D rfl rfl ⟨rfl, rfl, rfl⟩ rfl fun q q2 D =>
    j_ivu (pc := 1400) (dd := 52) (a := [(0, h 10 x0.toNat (wI (x3 + 1)).toNat), (0, h 10 x0.toNat (wI (x3 + 2)).toNat), (0, h 10 x0.toNat (wI (x3 + 3)).toNat)]) (rest := []) H.2.1 D rfl rfl rfl rfl rfl (fun m4 v2 h1 e1 D =>
      have T := fj_run_ok _ _ _ _ _ _ H.1 e1
      have H := shp_st H T
      j_aldn (pc := 1403) D rfl rfl rfl fun D =>
      j_aldn (pc := 1404) D rfl rfl rfl fun D =>
      j_ildn (pc := 1405) D rfl rfl rfl fun D =>
      have D : fk_D 720 [(1406, none, .iconst 1, 1, 0, 1, 0), (1407, none, .iadd, 1, 0, 0, 0), (1408, none, .iaload, 1, 0, 0, 0), (1409, none, .aload_n 0, 1, 0, 0, 0), (1410, none, .iload_n 3, 1, 0, 0, 0), (1411, none, .iconst 2, 1, 0, 2, 0), (1412, none, .iadd, 1, 0, 0, 0), (1413, none, .iaload, 1, 0, 0, 0), (1414, none, .aload_n 0, 1, 0, 0, 0), (1415, none, .iload_n 3, 1, 0, 0, 0), (1416, none, .iconst 3, 1, 0, 3, 0), (1417, none, .iadd, 1, 0, 0, 0), (1418, none, .iaload, 1, 0, 0, 0), (1419, none, .invokevirtual 135, 3, 3, 53, 1), (1422, none, .if_icmp .eq 971, 3, 2393, 0, 0), (1425, none, .iconst 0, 1, 0, 0, 0), (1426, none, .ireturn, 1, 0, 0, 0)] := fq_of2 cd_720 ow_720 cl_720 rfl (pc := 1406) (by decide +kernel)
      j_ic (pc := 1406) D rfl fun D =>
      j_iadd (pc := 1407) D rfl fun D =>
      j_alp (pc := 1408) (e := 10) H.2.1 D rfl rfl ⟨rfl, rfl, rfl⟩ rfl fun q q2 D =>
      j_aldn (pc := 1409) D rfl rfl rfl fun D =>
      j_ildn (pc := 1410) D rfl rfl rfl fun D =>
      j_ic (pc := 1411) D rfl fun D =>
      j_iadd (pc := 1412) D rfl fun D =>
      j_alp (pc := 1413) (e := 10) H.2.1 D rfl rfl ⟨rfl, rfl, rfl⟩ rfl fun q q2 D =>
      j_aldn (pc := 1414) D rfl rfl rfl fun D =>
      j_ildn (pc := 1415) D rfl rfl rfl fun D =>
      j_ic (pc := 1416) D rfl fun D =>
      j_iadd (pc := 1417) D rfl fun D =>
      j_alp (pc := 1418) (e := 10) H.2.1 D rfl rfl ⟨rfl, rfl, rfl⟩ rfl fun q q2 D =>
      j_ivu (pc := 1419) (dd := 53) (a := [(0, h1 10 x0.toNat (wI (x3 + 1)).toNat), (0, h1 10 x0.toNat (wI (x3 + 2)).toNat), (0, h1 10 x0.toNat (wI (x3 + 3)).toNat)]) (rest := [(0, v2)]) H.2.1 D rfl rfl rfl rfl rfl (fun m8 v6 h5 e1 D =>
        have T := fj_run_ok _ _ _ _ _ _ H.1 e1
        have H := shp_st H T
        j_ieq (pc := 1422) D rfl (fun q =>
          fk_jump cut_720_2393 rfl rfl) (fun q D =>
          j_ic (pc := 1425) D rfl fun D =>
          j_zret D rt_720 (gy (by decide)))) (fun m8 q7 h5 e1 =>
        j_tx (hx_720 _))) (fun m4 q3 h1 e1 =>
      j_tx (hx_720 _))
theorem e_720_1427 (d : Nat) (x0 x1 x2 x3 : Int) {h : fi_H} (H : Shp h) : c_720_1427 d x0 x1 x2 x3 h =
  if h 0 x0.toNat 0 = 10 ∧ 0 ≤ wI (x3 + 1) ∧ wI (x3 + 1) < h 1 x0.toNat 0 then
  if h 0 x0.toNat 0 = 10 ∧ 0 ≤ wI (x3 + 2) ∧ wI (x3 + 2) < h 1 x0.toNat 0 then
  if h 0 x0.toNat 0 = 10 ∧ 0 ≤ wI (x3 + 3) ∧ wI (x3 + 3) < h 1 x0.toNat 0 then
  if h 0 x0.toNat 0 = 10 ∧ 0 ≤ wI (x3 + 4) ∧ wI (x3 + 4) < h 1 x0.toNat 0 then
  dv_ (fi_vt 54 (h 0 x1.toNat 0)) fun m4 => ca_ (fj_run d m4 h [(4, x1), (0, h 10 x0.toNat (wI (x3 + 1)).toNat), (0, h 10 x0.toNat (wI (x3 + 2)).toNat), (0, h 10 x0.toNat (wI (x3 + 3)).toNat), (0, h 10 x0.toNat (wI (x3 + 4)).toNat)]) 0
    (fun v2 h1 =>
    if h1 0 x0.toNat 0 = 10 ∧ 0 ≤ wI (x3 + 1) ∧ wI (x3 + 1) < h1 1 x0.toNat 0 then
    if h1 0 x0.toNat 0 = 10 ∧ 0 ≤ wI (x3 + 2) ∧ wI (x3 + 2) < h1 1 x0.toNat 0 then
    if h1 0 x0.toNat 0 = 10 ∧ 0 ≤ wI (x3 + 3) ∧ wI (x3 + 3) < h1 1 x0.toNat 0 then
    if h1 0 x0.toNat 0 = 10 ∧ 0 ≤ wI (x3 + 4) ∧ wI (x3 + 4) < h1 1 x0.toNat 0 then
    dv_ (fi_vt 55 (h1 0 x2.toNat 0)) fun m8 => ca_ (fj_run d m8 h1 [(4, x2), (0, h1 10 x0.toNat (wI (x3 + 1)).toNat), (0, h1 10 x0.toNat (wI (x3 + 2)).toNat), (0, h1 10 x0.toNat (wI (x3 + 3)).toNat), (0, h1 10 x0.toNat (wI (x3 + 4)).toNat)]) 0
      (fun v6 h5 =>
      if v2 = v6 then
        c_720_2393 d x0 x1 x2 x3 h5
      else
        some (.inl (some (0, 0)), h5))
      (fun q7 h5 => tx_ q7 h5)
    else none
    else none
    else none
    else none)
    (fun q3 h1 => tx_ q3 h1)
  else none
  else none
  else none
  else none := by
  unfold c_720_1427
  exact
    have D : fk_D 720 [(1427, some [0, 1, 2, 3], .aload_n 1, 1, 0, 0, 0), (1428, none, .aload_n 0, 1, 0, 0, 0), (1429, none, .iload_n 3, 1, 0, 0, 0), (1430, none, .iconst 1, 1, 0, 1, 0), (1431, none, .iadd, 1, 0, 0, 0), (1432, none, .iaload, 1, 0, 0, 0), (1433, none, .aload_n 0, 1, 0, 0, 0), (1434, none, .iload_n 3, 1, 0, 0, 0), (1435, none, .iconst 2, 1, 0, 2, 0), (1436, none, .iadd, 1, 0, 0, 0), (1437, none, .iaload, 1, 0, 0, 0), (1438, none, .aload_n 0, 1, 0, 0, 0), (1439, none, .iload_n 3, 1, 0, 0, 0), (1440, none, .iconst 3, 1, 0, 3, 0), (1441, none, .iadd, 1, 0, 0, 0), (1442, none, .iaload, 1, 0, 0, 0), (1443, none, .aload_n 0, 1, 0, 0, 0), (1444, none, .iload_n 3, 1, 0, 0, 0), (1445, none, .iconst 4, 1, 0, 4, 0), (1446, none, .iadd, 1, 0, 0, 0)] := fq_of2 cd_720 ow_720 cl_720 rfl (pc := 1427) (by decide +kernel)
    j_aldn (pc := 1427) D rfl rfl rfl fun D =>
    j_aldn (pc := 1428) D rfl rfl rfl fun D =>
    j_ildn (pc := 1429) D rfl rfl rfl fun D =>
    j_ic (pc := 1430) D rfl fun D =>
    j_iadd (pc := 1431) D rfl fun D =>
    j_alp (pc := 1432) (e := 10) H.2.1 D rfl rfl ⟨rfl, rfl, rfl⟩ rfl fun q q2 D =>
    j_aldn (pc := 1433) D rfl rfl rfl fun D =>
    j_ildn (pc := 1434) D rfl rfl rfl fun D =>
    j_ic (pc := 1435) D rfl fun D =>
    j_iadd (pc := 1436) D rfl fun D =>
    j_alp (pc := 1437) (e := 10) H.2.1 D rfl rfl ⟨rfl, rfl, rfl⟩ rfl fun q q2 D =>
    j_aldn (pc := 1438) D rfl rfl rfl fun D =>
    j_ildn (pc := 1439) D rfl rfl rfl fun D =>
    j_ic (pc := 1440) D rfl fun D =>
    j_iadd (pc := 1441) D rfl fun D =>
    j_alp (pc := 1442) (e := 10) H.2.1 D rfl rfl ⟨rfl, rfl, rfl⟩ rfl fun q q2 D =>
    j_aldn (pc := 1443) D rfl rfl rfl fun D =>
    j_ildn (pc := 1444) D rfl rfl rfl fun D =>
    j_ic (pc := 1445) D rfl fun D =>
    j_iadd (pc := 1446) D rfl fun D =>
    have D : fk_D 720 [(1447, none, .iaload, 1, 0, 0, 0), (1448, none, .invokevirtual 136, 3, 4, 54, 1), (1451, none, .aload_n 2, 1, 0, 0, 0), (1452, none, .aload_n 0, 1, 0, 0, 0), (1453, none, .iload_n 3, 1, 0, 0, 0), (1454, none, .iconst 1, 1, 0, 1, 0), (1455, none, .iadd, 1, 0, 0, 0), (1456, none, .iaload, 1, 0, 0, 0), (1457, none, .aload_n 0, 1, 0, 0, 0), (1458, none, .iload_n 3, 1, 0, 0, 0), (1459, none, .iconst 2, 1, 0, 2, 0), (1460, none, .iadd, 1, 0, 0, 0), (1461, none, .iaload, 1, 0, 0, 0), (1462, none, .aload_n 0, 1, 0, 0, 0), (1463, none, .iload_n 3, 1, 0, 0, 0), (1464, none, .iconst 3, 1, 0, 3, 0), (1465, none, .iadd, 1, 0, 0, 0), (1466, none, .iaload, 1, 0, 0, 0), (1467, none, .aload_n 0, 1, 0, 0, 0), (1468, none, .iload_n 3, 1, 0, 0, 0)] := fq_of2 cd_720 ow_720 cl_720 rfl (pc := 1447) (by decide +kernel)
    j_alp (pc := 1447) (e := 10) H.2.1 D rfl rfl ⟨rfl, rfl, rfl⟩ rfl fun q q2 D =>
    j_ivu (pc := 1448) (dd := 54) (a := [(0, h 10 x0.toNat (wI (x3 + 1)).toNat), (0, h 10 x0.toNat (wI (x3 + 2)).toNat), (0, h 10 x0.toNat (wI (x3 + 3)).toNat), (0, h 10 x0.toNat (wI (x3 + 4)).toNat)]) (rest := []) H.2.1 D rfl rfl rfl rfl rfl (fun m4 v2 h1 e1 D =>
      have T := fj_run_ok _ _ _ _ _ _ H.1 e1
      have H := shp_st H T
      j_aldn (pc := 1451) D rfl rfl rfl fun D =>
      j_aldn (pc := 1452) D rfl rfl rfl fun D =>
      j_ildn (pc := 1453) D rfl rfl rfl fun D =>
      j_ic (pc := 1454) D rfl fun D =>
      j_iadd (pc := 1455) D rfl fun D =>
      j_alp (pc := 1456) (e := 10) H.2.1 D rfl rfl ⟨rfl, rfl, rfl⟩ rfl fun q q2 D =>
      j_aldn (pc := 1457) D rfl rfl rfl fun D =>
      j_ildn (pc := 1458) D rfl rfl rfl fun D =>
      j_ic (pc := 1459) D rfl fun D =>
      j_iadd (pc := 1460) D rfl fun D =>
      j_alp (pc := 1461) (e := 10) H.2.1 D rfl rfl ⟨rfl, rfl, rfl⟩ rfl fun q q2 D =>
      j_aldn (pc := 1462) D rfl rfl rfl fun D =>
      j_ildn (pc := 1463) D rfl rfl rfl fun D =>
      j_ic (pc := 1464) D rfl fun D =>
      j_iadd (pc := 1465) D rfl fun D =>
      j_alp (pc := 1466) (e := 10) H.2.1 D rfl rfl ⟨rfl, rfl, rfl⟩ rfl fun q q2 D =>
      j_aldn (pc := 1467) D rfl rfl rfl fun D =>
      j_ildn (pc := 1468) D rfl rfl rfl fun D =>
      have D : fk_D 720 [(1469, none, .iconst 4, 1, 0, 4, 0), (1470, none, .iadd, 1, 0, 0, 0), (1471, none, .iaload, 1, 0, 0, 0), (1472, none, .invokevirtual 139, 3, 4, 55, 1), (1475, none, .if_icmp .eq 918, 3, 2393, 0, 0), (1478, none, .iconst 0, 1, 0, 0, 0), (1479, none, .ireturn, 1, 0, 0, 0)] := fq_of2 cd_720 ow_720 cl_720 rfl (pc := 1469) (by decide +kernel)
      j_ic (pc := 1469) D rfl fun D =>
      j_iadd (pc := 1470) D rfl fun D =>
      j_alp (pc := 1471) (e := 10) H.2.1 D rfl rfl ⟨rfl, rfl, rfl⟩ rfl fun q q2 D =>
      j_ivu (pc := 1472) (dd := 55) (a := [(0, h1 10 x0.toNat (wI (x3 + 1)).toNat), (0, h1 10 x0.toNat (wI (x3 + 2)).toNat), (0, h1 10 x0.toNat (wI (x3 + 3)).toNat), (0, h1 10 x0.toNat (wI (x3 + 4)).toNat)]) (rest := [(0, v2)]) H.2.1 D rfl rfl rfl rfl rfl (fun m8 v6 h5 e1 D =>
        have T := fj_run_ok _ _ _ _ _ _ H.1 e1
        have H := shp_st H T
        j_ieq (pc := 1475) D rfl (fun q =>
          fk_jump cut_720_2393 rfl rfl) (fun q D =>
          j_ic (pc := 1478) D rfl fun D =>
          j_zret D rt_720 (gy (by decide)))) (fun m8 q7 h5 e1 =>
        j_tx (hx_720 _))) (fun m4 q3 h1 e1 =>
      j_tx (hx_720 _))
theorem e_720_1480 (d : Nat) (x0 x1 x2 x3 : Int) {h : fi_H} (H : Shp h) : c_720_1480 d x0 x1 x2 x3 h =
  if h 0 x0.toNat 0 = 10 ∧ 0 ≤ wI (x3 + 1) ∧ wI (x3 + 1) < h 1 x0.toNat 0 then
  dv_ (fi_vt 56 (h 0 x1.toNat 0)) fun m4 => ca_ (fj_run d m4 h [(4, x1), (0, h 10 x0.toNat (wI (x3 + 1)).toNat)]) 0
    (fun v2 h1 =>
    if h1 0 x0.toNat 0 = 10 ∧ 0 ≤ wI (x3 + 1) ∧ wI (x3 + 1) < h1 1 x0.toNat 0 then
    dv_ (fi_vt 57 (h1 0 x2.toNat 0)) fun m8 => ca_ (fj_run d m8 h1 [(4, x2), (0, h1 10 x0.toNat (wI (x3 + 1)).toNat)]) 0
      (fun v6 h5 =>
      if v2 = v6 then
        c_720_2393 d x0 x1 x2 x3 h5
      else
        some (.inl (some (0, 0)), h5))
      (fun q7 h5 => tx_ q7 h5)
    else none)
    (fun q3 h1 => tx_ q3 h1)
  else none := by
  unfold c_720_1480
  exact
    have D : fk_D 720 [(1480, some [0, 1, 2, 3], .aload_n 1, 1, 0, 0, 0), (1481, none, .aload_n 0, 1, 0, 0, 0), (1482, none, .iload_n 3, 1, 0, 0, 0), (1483, none, .iconst 1, 1, 0, 1, 0), (1484, none, .iadd, 1, 0, 0, 0), (1485, none, .iaload, 1, 0, 0, 0), (1486, none, .invokevirtual 140, 3, 1, 56, 1), (1489, none, .aload_n 2, 1, 0, 0, 0), (1490, none, .aload_n 0, 1, 0, 0, 0), (1491, none, .iload_n 3, 1, 0, 0, 0), (1492, none, .iconst 1, 1, 0, 1, 0), (1493, none, .iadd, 1, 0, 0, 0), (1494, none, .iaload, 1, 0, 0, 0), (1495, none, .invokevirtual 143, 3, 1, 57, 1), (1498, none, .if_icmp .eq 895, 3, 2393, 0, 0), (1501, none, .iconst 0, 1, 0, 0, 0), (1502, none, .ireturn, 1, 0, 0, 0)] := fq_of2 cd_720 ow_720 cl_720 rfl (pc := 1480) (by decide +kernel)
    j_aldn (pc := 1480) D rfl rfl rfl fun D =>
    j_aldn (pc := 1481) D rfl rfl rfl fun D =>
    j_ildn (pc := 1482) D rfl rfl rfl fun D =>
    j_ic (pc := 1483) D rfl fun D =>
    j_iadd (pc := 1484) D rfl fun D =>
    j_alp (pc := 1485) (e := 10) H.2.1 D rfl rfl ⟨rfl, rfl, rfl⟩ rfl fun q q2 D =>
    j_ivu (pc := 1486) (dd := 56) (a := [(0, h 10 x0.toNat (wI (x3 + 1)).toNat)]) (rest := []) H.2.1 D rfl rfl rfl rfl rfl (fun m4 v2 h1 e1 D =>
      have T := fj_run_ok _ _ _ _ _ _ H.1 e1
      have H := shp_st H T
      j_aldn (pc := 1489) D rfl rfl rfl fun D =>
      j_aldn (pc := 1490) D rfl rfl rfl fun D =>
      j_ildn (pc := 1491) D rfl rfl rfl fun D =>
      j_ic (pc := 1492) D rfl fun D =>
      j_iadd (pc := 1493) D rfl fun D =>
      j_alp (pc := 1494) (e := 10) H.2.1 D rfl rfl ⟨rfl, rfl, rfl⟩ rfl fun q q2 D =>
      j_ivu (pc := 1495) (dd := 57) (a := [(0, h1 10 x0.toNat (wI (x3 + 1)).toNat)]) (rest := [(0, v2)]) H.2.1 D rfl rfl rfl rfl rfl (fun m8 v6 h5 e1 D =>
        have T := fj_run_ok _ _ _ _ _ _ H.1 e1
        have H := shp_st H T
        j_ieq (pc := 1498) D rfl (fun q =>
          fk_jump cut_720_2393 rfl rfl) (fun q D =>
          j_ic (pc := 1501) D rfl fun D =>
          j_zret D rt_720 (gy (by decide)))) (fun m8 q7 h5 e1 =>
        j_tx (hx_720 _))) (fun m4 q3 h1 e1 =>
      j_tx (hx_720 _))
theorem e_720_1503 (d : Nat) (x0 x1 x2 x3 : Int) {h : fi_H} (H : Shp h) : c_720_1503 d x0 x1 x2 x3 h =
  if h 0 x0.toNat 0 = 10 ∧ 0 ≤ wI (x3 + 1) ∧ wI (x3 + 1) < h 1 x0.toNat 0 then
  if h 0 x0.toNat 0 = 10 ∧ 0 ≤ wI (x3 + 2) ∧ wI (x3 + 2) < h 1 x0.toNat 0 then
  if h 10 x0.toNat (wI (x3 + 2)).toNat = 0 then
    c_720_1522 d x0 x1 x2 x3 x1 (h 10 x0.toNat (wI (x3 + 1)).toNat) 0 h
  else
    c_720_1522 d x0 x1 x2 x3 x1 (h 10 x0.toNat (wI (x3 + 1)).toNat) 1 h
  else none
  else none := by
  unfold c_720_1503
  exact
    have D : fk_D 720 [(1503, some [0, 1, 2, 3], .aload_n 1, 1, 0, 0, 0), (1504, none, .aload_n 0, 1, 0, 0, 0), (1505, none, .iload_n 3, 1, 0, 0, 0), (1506, none, .iconst 1, 1, 0, 1, 0), (1507, none, .iadd, 1, 0, 0, 0), (1508, none, .iaload, 1, 0, 0, 0), (1509, none, .aload_n 0, 1, 0, 0, 0), (1510, none, .iload_n 3, 1, 0, 0, 0), (1511, none, .iconst 2, 1, 0, 2, 0), (1512, none, .iadd, 1, 0, 0, 0), (1513, none, .iaload, 1, 0, 0, 0), (1514, none, .ifCond .eq 7, 3, 1521, 0, 0), (1517, none, .iconst 1, 1, 0, 1, 0), (1518, none, .goto 4, 3, 1522, 0, 0)] := fq_of2 cd_720 ow_720 cl_720 rfl (pc := 1503) (by decide +kernel)
    j_aldn (pc := 1503) D rfl rfl rfl fun D =>
    j_aldn (pc := 1504) D rfl rfl rfl fun D =>
    j_ildn (pc := 1505) D rfl rfl rfl fun D =>
    j_ic (pc := 1506) D rfl fun D =>
    j_iadd (pc := 1507) D rfl fun D =>
    j_alp (pc := 1508) (e := 10) H.2.1 D rfl rfl ⟨rfl, rfl, rfl⟩ rfl fun q q2 D =>
    j_aldn (pc := 1509) D rfl rfl rfl fun D =>
    j_ildn (pc := 1510) D rfl rfl rfl fun D =>
    j_ic (pc := 1511) D rfl fun D =>
    j_iadd (pc := 1512) D rfl fun D =>
    j_alp (pc := 1513) (e := 10) H.2.1 D rfl rfl ⟨rfl, rfl, rfl⟩ rfl fun q q2 D =>
    j_ifeq (pc := 1514) D rfl (fun q =>
      have D : fk_D 720 [(1521, none, .iconst 0, 1, 0, 0, 0)] := fq_of2 cd_720 ow_720 cl_720 rfl (pc := 1521) (by decide +kernel)
      j_ic (pc := 1521) D rfl fun D =>
      fk_jump cut_720_1522 rfl rfl) (fun q D =>
      j_ic (pc := 1517) D rfl fun D =>
      j_goto (pc := 1518) D rfl <|
      fk_jump cut_720_1522 rfl rfl)
theorem e_720_1522 (d : Nat) (x0 x1 x2 x3 s0 s1 s2 : Int) {h : fi_H} (H : Shp h) : c_720_1522 d x0 x1 x2 x3 s0 s1 s2 h =
  dv_ (fi_vt 58 (h 0 s0.toNat 0)) fun m4 => ca_ (fj_run d m4 h [(4, s0), (0, s1), (0, s2)]) 0
    (fun v2 h1 =>
    if h1 0 x0.toNat 0 = 10 ∧ 0 ≤ wI (x3 + 1) ∧ wI (x3 + 1) < h1 1 x0.toNat 0 then
    if h1 0 x0.toNat 0 = 10 ∧ 0 ≤ wI (x3 + 2) ∧ wI (x3 + 2) < h1 1 x0.toNat 0 then
    if h1 10 x0.toNat (wI (x3 + 2)).toNat = 0 then
      c_720_1544 d x0 x1 x2 x3 v2 x2 (h1 10 x0.toNat (wI (x3 + 1)).toNat) 0 h1
    else
      c_720_1544 d x0 x1 x2 x3 v2 x2 (h1 10 x0.toNat (wI (x3 + 1)).toNat) 1 h1
    else none
    else none)
    (fun q3 h1 => tx_ q3 h1) := by
  unfold c_720_1522
  exact
    have D : fk_D 720 [(1522, some [0, 1, 2, 3], .invokevirtual 144, 3, 2, 58, 1), (1525, none, .aload_n 2, 1, 0, 0, 0), (1526, none, .aload_n 0, 1, 0, 0, 0), (1527, none, .iload_n 3, 1, 0, 0, 0), (1528, none, .iconst 1, 1, 0, 1, 0), (1529, none, .iadd, 1, 0, 0, 0), (1530, none, .iaload, 1, 0, 0, 0), (1531, none, .aload_n 0, 1, 0, 0, 0), (1532, none, .iload_n 3, 1, 0, 0, 0), (1533, none, .iconst 2, 1, 0, 2, 0), (1534, none, .iadd, 1, 0, 0, 0), (1535, none, .iaload, 1, 0, 0, 0), (1536, none, .ifCond .eq 7, 3, 1543, 0, 0), (1539, none, .iconst 1, 1, 0, 1, 0), (1540, none, .goto 4, 3, 1544, 0, 0)] := fq_of2 cd_720 ow_720 cl_720 rfl (pc := 1522) (by decide +kernel)
    j_ivu (pc := 1522) (dd := 58) (a := [(0, s1), (0, s2)]) (rest := []) H.2.1 D rfl rfl rfl rfl rfl (fun m4 v2 h1 e1 D =>
      have T := fj_run_ok _ _ _ _ _ _ H.1 e1
      have H := shp_st H T
      j_aldn (pc := 1525) D rfl rfl rfl fun D =>
      j_aldn (pc := 1526) D rfl rfl rfl fun D =>
      j_ildn (pc := 1527) D rfl rfl rfl fun D =>
      j_ic (pc := 1528) D rfl fun D =>
      j_iadd (pc := 1529) D rfl fun D =>
      j_alp (pc := 1530) (e := 10) H.2.1 D rfl rfl ⟨rfl, rfl, rfl⟩ rfl fun q q2 D =>
      j_aldn (pc := 1531) D rfl rfl rfl fun D =>
      j_ildn (pc := 1532) D rfl rfl rfl fun D =>
      j_ic (pc := 1533) D rfl fun D =>
      j_iadd (pc := 1534) D rfl fun D =>
      j_alp (pc := 1535) (e := 10) H.2.1 D rfl rfl ⟨rfl, rfl, rfl⟩ rfl fun q q2 D =>
      j_ifeq (pc := 1536) D rfl (fun q =>
        have D : fk_D 720 [(1543, none, .iconst 0, 1, 0, 0, 0)] := fq_of2 cd_720 ow_720 cl_720 rfl (pc := 1543) (by decide +kernel)
        j_ic (pc := 1543) D rfl fun D =>
        fk_jump cut_720_1544 rfl rfl) (fun q D =>
        j_ic (pc := 1539) D rfl fun D =>
        j_goto (pc := 1540) D rfl <|
        fk_jump cut_720_1544 rfl rfl)) (fun m4 q3 h1 e1 =>
      j_tx (hx_720 _))
theorem e_720_1544 (d : Nat) (x0 x1 x2 x3 s0 s1 s2 s3 : Int) {h : fi_H} (H : Shp h) : c_720_1544 d x0 x1 x2 x3 s0 s1 s2 s3 h =
  dv_ (fi_vt 59 (h 0 s1.toNat 0)) fun m4 => ca_ (fj_run d m4 h [(4, s1), (0, s2), (0, s3)]) 0
    (fun v2 h1 =>
    if s0 = v2 then
      c_720_2393 d x0 x1 x2 x3 h1
    else
      some (.inl (some (0, 0)), h1))
    (fun q3 h1 => tx_ q3 h1) := by
  unfold c_720_1544
  exact
    have D : fk_D 720 [(1544, some [0, 1, 2, 3], .invokevirtual 148, 3, 2, 59, 1), (1547, none, .if_icmp .eq 846, 3, 2393, 0, 0), (1550, none, .iconst 0, 1, 0, 0, 0), (1551, none, .ireturn, 1, 0, 0, 0)] := fq_of2 cd_720 ow_720 cl_720 rfl (pc := 1544) (by decide +kernel)
    j_ivu (pc := 1544) (dd := 59) (a := [(0, s2), (0, s3)]) (rest := [(0, s0)]) H.2.1 D rfl rfl rfl rfl rfl (fun m4 v2 h1 e1 D =>
      have T := fj_run_ok _ _ _ _ _ _ H.1 e1
      have H := shp_st H T
      j_ieq (pc := 1547) D rfl (fun q =>
        fk_jump cut_720_2393 rfl rfl) (fun q D =>
        j_ic (pc := 1550) D rfl fun D =>
        j_zret D rt_720 (gy (by decide)))) (fun m4 q3 h1 e1 =>
      j_tx (hx_720 _))
theorem e_720_1552 (d : Nat) (x0 x1 x2 x3 : Int) {h : fi_H} (H : Shp h) : c_720_1552 d x0 x1 x2 x3 h =
  if h 0 x0.toNat 0 = 10 ∧ 0 ≤ wI (x3 + 1) ∧ wI (x3 + 1) < h 1 x0.toNat 0 then
  dv_ (fi_vt 60 (h 0 x1.toNat 0)) fun m4 => ca_ (fj_run d m4 h [(4, x1), (0, h 10 x0.toNat (wI (x3 + 1)).toNat)]) 0
    (fun v2 h1 =>
    if h1 0 x0.toNat 0 = 10 ∧ 0 ≤ wI (x3 + 1) ∧ wI (x3 + 1) < h1 1 x0.toNat 0 then
    dv_ (fi_vt 61 (h1 0 x2.toNat 0)) fun m8 => ca_ (fj_run d m8 h1 [(4, x2), (0, h1 10 x0.toNat (wI (x3 + 1)).toNat)]) 0
      (fun v6 h5 =>
      if v2 = v6 then
        c_720_2393 d x0 x1 x2 x3 h5
      else
        some (.inl (some (0, 0)), h5))
      (fun q7 h5 => tx_ q7 h5)
    else none)
    (fun q3 h1 => tx_ q3 h1)
  else none := by
  unfold c_720_1552
  exact
    have D : fk_D 720 [(1552, some [0, 1, 2, 3], .aload_n 1, 1, 0, 0, 0), (1553, none, .aload_n 0, 1, 0, 0, 0), (1554, none, .iload_n 3, 1, 0, 0, 0), (1555, none, .iconst 1, 1, 0, 1, 0), (1556, none, .iadd, 1, 0, 0, 0), (1557, none, .iaload, 1, 0, 0, 0), (1558, none, .invokevirtual 149, 3, 1, 60, 1), (1561, none, .aload_n 2, 1, 0, 0, 0), (1562, none, .aload_n 0, 1, 0, 0, 0), (1563, none, .iload_n 3, 1, 0, 0, 0), (1564, none, .iconst 1, 1, 0, 1, 0), (1565, none, .iadd, 1, 0, 0, 0), (1566, none, .iaload, 1, 0, 0, 0), (1567, none, .invokevirtual 152, 3, 1, 61, 1), (1570, none, .if_icmp .eq 823, 3, 2393, 0, 0), (1573, none, .iconst 0, 1, 0, 0, 0), (1574, none, .ireturn, 1, 0, 0, 0)] := fq_of2 cd_720 ow_720 cl_720 rfl (pc := 1552) (by decide +kernel)
    j_aldn (pc := 1552) D rfl rfl rfl fun D =>
    j_aldn (pc := 1553) D rfl rfl rfl fun D =>
    j_ildn (pc := 1554) D rfl rfl rfl fun D =>
    j_ic (pc := 1555) D rfl fun D =>
    j_iadd (pc := 1556) D rfl fun D =>
    j_alp (pc := 1557) (e := 10) H.2.1 D rfl rfl ⟨rfl, rfl, rfl⟩ rfl fun q q2 D =>
    j_ivu (pc := 1558) (dd := 60) (a := [(0, h 10 x0.toNat (wI (x3 + 1)).toNat)]) (rest := []) H.2.1 D rfl rfl rfl rfl rfl (fun m4 v2 h1 e1 D =>
      have T := fj_run_ok _ _ _ _ _ _ H.1 e1
      have H := shp_st H T
      j_aldn (pc := 1561) D rfl rfl rfl fun D =>
      j_aldn (pc := 1562) D rfl rfl rfl fun D =>
      j_ildn (pc := 1563) D rfl rfl rfl fun D =>
      j_ic (pc := 1564) D rfl fun D =>
      j_iadd (pc := 1565) D rfl fun D =>
      j_alp (pc := 1566) (e := 10) H.2.1 D rfl rfl ⟨rfl, rfl, rfl⟩ rfl fun q q2 D =>
      j_ivu (pc := 1567) (dd := 61) (a := [(0, h1 10 x0.toNat (wI (x3 + 1)).toNat)]) (rest := [(0, v2)]) H.2.1 D rfl rfl rfl rfl rfl (fun m8 v6 h5 e1 D =>
        have T := fj_run_ok _ _ _ _ _ _ H.1 e1
        have H := shp_st H T
        j_ieq (pc := 1570) D rfl (fun q =>
          fk_jump cut_720_2393 rfl rfl) (fun q D =>
          j_ic (pc := 1573) D rfl fun D =>
          j_zret D rt_720 (gy (by decide)))) (fun m8 q7 h5 e1 =>
        j_tx (hx_720 _))) (fun m4 q3 h1 e1 =>
      j_tx (hx_720 _))
theorem e_720_1575 (d : Nat) (x0 x1 x2 x3 : Int) {h : fi_H} (H : Shp h) : c_720_1575 d x0 x1 x2 x3 h =
  if h 0 x0.toNat 0 = 10 ∧ 0 ≤ wI (x3 + 1) ∧ wI (x3 + 1) < h 1 x0.toNat 0 then
  if h 0 x0.toNat 0 = 10 ∧ 0 ≤ wI (x3 + 2) ∧ wI (x3 + 2) < h 1 x0.toNat 0 then
  dv_ (fi_vt 62 (h 0 x1.toNat 0)) fun m4 => ca_ (fj_run d m4 h [(4, x1), (0, h 10 x0.toNat (wI (x3 + 1)).toNat), (0, h 10 x0.toNat (wI (x3 + 2)).toNat)]) 0
    (fun v2 h1 =>
    if h1 0 x0.toNat 0 = 10 ∧ 0 ≤ wI (x3 + 1) ∧ wI (x3 + 1) < h1 1 x0.toNat 0 then
    if h1 0 x0.toNat 0 = 10 ∧ 0 ≤ wI (x3 + 2) ∧ wI (x3 + 2) < h1 1 x0.toNat 0 then
    dv_ (fi_vt 63 (h1 0 x2.toNat 0)) fun m8 => ca_ (fj_run d m8 h1 [(4, x2), (0, h1 10 x0.toNat (wI (x3 + 1)).toNat), (0, h1 10 x0.toNat (wI (x3 + 2)).toNat)]) 0
      (fun v6 h5 =>
      if v2 = v6 then
        c_720_2393 d x0 x1 x2 x3 h5
      else
        some (.inl (some (0, 0)), h5))
      (fun q7 h5 => tx_ q7 h5)
    else none
    else none)
    (fun q3 h1 => tx_ q3 h1)
  else none
  else none := by
  unfold c_720_1575
  exact
    have D : fk_D 720 [(1575, some [0, 1, 2, 3], .aload_n 1, 1, 0, 0, 0), (1576, none, .aload_n 0, 1, 0, 0, 0), (1577, none, .iload_n 3, 1, 0, 0, 0), (1578, none, .iconst 1, 1, 0, 1, 0), (1579, none, .iadd, 1, 0, 0, 0), (1580, none, .iaload, 1, 0, 0, 0), (1581, none, .aload_n 0, 1, 0, 0, 0), (1582, none, .iload_n 3, 1, 0, 0, 0), (1583, none, .iconst 2, 1, 0, 2, 0), (1584, none, .iadd, 1, 0, 0, 0), (1585, none, .iaload, 1, 0, 0, 0), (1586, none, .invokevirtual 153, 3, 2, 62, 1), (1589, none, .aload_n 2, 1, 0, 0, 0), (1590, none, .aload_n 0, 1, 0, 0, 0), (1591, none, .iload_n 3, 1, 0, 0, 0), (1592, none, .iconst 1, 1, 0, 1, 0), (1593, none, .iadd, 1, 0, 0, 0), (1594, none, .iaload, 1, 0, 0, 0), (1595, none, .aload_n 0, 1, 0, 0, 0), (1596, none, .iload_n 3, 1, 0, 0, 0)] := fq_of2 cd_720 ow_720 cl_720 rfl (pc := 1575) (by decide +kernel)
    j_aldn (pc := 1575) D rfl rfl rfl fun D =>
    j_aldn (pc := 1576) D rfl rfl rfl fun D =>
    j_ildn (pc := 1577) D rfl rfl rfl fun D =>
    j_ic (pc := 1578) D rfl fun D =>
    j_iadd (pc := 1579) D rfl fun D =>
    j_alp (pc := 1580) (e := 10) H.2.1 D rfl rfl ⟨rfl, rfl, rfl⟩ rfl fun q q2 D =>
    j_aldn (pc := 1581) D rfl rfl rfl fun D =>
    j_ildn (pc := 1582) D rfl rfl rfl fun D =>
    j_ic (pc := 1583) D rfl fun D =>
    j_iadd (pc := 1584) D rfl fun D =>
    j_alp (pc := 1585) (e := 10) H.2.1 D rfl rfl ⟨rfl, rfl, rfl⟩ rfl fun q q2 D =>
    j_ivu (pc := 1586) (dd := 62) (a := [(0, h 10 x0.toNat (wI (x3 + 1)).toNat), (0, h 10 x0.toNat (wI (x3 + 2)).toNat)]) (rest := []) H.2.1 D rfl rfl rfl rfl rfl (fun m4 v2 h1 e1 D =>
      have T := fj_run_ok _ _ _ _ _ _ H.1 e1
      have H := shp_st H T
      j_aldn (pc := 1589) D rfl rfl rfl fun D =>
      j_aldn (pc := 1590) D rfl rfl rfl fun D =>
      j_ildn (pc := 1591) D rfl rfl rfl fun D =>
      j_ic (pc := 1592) D rfl fun D =>
      j_iadd (pc := 1593) D rfl fun D =>
      j_alp (pc := 1594) (e := 10) H.2.1 D rfl rfl ⟨rfl, rfl, rfl⟩ rfl fun q q2 D =>
      j_aldn (pc := 1595) D rfl rfl rfl fun D =>
      j_ildn (pc := 1596) D rfl rfl rfl fun D =>
      have D : fk_D 720 [(1597, none, .iconst 2, 1, 0, 2, 0), (1598, none, .iadd, 1, 0, 0, 0), (1599, none, .iaload, 1, 0, 0, 0), (1600, none, .invokevirtual 156, 3, 2, 63, 1), (1603, none, .if_icmp .eq 790, 3, 2393, 0, 0), (1606, none, .iconst 0, 1, 0, 0, 0), (1607, none, .ireturn, 1, 0, 0, 0)] := fq_of2 cd_720 ow_720 cl_720 rfl (pc := 1597) (by decide +kernel)
      j_ic (pc := 1597) D rfl fun D =>
      j_iadd (pc := 1598) D rfl fun D =>
      j_alp (pc := 1599) (e := 10) H.2.1 D rfl rfl ⟨rfl, rfl, rfl⟩ rfl fun q q2 D =>
      j_ivu (pc := 1600) (dd := 63) (a := [(0, h1 10 x0.toNat (wI (x3 + 1)).toNat), (0, h1 10 x0.toNat (wI (x3 + 2)).toNat)]) (rest := [(0, v2)]) H.2.1 D rfl rfl rfl rfl rfl (fun m8 v6 h5 e1 D =>
        have T := fj_run_ok _ _ _ _ _ _ H.1 e1
        have H := shp_st H T
        j_ieq (pc := 1603) D rfl (fun q =>
          fk_jump cut_720_2393 rfl rfl) (fun q D =>
          j_ic (pc := 1606) D rfl fun D =>
          j_zret D rt_720 (gy (by decide)))) (fun m8 q7 h5 e1 =>
        j_tx (hx_720 _))) (fun m4 q3 h1 e1 =>
      j_tx (hx_720 _))
theorem e_720_1608 (d : Nat) (x0 x1 x2 x3 : Int) {h : fi_H} (H : Shp h) : c_720_1608 d x0 x1 x2 x3 h =
  if h 0 x0.toNat 0 = 10 ∧ 0 ≤ wI (x3 + 1) ∧ wI (x3 + 1) < h 1 x0.toNat 0 then
  if h 0 x0.toNat 0 = 10 ∧ 0 ≤ wI (x3 + 2) ∧ wI (x3 + 2) < h 1 x0.toNat 0 then
  dv_ (fi_vt 64 (h 0 x1.toNat 0)) fun m4 => ca_ (fj_run d m4 h [(4, x1), (0, h 10 x0.toNat (wI (x3 + 1)).toNat), (0, h 10 x0.toNat (wI (x3 + 2)).toNat)]) 1
    (fun v2 h1 =>
    if h1 0 x0.toNat 0 = 10 ∧ 0 ≤ wI (x3 + 1) ∧ wI (x3 + 1) < h1 1 x0.toNat 0 then
    if h1 0 x0.toNat 0 = 10 ∧ 0 ≤ wI (x3 + 2) ∧ wI (x3 + 2) < h1 1 x0.toNat 0 then
    dv_ (fi_vt 65 (h1 0 x2.toNat 0)) fun m8 => ca_ (fj_run d m8 h1 [(4, x2), (0, h1 10 x0.toNat (wI (x3 + 1)).toNat), (0, h1 10 x0.toNat (wI (x3 + 2)).toNat)]) 1
      (fun v6 h5 =>
      if lc_ v2 v6 = 0 then
        c_720_2393 d x0 x1 x2 x3 h5
      else
        some (.inl (some (0, 0)), h5))
      (fun q7 h5 => tx_ q7 h5)
    else none
    else none)
    (fun q3 h1 => tx_ q3 h1)
  else none
  else none := by
  unfold c_720_1608
  exact
    have D : fk_D 720 [(1608, some [0, 1, 2, 3], .aload_n 1, 1, 0, 0, 0), (1609, none, .aload_n 0, 1, 0, 0, 0), (1610, none, .iload_n 3, 1, 0, 0, 0), (1611, none, .iconst 1, 1, 0, 1, 0), (1612, none, .iadd, 1, 0, 0, 0), (1613, none, .iaload, 1, 0, 0, 0), (1614, none, .aload_n 0, 1, 0, 0, 0), (1615, none, .iload_n 3, 1, 0, 0, 0), (1616, none, .iconst 2, 1, 0, 2, 0), (1617, none, .iadd, 1, 0, 0, 0), (1618, none, .iaload, 1, 0, 0, 0), (1619, none, .invokevirtual 157, 3, 2, 64, 2), (1622, none, .aload_n 2, 1, 0, 0, 0), (1623, none, .aload_n 0, 1, 0, 0, 0), (1624, none, .iload_n 3, 1, 0, 0, 0), (1625, none, .iconst 1, 1, 0, 1, 0), (1626, none, .iadd, 1, 0, 0, 0), (1627, none, .iaload, 1, 0, 0, 0), (1628, none, .aload_n 0, 1, 0, 0, 0), (1629, none, .iload_n 3, 1, 0, 0, 0)] := fq_of2 cd_720 ow_720 cl_720 rfl (pc := 1608) (by decide +kernel)
    j_aldn (pc := 1608) D rfl rfl rfl fun D =>
    j_aldn (pc := 1609) D rfl rfl rfl fun D =>
    j_ildn (pc := 1610) D rfl rfl rfl fun D =>
    j_ic (pc := 1611) D rfl fun D =>
    j_iadd (pc := 1612) D rfl fun D =>
    j_alp (pc := 1613) (e := 10) H.2.1 D rfl rfl ⟨rfl, rfl, rfl⟩ rfl fun q q2 D =>
    j_aldn (pc := 1614) D rfl rfl rfl fun D =>
    j_ildn (pc := 1615) D rfl rfl rfl fun D =>
    j_ic (pc := 1616) D rfl fun D =>
    j_iadd (pc := 1617) D rfl fun D =>
    j_alp (pc := 1618) (e := 10) H.2.1 D rfl rfl ⟨rfl, rfl, rfl⟩ rfl fun q q2 D =>
    j_ivu (pc := 1619) (dd := 64) (a := [(0, h 10 x0.toNat (wI (x3 + 1)).toNat), (0, h 10 x0.toNat (wI (x3 + 2)).toNat)]) (rest := []) H.2.1 D rfl rfl rfl rfl rfl (fun m4 v2 h1 e1 D =>
      have T := fj_run_ok _ _ _ _ _ _ H.1 e1
      have H := shp_st H T
      j_aldn (pc := 1622) D rfl rfl rfl fun D =>
      j_aldn (pc := 1623) D rfl rfl rfl fun D =>
      j_ildn (pc := 1624) D rfl rfl rfl fun D =>
      j_ic (pc := 1625) D rfl fun D =>
      j_iadd (pc := 1626) D rfl fun D =>
      j_alp (pc := 1627) (e := 10) H.2.1 D rfl rfl ⟨rfl, rfl, rfl⟩ rfl fun q q2 D =>
      j_aldn (pc := 1628) D rfl rfl rfl fun D =>
      j_ildn (pc := 1629) D rfl rfl rfl fun D =>
      have D : fk_D 720 [(1630, none, .iconst 2, 1, 0, 2, 0), (1631, none, .iadd, 1, 0, 0, 0), (1632, none, .iaload, 1, 0, 0, 0), (1633, none, .invokevirtual 160, 3, 2, 65, 2), (1636, none, .lcmp, 1, 0, 0, 0), (1637, none, .ifCond .eq 756, 3, 2393, 0, 0), (1640, none, .iconst 0, 1, 0, 0, 0), (1641, none, .ireturn, 1, 0, 0, 0)] := fq_of2 cd_720 ow_720 cl_720 rfl (pc := 1630) (by decide +kernel)
      j_ic (pc := 1630) D rfl fun D =>
      j_iadd (pc := 1631) D rfl fun D =>
      j_alp (pc := 1632) (e := 10) H.2.1 D rfl rfl ⟨rfl, rfl, rfl⟩ rfl fun q q2 D =>
      j_ivu (pc := 1633) (dd := 65) (a := [(0, h1 10 x0.toNat (wI (x3 + 1)).toNat), (0, h1 10 x0.toNat (wI (x3 + 2)).toNat)]) (rest := [(1, v2)]) H.2.1 D rfl rfl rfl rfl rfl (fun m8 v6 h5 e1 D =>
        have T := fj_run_ok _ _ _ _ _ _ H.1 e1
        have H := shp_st H T
        j_lcmp (pc := 1636) D rfl fun D =>
        j_ifeq (pc := 1637) D rfl (fun q =>
          fk_jump cut_720_2393 rfl rfl) (fun q D =>
          j_ic (pc := 1640) D rfl fun D =>
          j_zret D rt_720 (gy (by decide)))) (fun m8 q7 h5 e1 =>
        j_tx (hx_720 _))) (fun m4 q3 h1 e1 =>
      j_tx (hx_720 _))
theorem e_720_1642 (d : Nat) (x0 x1 x2 x3 : Int) {h : fi_H} (H : Shp h) : c_720_1642 d x0 x1 x2 x3 h =
  if h 0 x0.toNat 0 = 10 ∧ 0 ≤ wI (x3 + 1) ∧ wI (x3 + 1) < h 1 x0.toNat 0 then
  if h 0 x0.toNat 0 = 10 ∧ 0 ≤ wI (x3 + 2) ∧ wI (x3 + 2) < h 1 x0.toNat 0 then
  dv_ (fi_vt 66 (h 0 x1.toNat 0)) fun m4 => ca_ (fj_run d m4 h [(4, x1), (0, h 10 x0.toNat (wI (x3 + 1)).toNat), (0, h 10 x0.toNat (wI (x3 + 2)).toNat)]) 0
    (fun v2 h1 =>
    if h1 0 x0.toNat 0 = 10 ∧ 0 ≤ wI (x3 + 1) ∧ wI (x3 + 1) < h1 1 x0.toNat 0 then
    if h1 0 x0.toNat 0 = 10 ∧ 0 ≤ wI (x3 + 2) ∧ wI (x3 + 2) < h1 1 x0.toNat 0 then
    dv_ (fi_vt 67 (h1 0 x2.toNat 0)) fun m8 => ca_ (fj_run d m8 h1 [(4, x2), (0, h1 10 x0.toNat (wI (x3 + 1)).toNat), (0, h1 10 x0.toNat (wI (x3 + 2)).toNat)]) 0
      (fun v6 h5 =>
      if v2 = v6 then
        c_720_2393 d x0 x1 x2 x3 h5
      else
        some (.inl (some (0, 0)), h5))
      (fun q7 h5 => tx_ q7 h5)
    else none
    else none)
    (fun q3 h1 => tx_ q3 h1)
  else none
  else none := by
  unfold c_720_1642
  exact
    have D : fk_D 720 [(1642, some [0, 1, 2, 3], .aload_n 1, 1, 0, 0, 0), (1643, none, .aload_n 0, 1, 0, 0, 0), (1644, none, .iload_n 3, 1, 0, 0, 0), (1645, none, .iconst 1, 1, 0, 1, 0), (1646, none, .iadd, 1, 0, 0, 0), (1647, none, .iaload, 1, 0, 0, 0), (1648, none, .aload_n 0, 1, 0, 0, 0), (1649, none, .iload_n 3, 1, 0, 0, 0), (1650, none, .iconst 2, 1, 0, 2, 0), (1651, none, .iadd, 1, 0, 0, 0), (1652, none, .iaload, 1, 0, 0, 0), (1653, none, .invokevirtual 161, 3, 2, 66, 1), (1656, none, .aload_n 2, 1, 0, 0, 0), (1657, none, .aload_n 0, 1, 0, 0, 0), (1658, none, .iload_n 3, 1, 0, 0, 0), (1659, none, .iconst 1, 1, 0, 1, 0), (1660, none, .iadd, 1, 0, 0, 0), (1661, none, .iaload, 1, 0, 0, 0), (1662, none, .aload_n 0, 1, 0, 0, 0), (1663, none, .iload_n 3, 1, 0, 0, 0)] := fq_of2 cd_720 ow_720 cl_720 rfl (pc := 1642) (by decide +kernel)
    j_aldn (pc := 1642) D rfl rfl rfl fun D =>
    j_aldn (pc := 1643) D rfl rfl rfl fun D =>
    j_ildn (pc := 1644) D rfl rfl rfl fun D =>
    j_ic (pc := 1645) D rfl fun D =>
    j_iadd (pc := 1646) D rfl fun D =>
    j_alp (pc := 1647) (e := 10) H.2.1 D rfl rfl ⟨rfl, rfl, rfl⟩ rfl fun q q2 D =>
    j_aldn (pc := 1648) D rfl rfl rfl fun D =>
    j_ildn (pc := 1649) D rfl rfl rfl fun D =>
    j_ic (pc := 1650) D rfl fun D =>
    j_iadd (pc := 1651) D rfl fun D =>
    j_alp (pc := 1652) (e := 10) H.2.1 D rfl rfl ⟨rfl, rfl, rfl⟩ rfl fun q q2 D =>
    j_ivu (pc := 1653) (dd := 66) (a := [(0, h 10 x0.toNat (wI (x3 + 1)).toNat), (0, h 10 x0.toNat (wI (x3 + 2)).toNat)]) (rest := []) H.2.1 D rfl rfl rfl rfl rfl (fun m4 v2 h1 e1 D =>
      have T := fj_run_ok _ _ _ _ _ _ H.1 e1
      have H := shp_st H T
      j_aldn (pc := 1656) D rfl rfl rfl fun D =>
      j_aldn (pc := 1657) D rfl rfl rfl fun D =>
      j_ildn (pc := 1658) D rfl rfl rfl fun D =>
      j_ic (pc := 1659) D rfl fun D =>
      j_iadd (pc := 1660) D rfl fun D =>
      j_alp (pc := 1661) (e := 10) H.2.1 D rfl rfl ⟨rfl, rfl, rfl⟩ rfl fun q q2 D =>
      j_aldn (pc := 1662) D rfl rfl rfl fun D =>
      j_ildn (pc := 1663) D rfl rfl rfl fun D =>
      have D : fk_D 720 [(1664, none, .iconst 2, 1, 0, 2, 0), (1665, none, .iadd, 1, 0, 0, 0), (1666, none, .iaload, 1, 0, 0, 0), (1667, none, .invokevirtual 164, 3, 2, 67, 1), (1670, none, .if_icmp .eq 723, 3, 2393, 0, 0), (1673, none, .iconst 0, 1, 0, 0, 0), (1674, none, .ireturn, 1, 0, 0, 0)] := fq_of2 cd_720 ow_720 cl_720 rfl (pc := 1664) (by decide +kernel)
      j_ic (pc := 1664) D rfl fun D =>
      j_iadd (pc := 1665) D rfl fun D =>
      j_alp (pc := 1666) (e := 10) H.2.1 D rfl rfl ⟨rfl, rfl, rfl⟩ rfl fun q q2 D =>
      j_ivu (pc := 1667) (dd := 67) (a := [(0, h1 10 x0.toNat (wI (x3 + 1)).toNat), (0, h1 10 x0.toNat (wI (x3 + 2)).toNat)]) (rest := [(0, v2)]) H.2.1 D rfl rfl rfl rfl rfl (fun m8 v6 h5 e1 D =>
        have T := fj_run_ok _ _ _ _ _ _ H.1 e1
        have H := shp_st H T
        j_ieq (pc := 1670) D rfl (fun q =>
          fk_jump cut_720_2393 rfl rfl) (fun q D =>
          j_ic (pc := 1673) D rfl fun D =>
          j_zret D rt_720 (gy (by decide)))) (fun m8 q7 h5 e1 =>
        j_tx (hx_720 _))) (fun m4 q3 h1 e1 =>
      j_tx (hx_720 _))
theorem e_720_1675 (d : Nat) (x0 x1 x2 x3 : Int) {h : fi_H} (H : Shp h) : c_720_1675 d x0 x1 x2 x3 h =
  if h 0 x0.toNat 0 = 10 ∧ 0 ≤ wI (x3 + 1) ∧ wI (x3 + 1) < h 1 x0.toNat 0 then
  if h 0 x0.toNat 0 = 10 ∧ 0 ≤ wI (x3 + 2) ∧ wI (x3 + 2) < h 1 x0.toNat 0 then
  if h 0 x0.toNat 0 = 10 ∧ 0 ≤ wI (x3 + 3) ∧ wI (x3 + 3) < h 1 x0.toNat 0 then
  dv_ (fi_vt 68 (h 0 x1.toNat 0)) fun m4 => ca_ (fj_run d m4 h [(4, x1), (0, h 10 x0.toNat (wI (x3 + 1)).toNat), (1, lo_ (lsl_ (wI (h 10 x0.toNat (wI (x3 + 2)).toNat)) 32) (la_ (wI (h 10 x0.toNat (wI (x3 + 3)).toNat)) 4294967295))]) 1
    (fun v2 h1 =>
    if h1 0 x0.toNat 0 = 10 ∧ 0 ≤ wI (x3 + 1) ∧ wI (x3 + 1) < h1 1 x0.toNat 0 then
    if h1 0 x0.toNat 0 = 10 ∧ 0 ≤ wI (x3 + 2) ∧ wI (x3 + 2) < h1 1 x0.toNat 0 then
    if h1 0 x0.toNat 0 = 10 ∧ 0 ≤ wI (x3 + 3) ∧ wI (x3 + 3) < h1 1 x0.toNat 0 then
    dv_ (fi_vt 69 (h1 0 x2.toNat 0)) fun m8 => ca_ (fj_run d m8 h1 [(4, x2), (0, h1 10 x0.toNat (wI (x3 + 1)).toNat), (1, lo_ (lsl_ (wI (h1 10 x0.toNat (wI (x3 + 2)).toNat)) 32) (la_ (wI (h1 10 x0.toNat (wI (x3 + 3)).toNat)) 4294967295))]) 1
      (fun v6 h5 =>
      if lc_ v2 v6 = 0 then
        c_720_2393 d x0 x1 x2 x3 h5
      else
        some (.inl (some (0, 0)), h5))
      (fun q7 h5 => tx_ q7 h5)
    else none
    else none
    else none)
    (fun q3 h1 => tx_ q3 h1)
  else none
  else none
  else none := by
  unfold c_720_1675
  exact
    have D : fk_D 720 [(1675, some [0, 1, 2, 3], .aload_n 1, 1, 0, 0, 0), (1676, none, .aload_n 0, 1, 0, 0, 0), (1677, none, .iload_n 3, 1, 0, 0, 0), (1678, none, .iconst 1, 1, 0, 1, 0), (1679, none, .iadd, 1, 0, 0, 0), (1680, none, .iaload, 1, 0, 0, 0), (1681, none, .aload_n 0, 1, 0, 0, 0), (1682, none, .iload_n 3, 1, 0, 0, 0), (1683, none, .iconst 2, 1, 0, 2, 0), (1684, none, .iadd, 1, 0, 0, 0), (1685, none, .iaload, 1, 0, 0, 0), (1686, none, .i2l, 1, 0, 0, 0), (1687, none, .bipush 32, 2, 0, 32, 0), (1689, none, .lshl, 1, 0, 0, 0), (1690, none, .aload_n 0, 1, 0, 0, 0), (1691, none, .iload_n 3, 1, 0, 0, 0), (1692, none, .iconst 3, 1, 0, 3, 0), (1693, none, .iadd, 1, 0, 0, 0), (1694, none, .iaload, 1, 0, 0, 0), (1695, none, .i2l, 1, 0, 0, 0)] := fq_of2 cd_720 ow_720 cl_720 rfl (pc := 1675) (by decide +kernel)
    j_aldn (pc := 1675) D rfl rfl rfl fun D =>
    j_aldn (pc := 1676) D rfl rfl rfl fun D =>
    j_ildn (pc := 1677) D rfl rfl rfl fun D =>
    j_ic (pc := 1678) D rfl fun D =>
    j_iadd (pc := 1679) D rfl fun D =>
    j_alp (pc := 1680) (e := 10) H.2.1 D rfl rfl ⟨rfl, rfl, rfl⟩ rfl fun q q2 D =>
    j_aldn (pc := 1681) D rfl rfl rfl fun D =>
    j_ildn (pc := 1682) D rfl rfl rfl fun D =>
    j_ic (pc := 1683) D rfl fun D =>
    j_iadd (pc := 1684) D rfl fun D =>
    j_alp (pc := 1685) (e := 10) H.2.1 D rfl rfl ⟨rfl, rfl, rfl⟩ rfl fun q q2 D =>
    j_i2l (pc := 1686) D rfl fun D =>
    j_bp (pc := 1687) D rfl fun D =>
    j_lshl (pc := 1689) D rfl fun D =>
    j_aldn (pc := 1690) D rfl rfl rfl fun D =>
    j_ildn (pc := 1691) D rfl rfl rfl fun D =>
    j_ic (pc := 1692) D rfl fun D =>
    j_iadd (pc := 1693) D rfl fun D =>
    j_alp (pc := 1694) (e := 10) H.2.1 D rfl rfl ⟨rfl, rfl, rfl⟩ rfl fun q q2 D =>
    j_i2l (pc := 1695) D rfl fun D =>
    have D : fk_D 720 [(1696, none, .ldc2_w 71, 3, 1, 4294967295, 0), (1699, none, .land, 1, 0, 0, 0), (1700, none, .lor, 1, 0, 0, 0), (1701, none, .invokevirtual 165, 3, 2, 68, 2), (1704, none, .aload_n 2, 1, 0, 0, 0), (1705, none, .aload_n 0, 1, 0, 0, 0), (1706, none, .iload_n 3, 1, 0, 0, 0), (1707, none, .iconst 1, 1, 0, 1, 0), (1708, none, .iadd, 1, 0, 0, 0), (1709, none, .iaload, 1, 0, 0, 0), (1710, none, .aload_n 0, 1, 0, 0, 0), (1711, none, .iload_n 3, 1, 0, 0, 0), (1712, none, .iconst 2, 1, 0, 2, 0), (1713, none, .iadd, 1, 0, 0, 0), (1714, none, .iaload, 1, 0, 0, 0), (1715, none, .i2l, 1, 0, 0, 0), (1716, none, .bipush 32, 2, 0, 32, 0), (1718, none, .lshl, 1, 0, 0, 0), (1719, none, .aload_n 0, 1, 0, 0, 0), (1720, none, .iload_n 3, 1, 0, 0, 0)] := fq_of2 cd_720 ow_720 cl_720 rfl (pc := 1696) (by decide +kernel)
    j_ldc2 (pc := 1696) D rfl fun D =>
    j_land (pc := 1699) D rfl fun D =>
    j_lor (pc := 1700) D rfl fun D =>
    j_ivu (pc := 1701) (dd := 68) (a := [(0, h 10 x0.toNat (wI (x3 + 1)).toNat), (1, lo_ (lsl_ (wI (h 10 x0.toNat (wI (x3 + 2)).toNat)) 32) (la_ (wI (h 10 x0.toNat (wI (x3 + 3)).toNat)) 4294967295))]) (rest := []) H.2.1 D rfl rfl rfl rfl rfl (fun m4 v2 h1 e1 D =>
      have T := fj_run_ok _ _ _ _ _ _ H.1 e1
      have H := shp_st H T
      j_aldn (pc := 1704) D rfl rfl rfl fun D =>
      j_aldn (pc := 1705) D rfl rfl rfl fun D =>
      j_ildn (pc := 1706) D rfl rfl rfl fun D =>
      j_ic (pc := 1707) D rfl fun D =>
      j_iadd (pc := 1708) D rfl fun D =>
      j_alp (pc := 1709) (e := 10) H.2.1 D rfl rfl ⟨rfl, rfl, rfl⟩ rfl fun q q2 D =>
      j_aldn (pc := 1710) D rfl rfl rfl fun D =>
      j_ildn (pc := 1711) D rfl rfl rfl fun D =>
      j_ic (pc := 1712) D rfl fun D =>
      j_iadd (pc := 1713) D rfl fun D =>
      j_alp (pc := 1714) (e := 10) H.2.1 D rfl rfl ⟨rfl, rfl, rfl⟩ rfl fun q q2 D =>
      j_i2l (pc := 1715) D rfl fun D =>
      j_bp (pc := 1716) D rfl fun D =>
      j_lshl (pc := 1718) D rfl fun D =>
      j_aldn (pc := 1719) D rfl rfl rfl fun D =>
      j_ildn (pc := 1720) D rfl rfl rfl fun D =>
      have D : fk_D 720 [(1721, none, .iconst 3, 1, 0, 3, 0), (1722, none, .iadd, 1, 0, 0, 0), (1723, none, .iaload, 1, 0, 0, 0), (1724, none, .i2l, 1, 0, 0, 0), (1725, none, .ldc2_w 71, 3, 1, 4294967295, 0), (1728, none, .land, 1, 0, 0, 0), (1729, none, .lor, 1, 0, 0, 0), (1730, none, .invokevirtual 169, 3, 2, 69, 2), (1733, none, .lcmp, 1, 0, 0, 0), (1734, none, .ifCond .eq 659, 3, 2393, 0, 0), (1737, none, .iconst 0, 1, 0, 0, 0), (1738, none, .ireturn, 1, 0, 0, 0)] := fq_of2 cd_720 ow_720 cl_720 rfl (pc := 1721) (by decide +kernel)
      j_ic (pc := 1721) D rfl fun D =>
      j_iadd (pc := 1722) D rfl fun D =>
      j_alp (pc := 1723) (e := 10) H.2.1 D rfl rfl ⟨rfl, rfl, rfl⟩ rfl fun q q2 D =>
      j_i2l (pc := 1724) D rfl fun D =>
      j_ldc2 (pc := 1725) D rfl fun D =>
      j_land (pc := 1728) D rfl fun D =>
      j_lor (pc := 1729) D rfl fun D =>
      j_ivu (pc := 1730) (dd := 69) (a := [(0, h1 10 x0.toNat (wI (x3 + 1)).toNat), (1, lo_ (lsl_ (wI (h1 10 x0.toNat (wI (x3 + 2)).toNat)) 32) (la_ (wI (h1 10 x0.toNat (wI (x3 + 3)).toNat)) 4294967295))]) (rest := [(1, v2)]) H.2.1 D rfl rfl rfl rfl rfl (fun m8 v6 h5 e1 D =>
        have T := fj_run_ok _ _ _ _ _ _ H.1 e1
        have H := shp_st H T
        j_lcmp (pc := 1733) D rfl fun D =>
        j_ifeq (pc := 1734) D rfl (fun q =>
          fk_jump cut_720_2393 rfl rfl) (fun q D =>
          j_ic (pc := 1737) D rfl fun D =>
          j_zret D rt_720 (gy (by decide)))) (fun m8 q7 h5 e1 =>
        j_tx (hx_720 _))) (fun m4 q3 h1 e1 =>
      j_tx (hx_720 _))
theorem e_720_1739 (d : Nat) (x0 x1 x2 x3 : Int) {h : fi_H} (H : Shp h) : c_720_1739 d x0 x1 x2 x3 h =
  if h 0 x0.toNat 0 = 10 ∧ 0 ≤ wI (x3 + 1) ∧ wI (x3 + 1) < h 1 x0.toNat 0 then
  dv_ (fi_vt 70 (h 0 x1.toNat 0)) fun m4 => ca_ (fj_run d m4 h [(4, x1), (0, h 10 x0.toNat (wI (x3 + 1)).toNat)]) 0
    (fun v2 h1 =>
    if h1 0 x0.toNat 0 = 10 ∧ 0 ≤ wI (x3 + 1) ∧ wI (x3 + 1) < h1 1 x0.toNat 0 then
    dv_ (fi_vt 71 (h1 0 x2.toNat 0)) fun m8 => ca_ (fj_run d m8 h1 [(4, x2), (0, h1 10 x0.toNat (wI (x3 + 1)).toNat)]) 0
      (fun v6 h5 =>
      if v2 = v6 then
        c_720_2393 d x0 x1 x2 x3 h5
      else
        some (.inl (some (0, 0)), h5))
      (fun q7 h5 => tx_ q7 h5)
    else none)
    (fun q3 h1 => tx_ q3 h1)
  else none := by
  unfold c_720_1739
  exact
    have D : fk_D 720 [(1739, some [0, 1, 2, 3], .aload_n 1, 1, 0, 0, 0), (1740, none, .aload_n 0, 1, 0, 0, 0), (1741, none, .iload_n 3, 1, 0, 0, 0), (1742, none, .iconst 1, 1, 0, 1, 0), (1743, none, .iadd, 1, 0, 0, 0), (1744, none, .iaload, 1, 0, 0, 0), (1745, none, .invokevirtual 170, 3, 1, 70, 1), (1748, none, .aload_n 2, 1, 0, 0, 0), (1749, none, .aload_n 0, 1, 0, 0, 0), (1750, none, .iload_n 3, 1, 0, 0, 0), (1751, none, .iconst 1, 1, 0, 1, 0), (1752, none, .iadd, 1, 0, 0, 0), (1753, none, .iaload, 1, 0, 0, 0), (1754, none, .invokevirtual 173, 3, 1, 71, 1), (1757, none, .if_icmp .eq 636, 3, 2393, 0, 0), (1760, none, .iconst 0, 1, 0, 0, 0), (1761, none, .ireturn, 1, 0, 0, 0)] := fq_of2 cd_720 ow_720 cl_720 rfl (pc := 1739) (by decide +kernel)
    j_aldn (pc := 1739) D rfl rfl rfl fun D =>
    j_aldn (pc := 1740) D rfl rfl rfl fun D =>
    j_ildn (pc := 1741) D rfl rfl rfl fun D =>
    j_ic (pc := 1742) D rfl fun D =>
    j_iadd (pc := 1743) D rfl fun D =>
    j_alp (pc := 1744) (e := 10) H.2.1 D rfl rfl ⟨rfl, rfl, rfl⟩ rfl fun q q2 D =>
    j_ivu (pc := 1745) (dd := 70) (a := [(0, h 10 x0.toNat (wI (x3 + 1)).toNat)]) (rest := []) H.2.1 D rfl rfl rfl rfl rfl (fun m4 v2 h1 e1 D =>
      have T := fj_run_ok _ _ _ _ _ _ H.1 e1
      have H := shp_st H T
      j_aldn (pc := 1748) D rfl rfl rfl fun D =>
      j_aldn (pc := 1749) D rfl rfl rfl fun D =>
      j_ildn (pc := 1750) D rfl rfl rfl fun D =>
      j_ic (pc := 1751) D rfl fun D =>
      j_iadd (pc := 1752) D rfl fun D =>
      j_alp (pc := 1753) (e := 10) H.2.1 D rfl rfl ⟨rfl, rfl, rfl⟩ rfl fun q q2 D =>
      j_ivu (pc := 1754) (dd := 71) (a := [(0, h1 10 x0.toNat (wI (x3 + 1)).toNat)]) (rest := [(0, v2)]) H.2.1 D rfl rfl rfl rfl rfl (fun m8 v6 h5 e1 D =>
        have T := fj_run_ok _ _ _ _ _ _ H.1 e1
        have H := shp_st H T
        j_ieq (pc := 1757) D rfl (fun q =>
          fk_jump cut_720_2393 rfl rfl) (fun q D =>
          j_ic (pc := 1760) D rfl fun D =>
          j_zret D rt_720 (gy (by decide)))) (fun m8 q7 h5 e1 =>
        j_tx (hx_720 _))) (fun m4 q3 h1 e1 =>
      j_tx (hx_720 _))
theorem e_720_1762 (d : Nat) (x0 x1 x2 x3 : Int) {h : fi_H} (H : Shp h) : c_720_1762 d x0 x1 x2 x3 h =
  if h 0 x0.toNat 0 = 10 ∧ 0 ≤ wI (x3 + 1) ∧ wI (x3 + 1) < h 1 x0.toNat 0 then
  dv_ (fi_vt 72 (h 0 x1.toNat 0)) fun m4 => ca_ (fj_run d m4 h [(4, x1), (0, h 10 x0.toNat (wI (x3 + 1)).toNat)]) 1
    (fun v2 h1 =>
    if h1 0 x0.toNat 0 = 10 ∧ 0 ≤ wI (x3 + 1) ∧ wI (x3 + 1) < h1 1 x0.toNat 0 then
    dv_ (fi_vt 73 (h1 0 x2.toNat 0)) fun m8 => ca_ (fj_run d m8 h1 [(4, x2), (0, h1 10 x0.toNat (wI (x3 + 1)).toNat)]) 1
      (fun v6 h5 =>
      if lc_ v2 v6 = 0 then
        c_720_2393 d x0 x1 x2 x3 h5
      else
        some (.inl (some (0, 0)), h5))
      (fun q7 h5 => tx_ q7 h5)
    else none)
    (fun q3 h1 => tx_ q3 h1)
  else none := by
  unfold c_720_1762
  exact
    have D : fk_D 720 [(1762, some [0, 1, 2, 3], .aload_n 1, 1, 0, 0, 0), (1763, none, .aload_n 0, 1, 0, 0, 0), (1764, none, .iload_n 3, 1, 0, 0, 0), (1765, none, .iconst 1, 1, 0, 1, 0), (1766, none, .iadd, 1, 0, 0, 0), (1767, none, .iaload, 1, 0, 0, 0), (1768, none, .invokevirtual 174, 3, 1, 72, 2), (1771, none, .aload_n 2, 1, 0, 0, 0), (1772, none, .aload_n 0, 1, 0, 0, 0), (1773, none, .iload_n 3, 1, 0, 0, 0), (1774, none, .iconst 1, 1, 0, 1, 0), (1775, none, .iadd, 1, 0, 0, 0), (1776, none, .iaload, 1, 0, 0, 0), (1777, none, .invokevirtual 177, 3, 1, 73, 2), (1780, none, .lcmp, 1, 0, 0, 0), (1781, none, .ifCond .eq 612, 3, 2393, 0, 0), (1784, none, .iconst 0, 1, 0, 0, 0), (1785, none, .ireturn, 1, 0, 0, 0)] := fq_of2 cd_720 ow_720 cl_720 rfl (pc := 1762) (by decide +kernel)
    j_aldn (pc := 1762) D rfl rfl rfl fun D =>
    j_aldn (pc := 1763) D rfl rfl rfl fun D =>
    j_ildn (pc := 1764) D rfl rfl rfl fun D =>
    j_ic (pc := 1765) D rfl fun D =>
    j_iadd (pc := 1766) D rfl fun D =>
    j_alp (pc := 1767) (e := 10) H.2.1 D rfl rfl ⟨rfl, rfl, rfl⟩ rfl fun q q2 D =>
    j_ivu (pc := 1768) (dd := 72) (a := [(0, h 10 x0.toNat (wI (x3 + 1)).toNat)]) (rest := []) H.2.1 D rfl rfl rfl rfl rfl (fun m4 v2 h1 e1 D =>
      have T := fj_run_ok _ _ _ _ _ _ H.1 e1
      have H := shp_st H T
      j_aldn (pc := 1771) D rfl rfl rfl fun D =>
      j_aldn (pc := 1772) D rfl rfl rfl fun D =>
      j_ildn (pc := 1773) D rfl rfl rfl fun D =>
      j_ic (pc := 1774) D rfl fun D =>
      j_iadd (pc := 1775) D rfl fun D =>
      j_alp (pc := 1776) (e := 10) H.2.1 D rfl rfl ⟨rfl, rfl, rfl⟩ rfl fun q q2 D =>
      j_ivu (pc := 1777) (dd := 73) (a := [(0, h1 10 x0.toNat (wI (x3 + 1)).toNat)]) (rest := [(1, v2)]) H.2.1 D rfl rfl rfl rfl rfl (fun m8 v6 h5 e1 D =>
        have T := fj_run_ok _ _ _ _ _ _ H.1 e1
        have H := shp_st H T
        j_lcmp (pc := 1780) D rfl fun D =>
        j_ifeq (pc := 1781) D rfl (fun q =>
          fk_jump cut_720_2393 rfl rfl) (fun q D =>
          j_ic (pc := 1784) D rfl fun D =>
          j_zret D rt_720 (gy (by decide)))) (fun m8 q7 h5 e1 =>
        j_tx (hx_720 _))) (fun m4 q3 h1 e1 =>
      j_tx (hx_720 _))
theorem e_720_1786 (d : Nat) (x0 x1 x2 x3 : Int) {h : fi_H} (H : Shp h) : c_720_1786 d x0 x1 x2 x3 h =
  if h 0 x0.toNat 0 = 10 ∧ 0 ≤ wI (x3 + 1) ∧ wI (x3 + 1) < h 1 x0.toNat 0 then
  if h 0 x0.toNat 0 = 10 ∧ 0 ≤ wI (x3 + 2) ∧ wI (x3 + 2) < h 1 x0.toNat 0 then
  dv_ (fi_vt 74 (h 0 x1.toNat 0)) fun m4 => ca_ (fj_run d m4 h [(4, x1), (0, h 10 x0.toNat (wI (x3 + 1)).toNat), (0, h 10 x0.toNat (wI (x3 + 2)).toNat)]) 1
    (fun v2 h1 =>
    if h1 0 x0.toNat 0 = 10 ∧ 0 ≤ wI (x3 + 1) ∧ wI (x3 + 1) < h1 1 x0.toNat 0 then
    if h1 0 x0.toNat 0 = 10 ∧ 0 ≤ wI (x3 + 2) ∧ wI (x3 + 2) < h1 1 x0.toNat 0 then
    dv_ (fi_vt 75 (h1 0 x2.toNat 0)) fun m8 => ca_ (fj_run d m8 h1 [(4, x2), (0, h1 10 x0.toNat (wI (x3 + 1)).toNat), (0, h1 10 x0.toNat (wI (x3 + 2)).toNat)]) 1
      (fun v6 h5 =>
      if lc_ v2 v6 = 0 then
        c_720_2393 d x0 x1 x2 x3 h5
      else
        some (.inl (some (0, 0)), h5))
      (fun q7 h5 => tx_ q7 h5)
    else none
    else none)
    (fun q3 h1 => tx_ q3 h1)
  else none
  else none := by
  unfold c_720_1786
  exact
    have D : fk_D 720 [(1786, some [0, 1, 2, 3], .aload_n 1, 1, 0, 0, 0), (1787, none, .aload_n 0, 1, 0, 0, 0), (1788, none, .iload_n 3, 1, 0, 0, 0), (1789, none, .iconst 1, 1, 0, 1, 0), (1790, none, .iadd, 1, 0, 0, 0), (1791, none, .iaload, 1, 0, 0, 0), (1792, none, .aload_n 0, 1, 0, 0, 0), (1793, none, .iload_n 3, 1, 0, 0, 0), (1794, none, .iconst 2, 1, 0, 2, 0), (1795, none, .iadd, 1, 0, 0, 0), (1796, none, .iaload, 1, 0, 0, 0), (1797, none, .invokevirtual 178, 3, 2, 74, 2), (1800, none, .aload_n 2, 1, 0, 0, 0), (1801, none, .aload_n 0, 1, 0, 0, 0), (1802, none, .iload_n 3, 1, 0, 0, 0), (1803, none, .iconst 1, 1, 0, 1, 0), (1804, none, .iadd, 1, 0, 0, 0), (1805, none, .iaload, 1, 0, 0, 0), (1806, none, .aload_n 0, 1, 0, 0, 0), (1807, none, .iload_n 3, 1, 0, 0, 0)] := fq_of2 cd_720 ow_720 cl_720 rfl (pc := 1786) (by decide +kernel)
    j_aldn (pc := 1786) D rfl rfl rfl fun D =>
    j_aldn (pc := 1787) D rfl rfl rfl fun D =>
    j_ildn (pc := 1788) D rfl rfl rfl fun D =>
    j_ic (pc := 1789) D rfl fun D =>
    j_iadd (pc := 1790) D rfl fun D =>
    j_alp (pc := 1791) (e := 10) H.2.1 D rfl rfl ⟨rfl, rfl, rfl⟩ rfl fun q q2 D =>
    j_aldn (pc := 1792) D rfl rfl rfl fun D =>
    j_ildn (pc := 1793) D rfl rfl rfl fun D =>
    j_ic (pc := 1794) D rfl fun D =>
    j_iadd (pc := 1795) D rfl fun D =>
    j_alp (pc := 1796) (e := 10) H.2.1 D rfl rfl ⟨rfl, rfl, rfl⟩ rfl fun q q2 D =>
    j_ivu (pc := 1797) (dd := 74) (a := [(0, h 10 x0.toNat (wI (x3 + 1)).toNat), (0, h 10 x0.toNat (wI (x3 + 2)).toNat)]) (rest := []) H.2.1 D rfl rfl rfl rfl rfl (fun m4 v2 h1 e1 D =>
      have T := fj_run_ok _ _ _ _ _ _ H.1 e1
      have H := shp_st H T
      j_aldn (pc := 1800) D rfl rfl rfl fun D =>
      j_aldn (pc := 1801) D rfl rfl rfl fun D =>
      j_ildn (pc := 1802) D rfl rfl rfl fun D =>
      j_ic (pc := 1803) D rfl fun D =>
      j_iadd (pc := 1804) D rfl fun D =>
      j_alp (pc := 1805) (e := 10) H.2.1 D rfl rfl ⟨rfl, rfl, rfl⟩ rfl fun q q2 D =>
      j_aldn (pc := 1806) D rfl rfl rfl fun D =>
      j_ildn (pc := 1807) D rfl rfl rfl fun D =>
      have D : fk_D 720 [(1808, none, .iconst 2, 1, 0, 2, 0), (1809, none, .iadd, 1, 0, 0, 0), (1810, none, .iaload, 1, 0, 0, 0), (1811, none, .invokevirtual 181, 3, 2, 75, 2), (1814, none, .lcmp, 1, 0, 0, 0), (1815, none, .ifCond .eq 578, 3, 2393, 0, 0), (1818, none, .iconst 0, 1, 0, 0, 0), (1819, none, .ireturn, 1, 0, 0, 0)] := fq_of2 cd_720 ow_720 cl_720 rfl (pc := 1808) (by decide +kernel)
      j_ic (pc := 1808) D rfl fun D =>
      j_iadd (pc := 1809) D rfl fun D =>
      j_alp (pc := 1810) (e := 10) H.2.1 D rfl rfl ⟨rfl, rfl, rfl⟩ rfl fun q q2 D =>
      j_ivu (pc := 1811) (dd := 75) (a := [(0, h1 10 x0.toNat (wI (x3 + 1)).toNat), (0, h1 10 x0.toNat (wI (x3 + 2)).toNat)]) (rest := [(1, v2)]) H.2.1 D rfl rfl rfl rfl rfl (fun m8 v6 h5 e1 D =>
        have T := fj_run_ok _ _ _ _ _ _ H.1 e1
        have H := shp_st H T
        j_lcmp (pc := 1814) D rfl fun D =>
        j_ifeq (pc := 1815) D rfl (fun q =>
          fk_jump cut_720_2393 rfl rfl) (fun q D =>
          j_ic (pc := 1818) D rfl fun D =>
          j_zret D rt_720 (gy (by decide)))) (fun m8 q7 h5 e1 =>
        j_tx (hx_720 _))) (fun m4 q3 h1 e1 =>
      j_tx (hx_720 _))
theorem e_720_1820 (d : Nat) (x0 x1 x2 x3 : Int) {h : fi_H} (H : Shp h) : c_720_1820 d x0 x1 x2 x3 h =
  if h 0 x0.toNat 0 = 10 ∧ 0 ≤ wI (x3 + 1) ∧ wI (x3 + 1) < h 1 x0.toNat 0 then
  if h 0 x0.toNat 0 = 10 ∧ 0 ≤ wI (x3 + 2) ∧ wI (x3 + 2) < h 1 x0.toNat 0 then
  dv_ (fi_vt 76 (h 0 x1.toNat 0)) fun m4 => ca_ (fj_run d m4 h [(4, x1), (0, h 10 x0.toNat (wI (x3 + 1)).toNat), (0, h 10 x0.toNat (wI (x3 + 2)).toNat)]) 1
    (fun v2 h1 =>
    if h1 0 x0.toNat 0 = 10 ∧ 0 ≤ wI (x3 + 1) ∧ wI (x3 + 1) < h1 1 x0.toNat 0 then
    if h1 0 x0.toNat 0 = 10 ∧ 0 ≤ wI (x3 + 2) ∧ wI (x3 + 2) < h1 1 x0.toNat 0 then
    dv_ (fi_vt 77 (h1 0 x2.toNat 0)) fun m8 => ca_ (fj_run d m8 h1 [(4, x2), (0, h1 10 x0.toNat (wI (x3 + 1)).toNat), (0, h1 10 x0.toNat (wI (x3 + 2)).toNat)]) 1
      (fun v6 h5 =>
      if lc_ v2 v6 = 0 then
        c_720_2393 d x0 x1 x2 x3 h5
      else
        some (.inl (some (0, 0)), h5))
      (fun q7 h5 => tx_ q7 h5)
    else none
    else none)
    (fun q3 h1 => tx_ q3 h1)
  else none
  else none := by
  unfold c_720_1820
  exact
    have D : fk_D 720 [(1820, some [0, 1, 2, 3], .aload_n 1, 1, 0, 0, 0), (1821, none, .aload_n 0, 1, 0, 0, 0), (1822, none, .iload_n 3, 1, 0, 0, 0), (1823, none, .iconst 1, 1, 0, 1, 0), (1824, none, .iadd, 1, 0, 0, 0), (1825, none, .iaload, 1, 0, 0, 0), (1826, none, .aload_n 0, 1, 0, 0, 0), (1827, none, .iload_n 3, 1, 0, 0, 0), (1828, none, .iconst 2, 1, 0, 2, 0), (1829, none, .iadd, 1, 0, 0, 0), (1830, none, .iaload, 1, 0, 0, 0), (1831, none, .invokevirtual 182, 3, 2, 76, 2), (1834, none, .aload_n 2, 1, 0, 0, 0), (1835, none, .aload_n 0, 1, 0, 0, 0), (1836, none, .iload_n 3, 1, 0, 0, 0), (1837, none, .iconst 1, 1, 0, 1, 0), (1838, none, .iadd, 1, 0, 0, 0), (1839, none, .iaload, 1, 0, 0, 0), (1840, none, .aload_n 0, 1, 0, 0, 0), (1841, none, .iload_n 3, 1, 0, 0, 0)] := fq_of2 cd_720 ow_720 cl_720 rfl (pc := 1820) (by decide +kernel)
    j_aldn (pc := 1820) D rfl rfl rfl fun D =>
    j_aldn (pc := 1821) D rfl rfl rfl fun D =>
    j_ildn (pc := 1822) D rfl rfl rfl fun D =>
    j_ic (pc := 1823) D rfl fun D =>
    j_iadd (pc := 1824) D rfl fun D =>
    j_alp (pc := 1825) (e := 10) H.2.1 D rfl rfl ⟨rfl, rfl, rfl⟩ rfl fun q q2 D =>
    j_aldn (pc := 1826) D rfl rfl rfl fun D =>
    j_ildn (pc := 1827) D rfl rfl rfl fun D =>
    j_ic (pc := 1828) D rfl fun D =>
    j_iadd (pc := 1829) D rfl fun D =>
    j_alp (pc := 1830) (e := 10) H.2.1 D rfl rfl ⟨rfl, rfl, rfl⟩ rfl fun q q2 D =>
    j_ivu (pc := 1831) (dd := 76) (a := [(0, h 10 x0.toNat (wI (x3 + 1)).toNat), (0, h 10 x0.toNat (wI (x3 + 2)).toNat)]) (rest := []) H.2.1 D rfl rfl rfl rfl rfl (fun m4 v2 h1 e1 D =>
      have T := fj_run_ok _ _ _ _ _ _ H.1 e1
      have H := shp_st H T
      j_aldn (pc := 1834) D rfl rfl rfl fun D =>
      j_aldn (pc := 1835) D rfl rfl rfl fun D =>
      j_ildn (pc := 1836) D rfl rfl rfl fun D =>
      j_ic (pc := 1837) D rfl fun D =>
      j_iadd (pc := 1838) D rfl fun D =>
      j_alp (pc := 1839) (e := 10) H.2.1 D rfl rfl ⟨rfl, rfl, rfl⟩ rfl fun q q2 D =>
      j_aldn (pc := 1840) D rfl rfl rfl fun D =>
      j_ildn (pc := 1841) D rfl rfl rfl fun D =>
      have D : fk_D 720 [(1842, none, .iconst 2, 1, 0, 2, 0), (1843, none, .iadd, 1, 0, 0, 0), (1844, none, .iaload, 1, 0, 0, 0), (1845, none, .invokevirtual 185, 3, 2, 77, 2), (1848, none, .lcmp, 1, 0, 0, 0), (1849, none, .ifCond .eq 544, 3, 2393, 0, 0), (1852, none, .iconst 0, 1, 0, 0, 0), (1853, none, .ireturn, 1, 0, 0, 0)] := fq_of2 cd_720 ow_720 cl_720 rfl (pc := 1842) (by decide +kernel)
      j_ic (pc := 1842) D rfl fun D =>
      j_iadd (pc := 1843) D rfl fun D =>
      j_alp (pc := 1844) (e := 10) H.2.1 D rfl rfl ⟨rfl, rfl, rfl⟩ rfl fun q q2 D =>
      j_ivu (pc := 1845) (dd := 77) (a := [(0, h1 10 x0.toNat (wI (x3 + 1)).toNat), (0, h1 10 x0.toNat (wI (x3 + 2)).toNat)]) (rest := [(1, v2)]) H.2.1 D rfl rfl rfl rfl rfl (fun m8 v6 h5 e1 D =>
        have T := fj_run_ok _ _ _ _ _ _ H.1 e1
        have H := shp_st H T
        j_lcmp (pc := 1848) D rfl fun D =>
        j_ifeq (pc := 1849) D rfl (fun q =>
          fk_jump cut_720_2393 rfl rfl) (fun q D =>
          j_ic (pc := 1852) D rfl fun D =>
          j_zret D rt_720 (gy (by decide)))) (fun m8 q7 h5 e1 =>
        j_tx (hx_720 _))) (fun m4 q3 h1 e1 =>
      j_tx (hx_720 _))
theorem e_720_1854 (d : Nat) (x0 x1 x2 x3 : Int) {h : fi_H} (H : Shp h) : c_720_1854 d x0 x1 x2 x3 h =
  if h 0 x0.toNat 0 = 10 ∧ 0 ≤ wI (x3 + 1) ∧ wI (x3 + 1) < h 1 x0.toNat 0 then
  dv_ (fi_vt 78 (h 0 x1.toNat 0)) fun m4 => ca_ (fj_run d m4 h [(4, x1), (0, h 10 x0.toNat (wI (x3 + 1)).toNat)]) 0
    (fun v2 h1 =>
    if h1 0 x0.toNat 0 = 10 ∧ 0 ≤ wI (x3 + 1) ∧ wI (x3 + 1) < h1 1 x0.toNat 0 then
    dv_ (fi_vt 79 (h1 0 x2.toNat 0)) fun m8 => ca_ (fj_run d m8 h1 [(4, x2), (0, h1 10 x0.toNat (wI (x3 + 1)).toNat)]) 0
      (fun v6 h5 =>
      if v2 = v6 then
        c_720_2393 d x0 x1 x2 x3 h5
      else
        some (.inl (some (0, 0)), h5))
      (fun q7 h5 => tx_ q7 h5)
    else none)
    (fun q3 h1 => tx_ q3 h1)
  else none := by
  unfold c_720_1854
  exact
    have D : fk_D 720 [(1854, some [0, 1, 2, 3], .aload_n 1, 1, 0, 0, 0), (1855, none, .aload_n 0, 1, 0, 0, 0), (1856, none, .iload_n 3, 1, 0, 0, 0), (1857, none, .iconst 1, 1, 0, 1, 0), (1858, none, .iadd, 1, 0, 0, 0), (1859, none, .iaload, 1, 0, 0, 0), (1860, none, .invokevirtual 186, 3, 1, 78, 1), (1863, none, .aload_n 2, 1, 0, 0, 0), (1864, none, .aload_n 0, 1, 0, 0, 0), (1865, none, .iload_n 3, 1, 0, 0, 0), (1866, none, .iconst 1, 1, 0, 1, 0), (1867, none, .iadd, 1, 0, 0, 0), (1868, none, .iaload, 1, 0, 0, 0), (1869, none, .invokevirtual 189, 3, 1, 79, 1), (1872, none, .if_icmp .eq 521, 3, 2393, 0, 0), (1875, none, .iconst 0, 1, 0, 0, 0), (1876, none, .ireturn, 1, 0, 0, 0)] := fq_of2 cd_720 ow_720 cl_720 rfl (pc := 1854) (by decide +kernel)
    j_aldn (pc := 1854) D rfl rfl rfl fun D =>
    j_aldn (pc := 1855) D rfl rfl rfl fun D =>
    j_ildn (pc := 1856) D rfl rfl rfl fun D =>
    j_ic (pc := 1857) D rfl fun D =>
    j_iadd (pc := 1858) D rfl fun D =>
    j_alp (pc := 1859) (e := 10) H.2.1 D rfl rfl ⟨rfl, rfl, rfl⟩ rfl fun q q2 D =>
    j_ivu (pc := 1860) (dd := 78) (a := [(0, h 10 x0.toNat (wI (x3 + 1)).toNat)]) (rest := []) H.2.1 D rfl rfl rfl rfl rfl (fun m4 v2 h1 e1 D =>
      have T := fj_run_ok _ _ _ _ _ _ H.1 e1
      have H := shp_st H T
      j_aldn (pc := 1863) D rfl rfl rfl fun D =>
      j_aldn (pc := 1864) D rfl rfl rfl fun D =>
      j_ildn (pc := 1865) D rfl rfl rfl fun D =>
      j_ic (pc := 1866) D rfl fun D =>
      j_iadd (pc := 1867) D rfl fun D =>
      j_alp (pc := 1868) (e := 10) H.2.1 D rfl rfl ⟨rfl, rfl, rfl⟩ rfl fun q q2 D =>
      j_ivu (pc := 1869) (dd := 79) (a := [(0, h1 10 x0.toNat (wI (x3 + 1)).toNat)]) (rest := [(0, v2)]) H.2.1 D rfl rfl rfl rfl rfl (fun m8 v6 h5 e1 D =>
        have T := fj_run_ok _ _ _ _ _ _ H.1 e1
        have H := shp_st H T
        j_ieq (pc := 1872) D rfl (fun q =>
          fk_jump cut_720_2393 rfl rfl) (fun q D =>
          j_ic (pc := 1875) D rfl fun D =>
          j_zret D rt_720 (gy (by decide)))) (fun m8 q7 h5 e1 =>
        j_tx (hx_720 _))) (fun m4 q3 h1 e1 =>
      j_tx (hx_720 _))
theorem e_720_1877 (d : Nat) (x0 x1 x2 x3 : Int) {h : fi_H} (H : Shp h) : c_720_1877 d x0 x1 x2 x3 h =
  if h 0 x0.toNat 0 = 10 ∧ 0 ≤ wI (x3 + 1) ∧ wI (x3 + 1) < h 1 x0.toNat 0 then
  dv_ (fi_vt 80 (h 0 x1.toNat 0)) fun m4 => ca_ (fj_run d m4 h [(4, x1), (0, h 10 x0.toNat (wI (x3 + 1)).toNat)]) 0
    (fun v2 h1 =>
    if h1 0 x0.toNat 0 = 10 ∧ 0 ≤ wI (x3 + 1) ∧ wI (x3 + 1) < h1 1 x0.toNat 0 then
    dv_ (fi_vt 81 (h1 0 x2.toNat 0)) fun m8 => ca_ (fj_run d m8 h1 [(4, x2), (0, h1 10 x0.toNat (wI (x3 + 1)).toNat)]) 0
      (fun v6 h5 =>
      if v2 = v6 then
        c_720_2393 d x0 x1 x2 x3 h5
      else
        some (.inl (some (0, 0)), h5))
      (fun q7 h5 => tx_ q7 h5)
    else none)
    (fun q3 h1 => tx_ q3 h1)
  else none := by
  unfold c_720_1877
  exact
    have D : fk_D 720 [(1877, some [0, 1, 2, 3], .aload_n 1, 1, 0, 0, 0), (1878, none, .aload_n 0, 1, 0, 0, 0), (1879, none, .iload_n 3, 1, 0, 0, 0), (1880, none, .iconst 1, 1, 0, 1, 0), (1881, none, .iadd, 1, 0, 0, 0), (1882, none, .iaload, 1, 0, 0, 0), (1883, none, .invokevirtual 190, 3, 1, 80, 1), (1886, none, .aload_n 2, 1, 0, 0, 0), (1887, none, .aload_n 0, 1, 0, 0, 0), (1888, none, .iload_n 3, 1, 0, 0, 0), (1889, none, .iconst 1, 1, 0, 1, 0), (1890, none, .iadd, 1, 0, 0, 0), (1891, none, .iaload, 1, 0, 0, 0), (1892, none, .invokevirtual 193, 3, 1, 81, 1), (1895, none, .if_icmp .eq 498, 3, 2393, 0, 0), (1898, none, .iconst 0, 1, 0, 0, 0), (1899, none, .ireturn, 1, 0, 0, 0)] := fq_of2 cd_720 ow_720 cl_720 rfl (pc := 1877) (by decide +kernel)
    j_aldn (pc := 1877) D rfl rfl rfl fun D =>
    j_aldn (pc := 1878) D rfl rfl rfl fun D =>
    j_ildn (pc := 1879) D rfl rfl rfl fun D =>
    j_ic (pc := 1880) D rfl fun D =>
    j_iadd (pc := 1881) D rfl fun D =>
    j_alp (pc := 1882) (e := 10) H.2.1 D rfl rfl ⟨rfl, rfl, rfl⟩ rfl fun q q2 D =>
    j_ivu (pc := 1883) (dd := 80) (a := [(0, h 10 x0.toNat (wI (x3 + 1)).toNat)]) (rest := []) H.2.1 D rfl rfl rfl rfl rfl (fun m4 v2 h1 e1 D =>
      have T := fj_run_ok _ _ _ _ _ _ H.1 e1
      have H := shp_st H T
      j_aldn (pc := 1886) D rfl rfl rfl fun D =>
      j_aldn (pc := 1887) D rfl rfl rfl fun D =>
      j_ildn (pc := 1888) D rfl rfl rfl fun D =>
      j_ic (pc := 1889) D rfl fun D =>
      j_iadd (pc := 1890) D rfl fun D =>
      j_alp (pc := 1891) (e := 10) H.2.1 D rfl rfl ⟨rfl, rfl, rfl⟩ rfl fun q q2 D =>
      j_ivu (pc := 1892) (dd := 81) (a := [(0, h1 10 x0.toNat (wI (x3 + 1)).toNat)]) (rest := [(0, v2)]) H.2.1 D rfl rfl rfl rfl rfl (fun m8 v6 h5 e1 D =>
        have T := fj_run_ok _ _ _ _ _ _ H.1 e1
        have H := shp_st H T
        j_ieq (pc := 1895) D rfl (fun q =>
          fk_jump cut_720_2393 rfl rfl) (fun q D =>
          j_ic (pc := 1898) D rfl fun D =>
          j_zret D rt_720 (gy (by decide)))) (fun m8 q7 h5 e1 =>
        j_tx (hx_720 _))) (fun m4 q3 h1 e1 =>
      j_tx (hx_720 _))
theorem e_720_1900 (d : Nat) (x0 x1 x2 x3 : Int) {h : fi_H} (H : Shp h) : c_720_1900 d x0 x1 x2 x3 h =
  if h 0 x0.toNat 0 = 10 ∧ 0 ≤ wI (x3 + 1) ∧ wI (x3 + 1) < h 1 x0.toNat 0 then
  if h 0 x0.toNat 0 = 10 ∧ 0 ≤ wI (x3 + 2) ∧ wI (x3 + 2) < h 1 x0.toNat 0 then
  if h 0 x0.toNat 0 = 10 ∧ 0 ≤ wI (x3 + 3) ∧ wI (x3 + 3) < h 1 x0.toNat 0 then
  if h 0 x0.toNat 0 = 10 ∧ 0 ≤ wI (x3 + 4) ∧ wI (x3 + 4) < h 1 x0.toNat 0 then
  dv_ (fi_vt 82 (h 0 x1.toNat 0)) fun m4 => ca_ (fj_run d m4 h [(4, x1), (0, h 10 x0.toNat (wI (x3 + 1)).toNat), (0, h 10 x0.toNat (wI (x3 + 2)).toNat), (0, h 10 x0.toNat (wI (x3 + 3)).toNat), (0, h 10 x0.toNat (wI (x3 + 4)).toNat)]) 0
    (fun v2 h1 =>
    if h1 0 x0.toNat 0 = 10 ∧ 0 ≤ wI (x3 + 1) ∧ wI (x3 + 1) < h1 1 x0.toNat 0 then
    if h1 0 x0.toNat 0 = 10 ∧ 0 ≤ wI (x3 + 2) ∧ wI (x3 + 2) < h1 1 x0.toNat 0 then
    if h1 0 x0.toNat 0 = 10 ∧ 0 ≤ wI (x3 + 3) ∧ wI (x3 + 3) < h1 1 x0.toNat 0 then
    if h1 0 x0.toNat 0 = 10 ∧ 0 ≤ wI (x3 + 4) ∧ wI (x3 + 4) < h1 1 x0.toNat 0 then
    dv_ (fi_vt 83 (h1 0 x2.toNat 0)) fun m8 => ca_ (fj_run d m8 h1 [(4, x2), (0, h1 10 x0.toNat (wI (x3 + 1)).toNat), (0, h1 10 x0.toNat (wI (x3 + 2)).toNat), (0, h1 10 x0.toNat (wI (x3 + 3)).toNat), (0, h1 10 x0.toNat (wI (x3 + 4)).toNat)]) 0
      (fun v6 h5 =>
      if v2 = v6 then
        c_720_2393 d x0 x1 x2 x3 h5
      else
        some (.inl (some (0, 0)), h5))
      (fun q7 h5 => tx_ q7 h5)
    else none
    else none
    else none
    else none)
    (fun q3 h1 => tx_ q3 h1)
  else none
  else none
  else none
  else none := by
  unfold c_720_1900
  exact
    have D : fk_D 720 [(1900, some [0, 1, 2, 3], .aload_n 1, 1, 0, 0, 0), (1901, none, .aload_n 0, 1, 0, 0, 0), (1902, none, .iload_n 3, 1, 0, 0, 0), (1903, none, .iconst 1, 1, 0, 1, 0), (1904, none, .iadd, 1, 0, 0, 0), (1905, none, .iaload, 1, 0, 0, 0), (1906, none, .aload_n 0, 1, 0, 0, 0), (1907, none, .iload_n 3, 1, 0, 0, 0), (1908, none, .iconst 2, 1, 0, 2, 0), (1909, none, .iadd, 1, 0, 0, 0), (1910, none, .iaload, 1, 0, 0, 0), (1911, none, .aload_n 0, 1, 0, 0, 0), (1912, none, .iload_n 3, 1, 0, 0, 0), (1913, none, .iconst 3, 1, 0, 3, 0), (1914, none, .iadd, 1, 0, 0, 0), (1915, none, .iaload, 1, 0, 0, 0), (1916, none, .aload_n 0, 1, 0, 0, 0), (1917, none, .iload_n 3, 1, 0, 0, 0), (1918, none, .iconst 4, 1, 0, 4, 0), (1919, none, .iadd, 1, 0, 0, 0)] := fq_of2 cd_720 ow_720 cl_720 rfl (pc := 1900) (by decide +kernel)
    j_aldn (pc := 1900) D rfl rfl rfl fun D =>
    j_aldn (pc := 1901) D rfl rfl rfl fun D =>
    j_ildn (pc := 1902) D rfl rfl rfl fun D =>
    j_ic (pc := 1903) D rfl fun D =>
    j_iadd (pc := 1904) D rfl fun D =>
    j_alp (pc := 1905) (e := 10) H.2.1 D rfl rfl ⟨rfl, rfl, rfl⟩ rfl fun q q2 D =>
    j_aldn (pc := 1906) D rfl rfl rfl fun D =>
    j_ildn (pc := 1907) D rfl rfl rfl fun D =>
    j_ic (pc := 1908) D rfl fun D =>
    j_iadd (pc := 1909) D rfl fun D =>
    j_alp (pc := 1910) (e := 10) H.2.1 D rfl rfl ⟨rfl, rfl, rfl⟩ rfl fun q q2 D =>
    j_aldn (pc := 1911) D rfl rfl rfl fun D =>
    j_ildn (pc := 1912) D rfl rfl rfl fun D =>
    j_ic (pc := 1913) D rfl fun D =>
    j_iadd (pc := 1914) D rfl fun D =>
    j_alp (pc := 1915) (e := 10) H.2.1 D rfl rfl ⟨rfl, rfl, rfl⟩ rfl fun q q2 D =>
    j_aldn (pc := 1916) D rfl rfl rfl fun D =>
    j_ildn (pc := 1917) D rfl rfl rfl fun D =>
    j_ic (pc := 1918) D rfl fun D =>
    j_iadd (pc := 1919) D rfl fun D =>
    have D : fk_D 720 [(1920, none, .iaload, 1, 0, 0, 0), (1921, none, .invokevirtual 194, 3, 4, 82, 1), (1924, none, .aload_n 2, 1, 0, 0, 0), (1925, none, .aload_n 0, 1, 0, 0, 0), (1926, none, .iload_n 3, 1, 0, 0, 0), (1927, none, .iconst 1, 1, 0, 1, 0), (1928, none, .iadd, 1, 0, 0, 0), (1929, none, .iaload, 1, 0, 0, 0), (1930, none, .aload_n 0, 1, 0, 0, 0), (1931, none, .iload_n 3, 1, 0, 0, 0), (1932, none, .iconst 2, 1, 0, 2, 0), (1933, none, .iadd, 1, 0, 0, 0), (1934, none, .iaload, 1, 0, 0, 0), (1935, none, .aload_n 0, 1, 0, 0, 0), (1936, none, .iload_n 3, 1, 0, 0, 0), (1937, none, .iconst 3, 1, 0, 3, 0), (1938, none, .iadd, 1, 0, 0, 0), (1939, none, .iaload, 1, 0, 0, 0), (1940, none, .aload_n 0, 1, 0, 0, 0), (1941, none, .iload_n 3, 1, 0, 0, 0)] := fq_of2 cd_720 ow_720 cl_720 rfl (pc := 1920) (by decide +kernel)
    j_alp (pc := 1920) (e := 10) H.2.1 D rfl rfl ⟨rfl, rfl, rfl⟩ rfl fun q q2 D =>
    j_ivu (pc := 1921) (dd := 82) (a := [(0, h 10 x0.toNat (wI (x3 + 1)).toNat), (0, h 10 x0.toNat (wI (x3 + 2)).toNat), (0, h 10 x0.toNat (wI (x3 + 3)).toNat), (0, h 10 x0.toNat (wI (x3 + 4)).toNat)]) (rest := []) H.2.1 D rfl rfl rfl rfl rfl (fun m4 v2 h1 e1 D =>
      have T := fj_run_ok _ _ _ _ _ _ H.1 e1
      have H := shp_st H T
      j_aldn (pc := 1924) D rfl rfl rfl fun D =>
      j_aldn (pc := 1925) D rfl rfl rfl fun D =>
      j_ildn (pc := 1926) D rfl rfl rfl fun D =>
      j_ic (pc := 1927) D rfl fun D =>
      j_iadd (pc := 1928) D rfl fun D =>
      j_alp (pc := 1929) (e := 10) H.2.1 D rfl rfl ⟨rfl, rfl, rfl⟩ rfl fun q q2 D =>
      j_aldn (pc := 1930) D rfl rfl rfl fun D =>
      j_ildn (pc := 1931) D rfl rfl rfl fun D =>
      j_ic (pc := 1932) D rfl fun D =>
      j_iadd (pc := 1933) D rfl fun D =>
      j_alp (pc := 1934) (e := 10) H.2.1 D rfl rfl ⟨rfl, rfl, rfl⟩ rfl fun q q2 D =>
      j_aldn (pc := 1935) D rfl rfl rfl fun D =>
      j_ildn (pc := 1936) D rfl rfl rfl fun D =>
      j_ic (pc := 1937) D rfl fun D =>
      j_iadd (pc := 1938) D rfl fun D =>
      j_alp (pc := 1939) (e := 10) H.2.1 D rfl rfl ⟨rfl, rfl, rfl⟩ rfl fun q q2 D =>
      j_aldn (pc := 1940) D rfl rfl rfl fun D =>
      j_ildn (pc := 1941) D rfl rfl rfl fun D =>
      have D : fk_D 720 [(1942, none, .iconst 4, 1, 0, 4, 0), (1943, none, .iadd, 1, 0, 0, 0), (1944, none, .iaload, 1, 0, 0, 0), (1945, none, .invokevirtual 197, 3, 4, 83, 1), (1948, none, .if_icmp .eq 445, 3, 2393, 0, 0), (1951, none, .iconst 0, 1, 0, 0, 0), (1952, none, .ireturn, 1, 0, 0, 0)] := fq_of2 cd_720 ow_720 cl_720 rfl (pc := 1942) (by decide +kernel)
      j_ic (pc := 1942) D rfl fun D =>
      j_iadd (pc := 1943) D rfl fun D =>
      j_alp (pc := 1944) (e := 10) H.2.1 D rfl rfl ⟨rfl, rfl, rfl⟩ rfl fun q q2 D =>
      j_ivu (pc := 1945) (dd := 83) (a := [(0, h1 10 x0.toNat (wI (x3 + 1)).toNat), (0, h1 10 x0.toNat (wI (x3 + 2)).toNat), (0, h1 10 x0.toNat (wI (x3 + 3)).toNat), (0, h1 10 x0.toNat (wI (x3 + 4)).toNat)]) (rest := [(0, v2)]) H.2.1 D rfl rfl rfl rfl rfl (fun m8 v6 h5 e1 D =>
        have T := fj_run_ok _ _ _ _ _ _ H.1 e1
        have H := shp_st H T
        j_ieq (pc := 1948) D rfl (fun q =>
          fk_jump cut_720_2393 rfl rfl) (fun q D =>
          j_ic (pc := 1951) D rfl fun D =>
          j_zret D rt_720 (gy (by decide)))) (fun m8 q7 h5 e1 =>
        j_tx (hx_720 _))) (fun m4 q3 h1 e1 =>
      j_tx (hx_720 _))
theorem e_720_1953 (d : Nat) (x0 x1 x2 x3 : Int) {h : fi_H} (H : Shp h) : c_720_1953 d x0 x1 x2 x3 h =
  if h 0 x0.toNat 0 = 10 ∧ 0 ≤ wI (x3 + 1) ∧ wI (x3 + 1) < h 1 x0.toNat 0 then
  dv_ (fi_vt 84 (h 0 x1.toNat 0)) fun m4 => ca_ (fj_run d m4 h [(4, x1), (0, h 10 x0.toNat (wI (x3 + 1)).toNat)]) 1
    (fun v2 h1 =>
    if h1 0 x0.toNat 0 = 10 ∧ 0 ≤ wI (x3 + 1) ∧ wI (x3 + 1) < h1 1 x0.toNat 0 then
    dv_ (fi_vt 85 (h1 0 x2.toNat 0)) fun m8 => ca_ (fj_run d m8 h1 [(4, x2), (0, h1 10 x0.toNat (wI (x3 + 1)).toNat)]) 1
      (fun v6 h5 =>
      if lc_ v2 v6 = 0 then
        c_720_2393 d x0 x1 x2 x3 h5
      else
        some (.inl (some (0, 0)), h5))
      (fun q7 h5 => tx_ q7 h5)
    else none)
    (fun q3 h1 => tx_ q3 h1)
  else none := by
  unfold c_720_1953
  exact
    have D : fk_D 720 [(1953, some [0, 1, 2, 3], .aload_n 1, 1, 0, 0, 0), (1954, none, .aload_n 0, 1, 0, 0, 0), (1955, none, .iload_n 3, 1, 0, 0, 0), (1956, none, .iconst 1, 1, 0, 1, 0), (1957, none, .iadd, 1, 0, 0, 0), (1958, none, .iaload, 1, 0, 0, 0), (1959, none, .invokevirtual 198, 3, 1, 84, 2), (1962, none, .aload_n 2, 1, 0, 0, 0), (1963, none, .aload_n 0, 1, 0, 0, 0), (1964, none, .iload_n 3, 1, 0, 0, 0), (1965, none, .iconst 1, 1, 0, 1, 0), (1966, none, .iadd, 1, 0, 0, 0), (1967, none, .iaload, 1, 0, 0, 0), (1968, none, .invokevirtual 201, 3, 1, 85, 2), (1971, none, .lcmp, 1, 0, 0, 0), (1972, none, .ifCond .eq 421, 3, 2393, 0, 0), (1975, none, .iconst 0, 1, 0, 0, 0), (1976, none, .ireturn, 1, 0, 0, 0)] := fq_of2 cd_720 ow_720 cl_720 rfl (pc := 1953) (by decide +kernel)
    j_aldn (pc := 1953) D rfl rfl rfl fun D =>
    j_aldn (pc := 1954) D rfl rfl rfl fun D =>
    j_ildn (pc := 1955) D rfl rfl rfl fun D =>
    j_ic (pc := 1956) D rfl fun D =>
    j_iadd (pc := 1957) D rfl fun D =>
    j_alp (pc := 1958) (e := 10) H.2.1 D rfl rfl ⟨rfl, rfl, rfl⟩ rfl fun q q2 D =>
    j_ivu (pc := 1959) (dd := 84) (a := [(0, h 10 x0.toNat (wI (x3 + 1)).toNat)]) (rest := []) H.2.1 D rfl rfl rfl rfl rfl (fun m4 v2 h1 e1 D =>
      have T := fj_run_ok _ _ _ _ _ _ H.1 e1
      have H := shp_st H T
      j_aldn (pc := 1962) D rfl rfl rfl fun D =>
      j_aldn (pc := 1963) D rfl rfl rfl fun D =>
      j_ildn (pc := 1964) D rfl rfl rfl fun D =>
      j_ic (pc := 1965) D rfl fun D =>
      j_iadd (pc := 1966) D rfl fun D =>
      j_alp (pc := 1967) (e := 10) H.2.1 D rfl rfl ⟨rfl, rfl, rfl⟩ rfl fun q q2 D =>
      j_ivu (pc := 1968) (dd := 85) (a := [(0, h1 10 x0.toNat (wI (x3 + 1)).toNat)]) (rest := [(1, v2)]) H.2.1 D rfl rfl rfl rfl rfl (fun m8 v6 h5 e1 D =>
        have T := fj_run_ok _ _ _ _ _ _ H.1 e1
        have H := shp_st H T
        j_lcmp (pc := 1971) D rfl fun D =>
        j_ifeq (pc := 1972) D rfl (fun q =>
          fk_jump cut_720_2393 rfl rfl) (fun q D =>
          j_ic (pc := 1975) D rfl fun D =>
          j_zret D rt_720 (gy (by decide)))) (fun m8 q7 h5 e1 =>
        j_tx (hx_720 _))) (fun m4 q3 h1 e1 =>
      j_tx (hx_720 _))
theorem e_720_1977 (d : Nat) (x0 x1 x2 x3 : Int) {h : fi_H} (H : Shp h) : c_720_1977 d x0 x1 x2 x3 h =
  if h 0 x0.toNat 0 = 10 ∧ 0 ≤ wI (x3 + 1) ∧ wI (x3 + 1) < h 1 x0.toNat 0 then
  if h 0 x0.toNat 0 = 10 ∧ 0 ≤ wI (x3 + 2) ∧ wI (x3 + 2) < h 1 x0.toNat 0 then
  if h 0 x0.toNat 0 = 10 ∧ 0 ≤ wI (x3 + 3) ∧ wI (x3 + 3) < h 1 x0.toNat 0 then
  if h 0 x0.toNat 0 = 10 ∧ 0 ≤ wI (x3 + 4) ∧ wI (x3 + 4) < h 1 x0.toNat 0 then
  dv_ (fi_vt 86 (h 0 x1.toNat 0)) fun m4 => ca_ (fj_run d m4 h [(4, x1), (0, h 10 x0.toNat (wI (x3 + 1)).toNat), (0, h 10 x0.toNat (wI (x3 + 2)).toNat), (0, h 10 x0.toNat (wI (x3 + 3)).toNat), (0, h 10 x0.toNat (wI (x3 + 4)).toNat)]) 0
    (fun v2 h1 =>
    if h1 0 x0.toNat 0 = 10 ∧ 0 ≤ wI (x3 + 1) ∧ wI (x3 + 1) < h1 1 x0.toNat 0 then
    if h1 0 x0.toNat 0 = 10 ∧ 0 ≤ wI (x3 + 2) ∧ wI (x3 + 2) < h1 1 x0.toNat 0 then
    if h1 0 x0.toNat 0 = 10 ∧ 0 ≤ wI (x3 + 3) ∧ wI (x3 + 3) < h1 1 x0.toNat 0 then
    if h1 0 x0.toNat 0 = 10 ∧ 0 ≤ wI (x3 + 4) ∧ wI (x3 + 4) < h1 1 x0.toNat 0 then
    dv_ (fi_vt 87 (h1 0 x2.toNat 0)) fun m8 => ca_ (fj_run d m8 h1 [(4, x2), (0, h1 10 x0.toNat (wI (x3 + 1)).toNat), (0, h1 10 x0.toNat (wI (x3 + 2)).toNat), (0, h1 10 x0.toNat (wI (x3 + 3)).toNat), (0, h1 10 x0.toNat (wI (x3 + 4)).toNat)]) 0
      (fun v6 h5 =>
      if v2 = v6 then
        c_720_2393 d x0 x1 x2 x3 h5
      else
        some (.inl (some (0, 0)), h5))
      (fun q7 h5 => tx_ q7 h5)
    else none
    else none
    else none
    else none)
    (fun q3 h1 => tx_ q3 h1)
  else none
  else none
  else none
  else none := by
  unfold c_720_1977
  exact
    have D : fk_D 720 [(1977, some [0, 1, 2, 3], .aload_n 1, 1, 0, 0, 0), (1978, none, .aload_n 0, 1, 0, 0, 0), (1979, none, .iload_n 3, 1, 0, 0, 0), (1980, none, .iconst 1, 1, 0, 1, 0), (1981, none, .iadd, 1, 0, 0, 0), (1982, none, .iaload, 1, 0, 0, 0), (1983, none, .aload_n 0, 1, 0, 0, 0), (1984, none, .iload_n 3, 1, 0, 0, 0), (1985, none, .iconst 2, 1, 0, 2, 0), (1986, none, .iadd, 1, 0, 0, 0), (1987, none, .iaload, 1, 0, 0, 0), (1988, none, .aload_n 0, 1, 0, 0, 0), (1989, none, .iload_n 3, 1, 0, 0, 0), (1990, none, .iconst 3, 1, 0, 3, 0), (1991, none, .iadd, 1, 0, 0, 0), (1992, none, .iaload, 1, 0, 0, 0), (1993, none, .aload_n 0, 1, 0, 0, 0), (1994, none, .iload_n 3, 1, 0, 0, 0), (1995, none, .iconst 4, 1, 0, 4, 0), (1996, none, .iadd, 1, 0, 0, 0)] := fq_of2 cd_720 ow_720 cl_720 rfl (pc := 1977) (by decide +kernel)
    j_aldn (pc := 1977) D rfl rfl rfl fun D =>
    j_aldn (pc := 1978) D rfl rfl rfl fun D =>
    j_ildn (pc := 1979) D rfl rfl rfl fun D =>
    j_ic (pc := 1980) D rfl fun D =>
    j_iadd (pc := 1981) D rfl fun D =>
    j_alp (pc := 1982) (e := 10) H.2.1 D rfl rfl ⟨rfl, rfl, rfl⟩ rfl fun q q2 D =>
    j_aldn (pc := 1983) D rfl rfl rfl fun D =>
    j_ildn (pc := 1984) D rfl rfl rfl fun D =>
    j_ic (pc := 1985) D rfl fun D =>
    j_iadd (pc := 1986) D rfl fun D =>
    j_alp (pc := 1987) (e := 10) H.2.1 D rfl rfl ⟨rfl, rfl, rfl⟩ rfl fun q q2 D =>
    j_aldn (pc := 1988) D rfl rfl rfl fun D =>
    j_ildn (pc := 1989) D rfl rfl rfl fun D =>
    j_ic (pc := 1990) D rfl fun D =>
    j_iadd (pc := 1991) D rfl fun D =>
    j_alp (pc := 1992) (e := 10) H.2.1 D rfl rfl ⟨rfl, rfl, rfl⟩ rfl fun q q2 D =>
    j_aldn (pc := 1993) D rfl rfl rfl fun D =>
    j_ildn (pc := 1994) D rfl rfl rfl fun D =>
    j_ic (pc := 1995) D rfl fun D =>
    j_iadd (pc := 1996) D rfl fun D =>
    have D : fk_D 720 [(1997, none, .iaload, 1, 0, 0, 0), (1998, none, .invokevirtual 202, 3, 4, 86, 1), (2001, none, .aload_n 2, 1, 0, 0, 0), (2002, none, .aload_n 0, 1, 0, 0, 0), (2003, none, .iload_n 3, 1, 0, 0, 0), (2004, none, .iconst 1, 1, 0, 1, 0), (2005, none, .iadd, 1, 0, 0, 0), (2006, none, .iaload, 1, 0, 0, 0), (2007, none, .aload_n 0, 1, 0, 0, 0), (2008, none, .iload_n 3, 1, 0, 0, 0), (2009, none, .iconst 2, 1, 0, 2, 0), (2010, none, .iadd, 1, 0, 0, 0), (2011, none, .iaload, 1, 0, 0, 0), (2012, none, .aload_n 0, 1, 0, 0, 0), (2013, none, .iload_n 3, 1, 0, 0, 0), (2014, none, .iconst 3, 1, 0, 3, 0), (2015, none, .iadd, 1, 0, 0, 0), (2016, none, .iaload, 1, 0, 0, 0), (2017, none, .aload_n 0, 1, 0, 0, 0), (2018, none, .iload_n 3, 1, 0, 0, 0)] := fq_of2 cd_720 ow_720 cl_720 rfl (pc := 1997) (by decide +kernel)
    j_alp (pc := 1997) (e := 10) H.2.1 D rfl rfl ⟨rfl, rfl, rfl⟩ rfl fun q q2 D =>
    j_ivu (pc := 1998) (dd := 86) (a := [(0, h 10 x0.toNat (wI (x3 + 1)).toNat), (0, h 10 x0.toNat (wI (x3 + 2)).toNat), (0, h 10 x0.toNat (wI (x3 + 3)).toNat), (0, h 10 x0.toNat (wI (x3 + 4)).toNat)]) (rest := []) H.2.1 D rfl rfl rfl rfl rfl (fun m4 v2 h1 e1 D =>
      have T := fj_run_ok _ _ _ _ _ _ H.1 e1
      have H := shp_st H T
      j_aldn (pc := 2001) D rfl rfl rfl fun D =>
      j_aldn (pc := 2002) D rfl rfl rfl fun D =>
      j_ildn (pc := 2003) D rfl rfl rfl fun D =>
      j_ic (pc := 2004) D rfl fun D =>
      j_iadd (pc := 2005) D rfl fun D =>
      j_alp (pc := 2006) (e := 10) H.2.1 D rfl rfl ⟨rfl, rfl, rfl⟩ rfl fun q q2 D =>
      j_aldn (pc := 2007) D rfl rfl rfl fun D =>
      j_ildn (pc := 2008) D rfl rfl rfl fun D =>
      j_ic (pc := 2009) D rfl fun D =>
      j_iadd (pc := 2010) D rfl fun D =>
      j_alp (pc := 2011) (e := 10) H.2.1 D rfl rfl ⟨rfl, rfl, rfl⟩ rfl fun q q2 D =>
      j_aldn (pc := 2012) D rfl rfl rfl fun D =>
      j_ildn (pc := 2013) D rfl rfl rfl fun D =>
      j_ic (pc := 2014) D rfl fun D =>
      j_iadd (pc := 2015) D rfl fun D =>
      j_alp (pc := 2016) (e := 10) H.2.1 D rfl rfl ⟨rfl, rfl, rfl⟩ rfl fun q q2 D =>
      j_aldn (pc := 2017) D rfl rfl rfl fun D =>
      j_ildn (pc := 2018) D rfl rfl rfl fun D =>
      have D : fk_D 720 [(2019, none, .iconst 4, 1, 0, 4, 0), (2020, none, .iadd, 1, 0, 0, 0), (2021, none, .iaload, 1, 0, 0, 0), (2022, none, .invokevirtual 205, 3, 4, 87, 1), (2025, none, .if_icmp .eq 368, 3, 2393, 0, 0), (2028, none, .iconst 0, 1, 0, 0, 0), (2029, none, .ireturn, 1, 0, 0, 0)] := fq_of2 cd_720 ow_720 cl_720 rfl (pc := 2019) (by decide +kernel)
      j_ic (pc := 2019) D rfl fun D =>
      j_iadd (pc := 2020) D rfl fun D =>
      j_alp (pc := 2021) (e := 10) H.2.1 D rfl rfl ⟨rfl, rfl, rfl⟩ rfl fun q q2 D =>
      j_ivu (pc := 2022) (dd := 87) (a := [(0, h1 10 x0.toNat (wI (x3 + 1)).toNat), (0, h1 10 x0.toNat (wI (x3 + 2)).toNat), (0, h1 10 x0.toNat (wI (x3 + 3)).toNat), (0, h1 10 x0.toNat (wI (x3 + 4)).toNat)]) (rest := [(0, v2)]) H.2.1 D rfl rfl rfl rfl rfl (fun m8 v6 h5 e1 D =>
        have T := fj_run_ok _ _ _ _ _ _ H.1 e1
        have H := shp_st H T
        j_ieq (pc := 2025) D rfl (fun q =>
          fk_jump cut_720_2393 rfl rfl) (fun q D =>
          j_ic (pc := 2028) D rfl fun D =>
          j_zret D rt_720 (gy (by decide)))) (fun m8 q7 h5 e1 =>
        j_tx (hx_720 _))) (fun m4 q3 h1 e1 =>
      j_tx (hx_720 _))
theorem e_720_2030 (d : Nat) (x0 x1 x2 x3 : Int) {h : fi_H} (H : Shp h) : c_720_2030 d x0 x1 x2 x3 h =
  if h 0 x0.toNat 0 = 10 ∧ 0 ≤ wI (x3 + 1) ∧ wI (x3 + 1) < h 1 x0.toNat 0 then
  if h 0 x0.toNat 0 = 10 ∧ 0 ≤ wI (x3 + 2) ∧ wI (x3 + 2) < h 1 x0.toNat 0 then
  dv_ (fi_vt 88 (h 0 x1.toNat 0)) fun m4 => ca_ (fj_run d m4 h [(4, x1), (0, h 10 x0.toNat (wI (x3 + 1)).toNat), (0, h 10 x0.toNat (wI (x3 + 2)).toNat)]) 1
    (fun v2 h1 =>
    if h1 0 x0.toNat 0 = 10 ∧ 0 ≤ wI (x3 + 1) ∧ wI (x3 + 1) < h1 1 x0.toNat 0 then
    if h1 0 x0.toNat 0 = 10 ∧ 0 ≤ wI (x3 + 2) ∧ wI (x3 + 2) < h1 1 x0.toNat 0 then
    dv_ (fi_vt 89 (h1 0 x2.toNat 0)) fun m8 => ca_ (fj_run d m8 h1 [(4, x2), (0, h1 10 x0.toNat (wI (x3 + 1)).toNat), (0, h1 10 x0.toNat (wI (x3 + 2)).toNat)]) 1
      (fun v6 h5 =>
      if lc_ v2 v6 = 0 then
        c_720_2393 d x0 x1 x2 x3 h5
      else
        some (.inl (some (0, 0)), h5))
      (fun q7 h5 => tx_ q7 h5)
    else none
    else none)
    (fun q3 h1 => tx_ q3 h1)
  else none
  else none := by
  unfold c_720_2030
  exact
    have D : fk_D 720 [(2030, some [0, 1, 2, 3], .aload_n 1, 1, 0, 0, 0), (2031, none, .aload_n 0, 1, 0, 0, 0), (2032, none, .iload_n 3, 1, 0, 0, 0), (2033, none, .iconst 1, 1, 0, 1, 0), (2034, none, .iadd, 1, 0, 0, 0), (2035, none, .iaload, 1, 0, 0, 0), (2036, none, .aload_n 0, 1, 0, 0, 0), (2037, none, .iload_n 3, 1, 0, 0, 0), (2038, none, .iconst 2, 1, 0, 2, 0), (2039, none, .iadd, 1, 0, 0, 0), (2040, none, .iaload, 1, 0, 0, 0), (2041, none, .invokevirtual 206, 3, 2, 88, 2), (2044, none, .aload_n 2, 1, 0, 0, 0), (2045, none, .aload_n 0, 1, 0, 0, 0), (2046, none, .iload_n 3, 1, 0, 0, 0), (2047, none, .iconst 1, 1, 0, 1, 0), (2048, none, .iadd, 1, 0, 0, 0), (2049, none, .iaload, 1, 0, 0, 0), (2050, none, .aload_n 0, 1, 0, 0, 0), (2051, none, .iload_n 3, 1, 0, 0, 0)] := fq_of2 cd_720 ow_720 cl_720 rfl (pc := 2030) (by decide +kernel)
    j_aldn (pc := 2030) D rfl rfl rfl fun D =>
    j_aldn (pc := 2031) D rfl rfl rfl fun D =>
    j_ildn (pc := 2032) D rfl rfl rfl fun D =>
    j_ic (pc := 2033) D rfl fun D =>
    j_iadd (pc := 2034) D rfl fun D =>
    j_alp (pc := 2035) (e := 10) H.2.1 D rfl rfl ⟨rfl, rfl, rfl⟩ rfl fun q q2 D =>
    j_aldn (pc := 2036) D rfl rfl rfl fun D =>
    j_ildn (pc := 2037) D rfl rfl rfl fun D =>
    j_ic (pc := 2038) D rfl fun D =>
    j_iadd (pc := 2039) D rfl fun D =>
    j_alp (pc := 2040) (e := 10) H.2.1 D rfl rfl ⟨rfl, rfl, rfl⟩ rfl fun q q2 D =>
    j_ivu (pc := 2041) (dd := 88) (a := [(0, h 10 x0.toNat (wI (x3 + 1)).toNat), (0, h 10 x0.toNat (wI (x3 + 2)).toNat)]) (rest := []) H.2.1 D rfl rfl rfl rfl rfl (fun m4 v2 h1 e1 D =>
      have T := fj_run_ok _ _ _ _ _ _ H.1 e1
      have H := shp_st H T
      j_aldn (pc := 2044) D rfl rfl rfl fun D =>
      j_aldn (pc := 2045) D rfl rfl rfl fun D =>
      j_ildn (pc := 2046) D rfl rfl rfl fun D =>
      j_ic (pc := 2047) D rfl fun D =>
      j_iadd (pc := 2048) D rfl fun D =>
      j_alp (pc := 2049) (e := 10) H.2.1 D rfl rfl ⟨rfl, rfl, rfl⟩ rfl fun q q2 D =>
      j_aldn (pc := 2050) D rfl rfl rfl fun D =>
      j_ildn (pc := 2051) D rfl rfl rfl fun D =>
      have D : fk_D 720 [(2052, none, .iconst 2, 1, 0, 2, 0), (2053, none, .iadd, 1, 0, 0, 0), (2054, none, .iaload, 1, 0, 0, 0), (2055, none, .invokevirtual 209, 3, 2, 89, 2), (2058, none, .lcmp, 1, 0, 0, 0), (2059, none, .ifCond .eq 334, 3, 2393, 0, 0), (2062, none, .iconst 0, 1, 0, 0, 0), (2063, none, .ireturn, 1, 0, 0, 0)] := fq_of2 cd_720 ow_720 cl_720 rfl (pc := 2052) (by decide +kernel)
      j_ic (pc := 2052) D rfl fun D =>
      j_iadd (pc := 2053) D rfl fun D =>
      j_alp (pc := 2054) (e := 10) H.2.1 D rfl rfl ⟨rfl, rfl, rfl⟩ rfl fun q q2 D =>
      j_ivu (pc := 2055) (dd := 89) (a := [(0, h1 10 x0.toNat (wI (x3 + 1)).toNat), (0, h1 10 x0.toNat (wI (x3 + 2)).toNat)]) (rest := [(1, v2)]) H.2.1 D rfl rfl rfl rfl rfl (fun m8 v6 h5 e1 D =>
        have T := fj_run_ok _ _ _ _ _ _ H.1 e1
        have H := shp_st H T
        j_lcmp (pc := 2058) D rfl fun D =>
        j_ifeq (pc := 2059) D rfl (fun q =>
          fk_jump cut_720_2393 rfl rfl) (fun q D =>
          j_ic (pc := 2062) D rfl fun D =>
          j_zret D rt_720 (gy (by decide)))) (fun m8 q7 h5 e1 =>
        j_tx (hx_720 _))) (fun m4 q3 h1 e1 =>
      j_tx (hx_720 _))
theorem e_720_2064 (d : Nat) (x0 x1 x2 x3 : Int) {h : fi_H} (H : Shp h) : c_720_2064 d x0 x1 x2 x3 h =
  if h 0 x0.toNat 0 = 10 ∧ 0 ≤ wI (x3 + 1) ∧ wI (x3 + 1) < h 1 x0.toNat 0 then
  if h 0 x0.toNat 0 = 10 ∧ 0 ≤ wI (x3 + 2) ∧ wI (x3 + 2) < h 1 x0.toNat 0 then
  if h 0 x0.toNat 0 = 10 ∧ 0 ≤ wI (x3 + 3) ∧ wI (x3 + 3) < h 1 x0.toNat 0 then
  dv_ (fi_vt 90 (h 0 x1.toNat 0)) fun m4 => ca_ (fj_run d m4 h [(4, x1), (0, h 10 x0.toNat (wI (x3 + 1)).toNat), (0, h 10 x0.toNat (wI (x3 + 2)).toNat), (0, h 10 x0.toNat (wI (x3 + 3)).toNat)]) 0
    (fun v2 h1 =>
    if h1 0 x0.toNat 0 = 10 ∧ 0 ≤ wI (x3 + 1) ∧ wI (x3 + 1) < h1 1 x0.toNat 0 then
    if h1 0 x0.toNat 0 = 10 ∧ 0 ≤ wI (x3 + 2) ∧ wI (x3 + 2) < h1 1 x0.toNat 0 then
    if h1 0 x0.toNat 0 = 10 ∧ 0 ≤ wI (x3 + 3) ∧ wI (x3 + 3) < h1 1 x0.toNat 0 then
    dv_ (fi_vt 91 (h1 0 x2.toNat 0)) fun m8 => ca_ (fj_run d m8 h1 [(4, x2), (0, h1 10 x0.toNat (wI (x3 + 1)).toNat), (0, h1 10 x0.toNat (wI (x3 + 2)).toNat), (0, h1 10 x0.toNat (wI (x3 + 3)).toNat)]) 0
      (fun v6 h5 =>
      if v2 = v6 then
        c_720_2393 d x0 x1 x2 x3 h5
      else
        some (.inl (some (0, 0)), h5))
      (fun q7 h5 => tx_ q7 h5)
    else none
    else none
    else none)
    (fun q3 h1 => tx_ q3 h1)
  else none
  else none
  else none := by
  unfold c_720_2064
  exact
    have D : fk_D 720 [(2064, some [0, 1, 2, 3], .aload_n 1, 1, 0, 0, 0), (2065, none, .aload_n 0, 1, 0, 0, 0), (2066, none, .iload_n 3, 1, 0, 0, 0), (2067, none, .iconst 1, 1, 0, 1, 0), (2068, none, .iadd, 1, 0, 0, 0), (2069, none, .iaload, 1, 0, 0, 0), (2070, none, .aload_n 0, 1, 0, 0, 0), (2071, none, .iload_n 3, 1, 0, 0, 0), (2072, none, .iconst 2, 1, 0, 2, 0), (2073, none, .iadd, 1, 0, 0, 0), (2074, none, .iaload, 1, 0, 0, 0), (2075, none, .aload_n 0, 1, 0, 0, 0), (2076, none, .iload_n 3, 1, 0, 0, 0), (2077, none, .iconst 3, 1, 0, 3, 0), (2078, none, .iadd, 1, 0, 0, 0), (2079, none, .iaload, 1, 0, 0, 0), (2080, none, .invokevirtual 210, 3, 3, 90, 1), (2083, none, .aload_n 2, 1, 0, 0, 0), (2084, none, .aload_n 0, 1, 0, 0, 0), (2085, none, .iload_n 3, 1, 0, 0, 0)] := fq_of2 cd_720 ow_720 cl_720 rfl (pc := 2064) (by decide +kernel)
    j_aldn (pc := 2064) D rfl rfl rfl fun D =>
    j_aldn (pc := 2065) D rfl rfl rfl fun D =>
    j_ildn (pc := 2066) D rfl rfl rfl fun D =>
    j_ic (pc := 2067) D rfl fun D =>
    j_iadd (pc := 2068) D rfl fun D =>
    j_alp (pc := 2069) (e := 10) H.2.1 D rfl rfl ⟨rfl, rfl, rfl⟩ rfl fun q q2 D =>
    j_aldn (pc := 2070) D rfl rfl rfl fun D =>
    j_ildn (pc := 2071) D rfl rfl rfl fun D =>
    j_ic (pc := 2072) D rfl fun D =>
    j_iadd (pc := 2073) D rfl fun D =>
    j_alp (pc := 2074) (e := 10) H.2.1 D rfl rfl ⟨rfl, rfl, rfl⟩ rfl fun q q2 D =>
    j_aldn (pc := 2075) D rfl rfl rfl fun D =>
    j_ildn (pc := 2076) D rfl rfl rfl fun D =>
    j_ic (pc := 2077) D rfl fun D =>
    j_iadd (pc := 2078) D rfl fun D =>
    j_alp (pc := 2079) (e := 10) H.2.1 D rfl rfl ⟨rfl, rfl, rfl⟩ rfl fun q q2 D =>
    j_ivu (pc := 2080) (dd := 90) (a := [(0, h 10 x0.toNat (wI (x3 + 1)).toNat), (0, h 10 x0.toNat (wI (x3 + 2)).toNat), (0, h 10 x0.toNat (wI (x3 + 3)).toNat)]) (rest := []) H.2.1 D rfl rfl rfl rfl rfl (fun m4 v2 h1 e1 D =>
      have T := fj_run_ok _ _ _ _ _ _ H.1 e1
      have H := shp_st H T
      j_aldn (pc := 2083) D rfl rfl rfl fun D =>
      j_aldn (pc := 2084) D rfl rfl rfl fun D =>
      j_ildn (pc := 2085) D rfl rfl rfl fun D =>
      have D : fk_D 720 [(2086, none, .iconst 1, 1, 0, 1, 0), (2087, none, .iadd, 1, 0, 0, 0), (2088, none, .iaload, 1, 0, 0, 0), (2089, none, .aload_n 0, 1, 0, 0, 0), (2090, none, .iload_n 3, 1, 0, 0, 0), (2091, none, .iconst 2, 1, 0, 2, 0), (2092, none, .iadd, 1, 0, 0, 0), (2093, none, .iaload, 1, 0, 0, 0), (2094, none, .aload_n 0, 1, 0, 0, 0), (2095, none, .iload_n 3, 1, 0, 0, 0), (2096, none, .iconst 3, 1, 0, 3, 0), (2097, none, .iadd, 1, 0, 0, 0), (2098, none, .iaload, 1, 0, 0, 0), (2099, none, .invokevirtual 213, 3, 3, 91, 1), (2102, none, .if_icmp .eq 291, 3, 2393, 0, 0), (2105, none, .iconst 0, 1, 0, 0, 0), (2106, none, .ireturn, 1, 0, 0, 0)] := fq_of2 cd_720 ow_720 cl_720 rfl (pc := 2086) (by decide +kernel)
      j_ic (pc := 2086) D rfl fun D =>
      j_iadd (pc := 2087) D rfl fun D =>
      j_alp (pc := 2088) (e := 10) H.2.1 D rfl rfl ⟨rfl, rfl, rfl⟩ rfl fun q q2 D =>
      j_aldn (pc := 2089) D rfl rfl rfl fun D =>
      j_ildn (pc := 2090) D rfl rfl rfl fun D =>
      j_ic (pc := 2091) D rfl fun D =>
      j_iadd (pc := 2092) D rfl fun D =>
      j_alp (pc := 2093) (e := 10) H.2.1 D rfl rfl ⟨rfl, rfl, rfl⟩ rfl fun q q2 D =>
      j_aldn (pc := 2094) D rfl rfl rfl fun D =>
      j_ildn (pc := 2095) D rfl rfl rfl fun D =>
      j_ic (pc := 2096) D rfl fun D =>
      j_iadd (pc := 2097) D rfl fun D =>
      j_alp (pc := 2098) (e := 10) H.2.1 D rfl rfl ⟨rfl, rfl, rfl⟩ rfl fun q q2 D =>
      j_ivu (pc := 2099) (dd := 91) (a := [(0, h1 10 x0.toNat (wI (x3 + 1)).toNat), (0, h1 10 x0.toNat (wI (x3 + 2)).toNat), (0, h1 10 x0.toNat (wI (x3 + 3)).toNat)]) (rest := [(0, v2)]) H.2.1 D rfl rfl rfl rfl rfl (fun m8 v6 h5 e1 D =>
        have T := fj_run_ok _ _ _ _ _ _ H.1 e1
        have H := shp_st H T
        j_ieq (pc := 2102) D rfl (fun q =>
          fk_jump cut_720_2393 rfl rfl) (fun q D =>
          j_ic (pc := 2105) D rfl fun D =>
          j_zret D rt_720 (gy (by decide)))) (fun m8 q7 h5 e1 =>
        j_tx (hx_720 _))) (fun m4 q3 h1 e1 =>
      j_tx (hx_720 _))
theorem e_720_2107 (d : Nat) (x0 x1 x2 x3 : Int) {h : fi_H} (H : Shp h) : c_720_2107 d x0 x1 x2 x3 h =
  if h 0 x0.toNat 0 = 10 ∧ 0 ≤ wI (x3 + 1) ∧ wI (x3 + 1) < h 1 x0.toNat 0 then
  if h 0 x0.toNat 0 = 10 ∧ 0 ≤ wI (x3 + 2) ∧ wI (x3 + 2) < h 1 x0.toNat 0 then
  if h 0 x0.toNat 0 = 10 ∧ 0 ≤ wI (x3 + 3) ∧ wI (x3 + 3) < h 1 x0.toNat 0 then
  dv_ (fi_vt 92 (h 0 x1.toNat 0)) fun m4 => ca_ (fj_run d m4 h [(4, x1), (0, h 10 x0.toNat (wI (x3 + 1)).toNat), (0, h 10 x0.toNat (wI (x3 + 2)).toNat), (0, h 10 x0.toNat (wI (x3 + 3)).toNat)]) 0
    (fun v2 h1 =>
    if h1 0 x0.toNat 0 = 10 ∧ 0 ≤ wI (x3 + 1) ∧ wI (x3 + 1) < h1 1 x0.toNat 0 then
    if h1 0 x0.toNat 0 = 10 ∧ 0 ≤ wI (x3 + 2) ∧ wI (x3 + 2) < h1 1 x0.toNat 0 then
    if h1 0 x0.toNat 0 = 10 ∧ 0 ≤ wI (x3 + 3) ∧ wI (x3 + 3) < h1 1 x0.toNat 0 then
    dv_ (fi_vt 93 (h1 0 x2.toNat 0)) fun m8 => ca_ (fj_run d m8 h1 [(4, x2), (0, h1 10 x0.toNat (wI (x3 + 1)).toNat), (0, h1 10 x0.toNat (wI (x3 + 2)).toNat), (0, h1 10 x0.toNat (wI (x3 + 3)).toNat)]) 0
      (fun v6 h5 =>
      if v2 = v6 then
        c_720_2393 d x0 x1 x2 x3 h5
      else
        some (.inl (some (0, 0)), h5))
      (fun q7 h5 => tx_ q7 h5)
    else none
    else none
    else none)
    (fun q3 h1 => tx_ q3 h1)
  else none
  else none
  else none := by
  unfold c_720_2107
  exact
    have D : fk_D 720 [(2107, some [0, 1, 2, 3], .aload_n 1, 1, 0, 0, 0), (2108, none, .aload_n 0, 1, 0, 0, 0), (2109, none, .iload_n 3, 1, 0, 0, 0), (2110, none, .iconst 1, 1, 0, 1, 0), (2111, none, .iadd, 1, 0, 0, 0), (2112, none, .iaload, 1, 0, 0, 0), (2113, none, .aload_n 0, 1, 0, 0, 0), (2114, none, .iload_n 3, 1, 0, 0, 0), (2115, none, .iconst 2, 1, 0, 2, 0), (2116, none, .iadd, 1, 0, 0, 0), (2117, none, .iaload, 1, 0, 0, 0), (2118, none, .aload_n 0, 1, 0, 0, 0), (2119, none, .iload_n 3, 1, 0, 0, 0), (2120, none, .iconst 3, 1, 0, 3, 0), (2121, none, .iadd, 1, 0, 0, 0), (2122, none, .iaload, 1, 0, 0, 0), (2123, none, .invokevirtual 214, 3, 3, 92, 1), (2126, none, .aload_n 2, 1, 0, 0, 0), (2127, none, .aload_n 0, 1, 0, 0, 0), (2128, none, .iload_n 3, 1, 0, 0, 0)] := fq_of2 cd_720 ow_720 cl_720 rfl (pc := 2107) (by decide +kernel)
    j_aldn (pc := 2107) D rfl rfl rfl fun D =>
    j_aldn (pc := 2108) D rfl rfl rfl fun D =>
    j_ildn (pc := 2109) D rfl rfl rfl fun D =>
    j_ic (pc := 2110) D rfl fun D =>
    j_iadd (pc := 2111) D rfl fun D =>
    j_alp (pc := 2112) (e := 10) H.2.1 D rfl rfl ⟨rfl, rfl, rfl⟩ rfl fun q q2 D =>
    j_aldn (pc := 2113) D rfl rfl rfl fun D =>
    j_ildn (pc := 2114) D rfl rfl rfl fun D =>
    j_ic (pc := 2115) D rfl fun D =>
    j_iadd (pc := 2116) D rfl fun D =>
    j_alp (pc := 2117) (e := 10) H.2.1 D rfl rfl ⟨rfl, rfl, rfl⟩ rfl fun q q2 D =>
    j_aldn (pc := 2118) D rfl rfl rfl fun D =>
    j_ildn (pc := 2119) D rfl rfl rfl fun D =>
    j_ic (pc := 2120) D rfl fun D =>
    j_iadd (pc := 2121) D rfl fun D =>
    j_alp (pc := 2122) (e := 10) H.2.1 D rfl rfl ⟨rfl, rfl, rfl⟩ rfl fun q q2 D =>
    j_ivu (pc := 2123) (dd := 92) (a := [(0, h 10 x0.toNat (wI (x3 + 1)).toNat), (0, h 10 x0.toNat (wI (x3 + 2)).toNat), (0, h 10 x0.toNat (wI (x3 + 3)).toNat)]) (rest := []) H.2.1 D rfl rfl rfl rfl rfl (fun m4 v2 h1 e1 D =>
      have T := fj_run_ok _ _ _ _ _ _ H.1 e1
      have H := shp_st H T
      j_aldn (pc := 2126) D rfl rfl rfl fun D =>
      j_aldn (pc := 2127) D rfl rfl rfl fun D =>
      j_ildn (pc := 2128) D rfl rfl rfl fun D =>
      have D : fk_D 720 [(2129, none, .iconst 1, 1, 0, 1, 0), (2130, none, .iadd, 1, 0, 0, 0), (2131, none, .iaload, 1, 0, 0, 0), (2132, none, .aload_n 0, 1, 0, 0, 0), (2133, none, .iload_n 3, 1, 0, 0, 0), (2134, none, .iconst 2, 1, 0, 2, 0), (2135, none, .iadd, 1, 0, 0, 0), (2136, none, .iaload, 1, 0, 0, 0), (2137, none, .aload_n 0, 1, 0, 0, 0), (2138, none, .iload_n 3, 1, 0, 0, 0), (2139, none, .iconst 3, 1, 0, 3, 0), (2140, none, .iadd, 1, 0, 0, 0), (2141, none, .iaload, 1, 0, 0, 0), (2142, none, .invokevirtual 217, 3, 3, 93, 1), (2145, none, .if_icmp .eq 248, 3, 2393, 0, 0), (2148, none, .iconst 0, 1, 0, 0, 0), (2149, none, .ireturn, 1, 0, 0, 0)] := fq_of2 cd_720 ow_720 cl_720 rfl (pc := 2129) (by decide +kernel)
      j_ic (pc := 2129) D rfl fun D =>
      j_iadd (pc := 2130) D rfl fun D =>
      j_alp (pc := 2131) (e := 10) H.2.1 D rfl rfl ⟨rfl, rfl, rfl⟩ rfl fun q q2 D =>
      j_aldn (pc := 2132) D rfl rfl rfl fun D =>
      j_ildn (pc := 2133) D rfl rfl rfl fun D =>
      j_ic (pc := 2134) D rfl fun D =>
      j_iadd (pc := 2135) D rfl fun D =>
      j_alp (pc := 2136) (e := 10) H.2.1 D rfl rfl ⟨rfl, rfl, rfl⟩ rfl fun q q2 D =>
      j_aldn (pc := 2137) D rfl rfl rfl fun D =>
      j_ildn (pc := 2138) D rfl rfl rfl fun D =>
      j_ic (pc := 2139) D rfl fun D =>
      j_iadd (pc := 2140) D rfl fun D =>
      j_alp (pc := 2141) (e := 10) H.2.1 D rfl rfl ⟨rfl, rfl, rfl⟩ rfl fun q q2 D =>
      j_ivu (pc := 2142) (dd := 93) (a := [(0, h1 10 x0.toNat (wI (x3 + 1)).toNat), (0, h1 10 x0.toNat (wI (x3 + 2)).toNat), (0, h1 10 x0.toNat (wI (x3 + 3)).toNat)]) (rest := [(0, v2)]) H.2.1 D rfl rfl rfl rfl rfl (fun m8 v6 h5 e1 D =>
        have T := fj_run_ok _ _ _ _ _ _ H.1 e1
        have H := shp_st H T
        j_ieq (pc := 2145) D rfl (fun q =>
          fk_jump cut_720_2393 rfl rfl) (fun q D =>
          j_ic (pc := 2148) D rfl fun D =>
          j_zret D rt_720 (gy (by decide)))) (fun m8 q7 h5 e1 =>
        j_tx (hx_720 _))) (fun m4 q3 h1 e1 =>
      j_tx (hx_720 _))
theorem e_720_2150 (d : Nat) (x0 x1 x2 x3 : Int) {h : fi_H} (H : Shp h) : c_720_2150 d x0 x1 x2 x3 h =
  if h 0 x0.toNat 0 = 10 ∧ 0 ≤ wI (x3 + 1) ∧ wI (x3 + 1) < h 1 x0.toNat 0 then
  dv_ (fi_vt 94 (h 0 x1.toNat 0)) fun m4 => ca_ (fj_run d m4 h [(4, x1), (0, h 10 x0.toNat (wI (x3 + 1)).toNat)]) 0
    (fun v2 h1 =>
    if h1 0 x0.toNat 0 = 10 ∧ 0 ≤ wI (x3 + 1) ∧ wI (x3 + 1) < h1 1 x0.toNat 0 then
    dv_ (fi_vt 95 (h1 0 x2.toNat 0)) fun m8 => ca_ (fj_run d m8 h1 [(4, x2), (0, h1 10 x0.toNat (wI (x3 + 1)).toNat)]) 0
      (fun v6 h5 =>
      if v2 = v6 then
        c_720_2393 d x0 x1 x2 x3 h5
      else
        some (.inl (some (0, 0)), h5))
      (fun q7 h5 => tx_ q7 h5)
    else none)
    (fun q3 h1 => tx_ q3 h1)
  else none := by
  unfold c_720_2150
  exact
    have D : fk_D 720 [(2150, some [0, 1, 2, 3], .aload_n 1, 1, 0, 0, 0), (2151, none, .aload_n 0, 1, 0, 0, 0), (2152, none, .iload_n 3, 1, 0, 0, 0), (2153, none, .iconst 1, 1, 0, 1, 0), (2154, none, .iadd, 1, 0, 0, 0), (2155, none, .iaload, 1, 0, 0, 0), (2156, none, .invokevirtual 218, 3, 1, 94, 1), (2159, none, .aload_n 2, 1, 0, 0, 0), (2160, none, .aload_n 0, 1, 0, 0, 0), (2161, none, .iload_n 3, 1, 0, 0, 0), (2162, none, .iconst 1, 1, 0, 1, 0), (2163, none, .iadd, 1, 0, 0, 0), (2164, none, .iaload, 1, 0, 0, 0), (2165, none, .invokevirtual 221, 3, 1, 95, 1), (2168, none, .if_icmp .eq 225, 3, 2393, 0, 0), (2171, none, .iconst 0, 1, 0, 0, 0), (2172, none, .ireturn, 1, 0, 0, 0)] := fq_of2 cd_720 ow_720 cl_720 rfl (pc := 2150) (by decide +kernel)
    j_aldn (pc := 2150) D rfl rfl rfl fun D =>
    j_aldn (pc := 2151) D rfl rfl rfl fun D =>
    j_ildn (pc := 2152) D rfl rfl rfl fun D =>
    j_ic (pc := 2153) D rfl fun D =>
    j_iadd (pc := 2154) D rfl fun D =>
    j_alp (pc := 2155) (e := 10) H.2.1 D rfl rfl ⟨rfl, rfl, rfl⟩ rfl fun q q2 D =>
    j_ivu (pc := 2156) (dd := 94) (a := [(0, h 10 x0.toNat (wI (x3 + 1)).toNat)]) (rest := []) H.2.1 D rfl rfl rfl rfl rfl (fun m4 v2 h1 e1 D =>
      have T := fj_run_ok _ _ _ _ _ _ H.1 e1
      have H := shp_st H T
      j_aldn (pc := 2159) D rfl rfl rfl fun D =>
      j_aldn (pc := 2160) D rfl rfl rfl fun D =>
      j_ildn (pc := 2161) D rfl rfl rfl fun D =>
      j_ic (pc := 2162) D rfl fun D =>
      j_iadd (pc := 2163) D rfl fun D =>
      j_alp (pc := 2164) (e := 10) H.2.1 D rfl rfl ⟨rfl, rfl, rfl⟩ rfl fun q q2 D =>
      j_ivu (pc := 2165) (dd := 95) (a := [(0, h1 10 x0.toNat (wI (x3 + 1)).toNat)]) (rest := [(0, v2)]) H.2.1 D rfl rfl rfl rfl rfl (fun m8 v6 h5 e1 D =>
        have T := fj_run_ok _ _ _ _ _ _ H.1 e1
        have H := shp_st H T
        j_ieq (pc := 2168) D rfl (fun q =>
          fk_jump cut_720_2393 rfl rfl) (fun q D =>
          j_ic (pc := 2171) D rfl fun D =>
          j_zret D rt_720 (gy (by decide)))) (fun m8 q7 h5 e1 =>
        j_tx (hx_720 _))) (fun m4 q3 h1 e1 =>
      j_tx (hx_720 _))
theorem e_720_2173 (d : Nat) (x0 x1 x2 x3 : Int) {h : fi_H} (H : Shp h) : c_720_2173 d x0 x1 x2 x3 h =
  if h 0 x0.toNat 0 = 10 ∧ 0 ≤ wI (x3 + 1) ∧ wI (x3 + 1) < h 1 x0.toNat 0 then
  if h 0 x0.toNat 0 = 10 ∧ 0 ≤ wI (x3 + 2) ∧ wI (x3 + 2) < h 1 x0.toNat 0 then
  dv_ (fi_vt 96 (h 0 x1.toNat 0)) fun m4 => ca_ (fj_run d m4 h [(4, x1), (0, h 10 x0.toNat (wI (x3 + 1)).toNat), (0, h 10 x0.toNat (wI (x3 + 2)).toNat)]) 0
    (fun v2 h1 =>
    if h1 0 x0.toNat 0 = 10 ∧ 0 ≤ wI (x3 + 1) ∧ wI (x3 + 1) < h1 1 x0.toNat 0 then
    if h1 0 x0.toNat 0 = 10 ∧ 0 ≤ wI (x3 + 2) ∧ wI (x3 + 2) < h1 1 x0.toNat 0 then
    dv_ (fi_vt 97 (h1 0 x2.toNat 0)) fun m8 => ca_ (fj_run d m8 h1 [(4, x2), (0, h1 10 x0.toNat (wI (x3 + 1)).toNat), (0, h1 10 x0.toNat (wI (x3 + 2)).toNat)]) 0
      (fun v6 h5 =>
      if v2 = v6 then
        c_720_2393 d x0 x1 x2 x3 h5
      else
        some (.inl (some (0, 0)), h5))
      (fun q7 h5 => tx_ q7 h5)
    else none
    else none)
    (fun q3 h1 => tx_ q3 h1)
  else none
  else none := by
  unfold c_720_2173
  exact
    have D : fk_D 720 [(2173, some [0, 1, 2, 3], .aload_n 1, 1, 0, 0, 0), (2174, none, .aload_n 0, 1, 0, 0, 0), (2175, none, .iload_n 3, 1, 0, 0, 0), (2176, none, .iconst 1, 1, 0, 1, 0), (2177, none, .iadd, 1, 0, 0, 0), (2178, none, .iaload, 1, 0, 0, 0), (2179, none, .aload_n 0, 1, 0, 0, 0), (2180, none, .iload_n 3, 1, 0, 0, 0), (2181, none, .iconst 2, 1, 0, 2, 0), (2182, none, .iadd, 1, 0, 0, 0), (2183, none, .iaload, 1, 0, 0, 0), (2184, none, .invokevirtual 222, 3, 2, 96, 1), (2187, none, .aload_n 2, 1, 0, 0, 0), (2188, none, .aload_n 0, 1, 0, 0, 0), (2189, none, .iload_n 3, 1, 0, 0, 0), (2190, none, .iconst 1, 1, 0, 1, 0), (2191, none, .iadd, 1, 0, 0, 0), (2192, none, .iaload, 1, 0, 0, 0), (2193, none, .aload_n 0, 1, 0, 0, 0), (2194, none, .iload_n 3, 1, 0, 0, 0)] := fq_of2 cd_720 ow_720 cl_720 rfl (pc := 2173) (by decide +kernel)
    j_aldn (pc := 2173) D rfl rfl rfl fun D =>
    j_aldn (pc := 2174) D rfl rfl rfl fun D =>
    j_ildn (pc := 2175) D rfl rfl rfl fun D =>
    j_ic (pc := 2176) D rfl fun D =>
    j_iadd (pc := 2177) D rfl fun D =>
    j_alp (pc := 2178) (e := 10) H.2.1 D rfl rfl ⟨rfl, rfl, rfl⟩ rfl fun q q2 D =>
    j_aldn (pc := 2179) D rfl rfl rfl fun D =>
    j_ildn (pc := 2180) D rfl rfl rfl fun D =>
    j_ic (pc := 2181) D rfl fun D =>
    j_iadd (pc := 2182) D rfl fun D =>
    j_alp (pc := 2183) (e := 10) H.2.1 D rfl rfl ⟨rfl, rfl, rfl⟩ rfl fun q q2 D =>
    j_ivu (pc := 2184) (dd := 96) (a := [(0, h 10 x0.toNat (wI (x3 + 1)).toNat), (0, h 10 x0.toNat (wI (x3 + 2)).toNat)]) (rest := []) H.2.1 D rfl rfl rfl rfl rfl (fun m4 v2 h1 e1 D =>
      have T := fj_run_ok _ _ _ _ _ _ H.1 e1
      have H := shp_st H T
      j_aldn (pc := 2187) D rfl rfl rfl fun D =>
      j_aldn (pc := 2188) D rfl rfl rfl fun D =>
      j_ildn (pc := 2189) D rfl rfl rfl fun D =>
      j_ic (pc := 2190) D rfl fun D =>
      j_iadd (pc := 2191) D rfl fun D =>
      j_alp (pc := 2192) (e := 10) H.2.1 D rfl rfl ⟨rfl, rfl, rfl⟩ rfl fun q q2 D =>
      j_aldn (pc := 2193) D rfl rfl rfl fun D =>
      j_ildn (pc := 2194) D rfl rfl rfl fun D =>
      have D : fk_D 720 [(2195, none, .iconst 2, 1, 0, 2, 0), (2196, none, .iadd, 1, 0, 0, 0), (2197, none, .iaload, 1, 0, 0, 0), (2198, none, .invokevirtual 225, 3, 2, 97, 1), (2201, none, .if_icmp .eq 192, 3, 2393, 0, 0), (2204, none, .iconst 0, 1, 0, 0, 0), (2205, none, .ireturn, 1, 0, 0, 0)] := fq_of2 cd_720 ow_720 cl_720 rfl (pc := 2195) (by decide +kernel)
      j_ic (pc := 2195) D rfl fun D =>
      j_iadd (pc := 2196) D rfl fun D =>
      j_alp (pc := 2197) (e := 10) H.2.1 D rfl rfl ⟨rfl, rfl, rfl⟩ rfl fun q q2 D =>
      j_ivu (pc := 2198) (dd := 97) (a := [(0, h1 10 x0.toNat (wI (x3 + 1)).toNat), (0, h1 10 x0.toNat (wI (x3 + 2)).toNat)]) (rest := [(0, v2)]) H.2.1 D rfl rfl rfl rfl rfl (fun m8 v6 h5 e1 D =>
        have T := fj_run_ok _ _ _ _ _ _ H.1 e1
        have H := shp_st H T
        j_ieq (pc := 2201) D rfl (fun q =>
          fk_jump cut_720_2393 rfl rfl) (fun q D =>
          j_ic (pc := 2204) D rfl fun D =>
          j_zret D rt_720 (gy (by decide)))) (fun m8 q7 h5 e1 =>
        j_tx (hx_720 _))) (fun m4 q3 h1 e1 =>
      j_tx (hx_720 _))
theorem e_720_2206 (d : Nat) (x0 x1 x2 x3 : Int) {h : fi_H} (H : Shp h) : c_720_2206 d x0 x1 x2 x3 h =
  if h 0 x0.toNat 0 = 10 ∧ 0 ≤ wI (x3 + 1) ∧ wI (x3 + 1) < h 1 x0.toNat 0 then
  if h 0 x0.toNat 0 = 10 ∧ 0 ≤ wI (x3 + 2) ∧ wI (x3 + 2) < h 1 x0.toNat 0 then
  if h 0 x0.toNat 0 = 10 ∧ 0 ≤ wI (x3 + 3) ∧ wI (x3 + 3) < h 1 x0.toNat 0 then
  dv_ (fi_vt 98 (h 0 x1.toNat 0)) fun m4 => ca_ (fj_run d m4 h [(4, x1), (0, h 10 x0.toNat (wI (x3 + 1)).toNat), (0, h 10 x0.toNat (wI (x3 + 2)).toNat), (0, h 10 x0.toNat (wI (x3 + 3)).toNat)]) 0
    (fun v2 h1 =>
    if h1 0 x0.toNat 0 = 10 ∧ 0 ≤ wI (x3 + 1) ∧ wI (x3 + 1) < h1 1 x0.toNat 0 then
    if h1 0 x0.toNat 0 = 10 ∧ 0 ≤ wI (x3 + 2) ∧ wI (x3 + 2) < h1 1 x0.toNat 0 then
    if h1 0 x0.toNat 0 = 10 ∧ 0 ≤ wI (x3 + 3) ∧ wI (x3 + 3) < h1 1 x0.toNat 0 then
    dv_ (fi_vt 99 (h1 0 x2.toNat 0)) fun m8 => ca_ (fj_run d m8 h1 [(4, x2), (0, h1 10 x0.toNat (wI (x3 + 1)).toNat), (0, h1 10 x0.toNat (wI (x3 + 2)).toNat), (0, h1 10 x0.toNat (wI (x3 + 3)).toNat)]) 0
      (fun v6 h5 =>
      if v2 = v6 then
        c_720_2393 d x0 x1 x2 x3 h5
      else
        some (.inl (some (0, 0)), h5))
      (fun q7 h5 => tx_ q7 h5)
    else none
    else none
    else none)
    (fun q3 h1 => tx_ q3 h1)
  else none
  else none
  else none := by
  unfold c_720_2206
  exact
    have D : fk_D 720 [(2206, some [0, 1, 2, 3], .aload_n 1, 1, 0, 0, 0), (2207, none, .aload_n 0, 1, 0, 0, 0), (2208, none, .iload_n 3, 1, 0, 0, 0), (2209, none, .iconst 1, 1, 0, 1, 0), (2210, none, .iadd, 1, 0, 0, 0), (2211, none, .iaload, 1, 0, 0, 0), (2212, none, .aload_n 0, 1, 0, 0, 0), (2213, none, .iload_n 3, 1, 0, 0, 0), (2214, none, .iconst 2, 1, 0, 2, 0), (2215, none, .iadd, 1, 0, 0, 0), (2216, none, .iaload, 1, 0, 0, 0), (2217, none, .aload_n 0, 1, 0, 0, 0), (2218, none, .iload_n 3, 1, 0, 0, 0), (2219, none, .iconst 3, 1, 0, 3, 0), (2220, none, .iadd, 1, 0, 0, 0), (2221, none, .iaload, 1, 0, 0, 0), (2222, none, .invokevirtual 226, 3, 3, 98, 1), (2225, none, .aload_n 2, 1, 0, 0, 0), (2226, none, .aload_n 0, 1, 0, 0, 0), (2227, none, .iload_n 3, 1, 0, 0, 0)] := fq_of2 cd_720 ow_720 cl_720 rfl (pc := 2206) (by decide +kernel)
    j_aldn (pc := 2206) D rfl rfl rfl fun D =>
    j_aldn (pc := 2207) D rfl rfl rfl fun D =>
    j_ildn (pc := 2208) D rfl rfl rfl fun D =>
    j_ic (pc := 2209) D rfl fun D =>
    j_iadd (pc := 2210) D rfl fun D =>
    j_alp (pc := 2211) (e := 10) H.2.1 D rfl rfl ⟨rfl, rfl, rfl⟩ rfl fun q q2 D =>
    j_aldn (pc := 2212) D rfl rfl rfl fun D =>
    j_ildn (pc := 2213) D rfl rfl rfl fun D =>
    j_ic (pc := 2214) D rfl fun D =>
    j_iadd (pc := 2215) D rfl fun D =>
    j_alp (pc := 2216) (e := 10) H.2.1 D rfl rfl ⟨rfl, rfl, rfl⟩ rfl fun q q2 D =>
    j_aldn (pc := 2217) D rfl rfl rfl fun D =>
    j_ildn (pc := 2218) D rfl rfl rfl fun D =>
    j_ic (pc := 2219) D rfl fun D =>
    j_iadd (pc := 2220) D rfl fun D =>
    j_alp (pc := 2221) (e := 10) H.2.1 D rfl rfl ⟨rfl, rfl, rfl⟩ rfl fun q q2 D =>
    j_ivu (pc := 2222) (dd := 98) (a := [(0, h 10 x0.toNat (wI (x3 + 1)).toNat), (0, h 10 x0.toNat (wI (x3 + 2)).toNat), (0, h 10 x0.toNat (wI (x3 + 3)).toNat)]) (rest := []) H.2.1 D rfl rfl rfl rfl rfl (fun m4 v2 h1 e1 D =>
      have T := fj_run_ok _ _ _ _ _ _ H.1 e1
      have H := shp_st H T
      j_aldn (pc := 2225) D rfl rfl rfl fun D =>
      j_aldn (pc := 2226) D rfl rfl rfl fun D =>
      j_ildn (pc := 2227) D rfl rfl rfl fun D =>
      have D : fk_D 720 [(2228, none, .iconst 1, 1, 0, 1, 0), (2229, none, .iadd, 1, 0, 0, 0), (2230, none, .iaload, 1, 0, 0, 0), (2231, none, .aload_n 0, 1, 0, 0, 0), (2232, none, .iload_n 3, 1, 0, 0, 0), (2233, none, .iconst 2, 1, 0, 2, 0), (2234, none, .iadd, 1, 0, 0, 0), (2235, none, .iaload, 1, 0, 0, 0), (2236, none, .aload_n 0, 1, 0, 0, 0), (2237, none, .iload_n 3, 1, 0, 0, 0), (2238, none, .iconst 3, 1, 0, 3, 0), (2239, none, .iadd, 1, 0, 0, 0), (2240, none, .iaload, 1, 0, 0, 0), (2241, none, .invokevirtual 229, 3, 3, 99, 1), (2244, none, .if_icmp .eq 149, 3, 2393, 0, 0), (2247, none, .iconst 0, 1, 0, 0, 0), (2248, none, .ireturn, 1, 0, 0, 0)] := fq_of2 cd_720 ow_720 cl_720 rfl (pc := 2228) (by decide +kernel)
      j_ic (pc := 2228) D rfl fun D =>
      j_iadd (pc := 2229) D rfl fun D =>
      j_alp (pc := 2230) (e := 10) H.2.1 D rfl rfl ⟨rfl, rfl, rfl⟩ rfl fun q q2 D =>
      j_aldn (pc := 2231) D rfl rfl rfl fun D =>
      j_ildn (pc := 2232) D rfl rfl rfl fun D =>
      j_ic (pc := 2233) D rfl fun D =>
      j_iadd (pc := 2234) D rfl fun D =>
      j_alp (pc := 2235) (e := 10) H.2.1 D rfl rfl ⟨rfl, rfl, rfl⟩ rfl fun q q2 D =>
      j_aldn (pc := 2236) D rfl rfl rfl fun D =>
      j_ildn (pc := 2237) D rfl rfl rfl fun D =>
      j_ic (pc := 2238) D rfl fun D =>
      j_iadd (pc := 2239) D rfl fun D =>
      j_alp (pc := 2240) (e := 10) H.2.1 D rfl rfl ⟨rfl, rfl, rfl⟩ rfl fun q q2 D =>
      j_ivu (pc := 2241) (dd := 99) (a := [(0, h1 10 x0.toNat (wI (x3 + 1)).toNat), (0, h1 10 x0.toNat (wI (x3 + 2)).toNat), (0, h1 10 x0.toNat (wI (x3 + 3)).toNat)]) (rest := [(0, v2)]) H.2.1 D rfl rfl rfl rfl rfl (fun m8 v6 h5 e1 D =>
        have T := fj_run_ok _ _ _ _ _ _ H.1 e1
        have H := shp_st H T
        j_ieq (pc := 2244) D rfl (fun q =>
          fk_jump cut_720_2393 rfl rfl) (fun q D =>
          j_ic (pc := 2247) D rfl fun D =>
          j_zret D rt_720 (gy (by decide)))) (fun m8 q7 h5 e1 =>
        j_tx (hx_720 _))) (fun m4 q3 h1 e1 =>
      j_tx (hx_720 _))
theorem e_720_2249 (d : Nat) (x0 x1 x2 x3 : Int) {h : fi_H} (H : Shp h) : c_720_2249 d x0 x1 x2 x3 h =
  if h 0 x0.toNat 0 = 10 ∧ 0 ≤ wI (x3 + 1) ∧ wI (x3 + 1) < h 1 x0.toNat 0 then
  dv_ (fi_vt 100 (h 0 x1.toNat 0)) fun m4 => ca_ (fj_run d m4 h [(4, x1), (0, h 10 x0.toNat (wI (x3 + 1)).toNat)]) 0
    (fun v2 h1 =>
    if h1 0 x0.toNat 0 = 10 ∧ 0 ≤ wI (x3 + 1) ∧ wI (x3 + 1) < h1 1 x0.toNat 0 then
    dv_ (fi_vt 101 (h1 0 x2.toNat 0)) fun m8 => ca_ (fj_run d m8 h1 [(4, x2), (0, h1 10 x0.toNat (wI (x3 + 1)).toNat)]) 0
      (fun v6 h5 =>
      if v2 = v6 then
        c_720_2393 d x0 x1 x2 x3 h5
      else
        some (.inl (some (0, 0)), h5))
      (fun q7 h5 => tx_ q7 h5)
    else none)
    (fun q3 h1 => tx_ q3 h1)
  else none := by
  unfold c_720_2249
  exact
    have D : fk_D 720 [(2249, some [0, 1, 2, 3], .aload_n 1, 1, 0, 0, 0), (2250, none, .aload_n 0, 1, 0, 0, 0), (2251, none, .iload_n 3, 1, 0, 0, 0), (2252, none, .iconst 1, 1, 0, 1, 0), (2253, none, .iadd, 1, 0, 0, 0), (2254, none, .iaload, 1, 0, 0, 0), (2255, none, .invokevirtual 230, 3, 1, 100, 1), (2258, none, .aload_n 2, 1, 0, 0, 0), (2259, none, .aload_n 0, 1, 0, 0, 0), (2260, none, .iload_n 3, 1, 0, 0, 0), (2261, none, .iconst 1, 1, 0, 1, 0), (2262, none, .iadd, 1, 0, 0, 0), (2263, none, .iaload, 1, 0, 0, 0), (2264, none, .invokevirtual 233, 3, 1, 101, 1), (2267, none, .if_icmp .eq 126, 3, 2393, 0, 0), (2270, none, .iconst 0, 1, 0, 0, 0), (2271, none, .ireturn, 1, 0, 0, 0)] := fq_of2 cd_720 ow_720 cl_720 rfl (pc := 2249) (by decide +kernel)
    j_aldn (pc := 2249) D rfl rfl rfl fun D =>
    j_aldn (pc := 2250) D rfl rfl rfl fun D =>
    j_ildn (pc := 2251) D rfl rfl rfl fun D =>
    j_ic (pc := 2252) D rfl fun D =>
    j_iadd (pc := 2253) D rfl fun D =>
    j_alp (pc := 2254) (e := 10) H.2.1 D rfl rfl ⟨rfl, rfl, rfl⟩ rfl fun q q2 D =>
    j_ivu (pc := 2255) (dd := 100) (a := [(0, h 10 x0.toNat (wI (x3 + 1)).toNat)]) (rest := []) H.2.1 D rfl rfl rfl rfl rfl (fun m4 v2 h1 e1 D =>
      have T := fj_run_ok _ _ _ _ _ _ H.1 e1
      have H := shp_st H T
      j_aldn (pc := 2258) D rfl rfl rfl fun D =>
      j_aldn (pc := 2259) D rfl rfl rfl fun D =>
      j_ildn (pc := 2260) D rfl rfl rfl fun D =>
      j_ic (pc := 2261) D rfl fun D =>
      j_iadd (pc := 2262) D rfl fun D =>
      j_alp (pc := 2263) (e := 10) H.2.1 D rfl rfl ⟨rfl, rfl, rfl⟩ rfl fun q q2 D =>
      j_ivu (pc := 2264) (dd := 101) (a := [(0, h1 10 x0.toNat (wI (x3 + 1)).toNat)]) (rest := [(0, v2)]) H.2.1 D rfl rfl rfl rfl rfl (fun m8 v6 h5 e1 D =>
        have T := fj_run_ok _ _ _ _ _ _ H.1 e1
        have H := shp_st H T
        j_ieq (pc := 2267) D rfl (fun q =>
          fk_jump cut_720_2393 rfl rfl) (fun q D =>
          j_ic (pc := 2270) D rfl fun D =>
          j_zret D rt_720 (gy (by decide)))) (fun m8 q7 h5 e1 =>
        j_tx (hx_720 _))) (fun m4 q3 h1 e1 =>
      j_tx (hx_720 _))
theorem e_720_2272 (d : Nat) (x0 x1 x2 x3 : Int) {h : fi_H} (H : Shp h) : c_720_2272 d x0 x1 x2 x3 h =
  if h 0 x0.toNat 0 = 10 ∧ 0 ≤ wI (x3 + 1) ∧ wI (x3 + 1) < h 1 x0.toNat 0 then
  if h 0 x0.toNat 0 = 10 ∧ 0 ≤ wI (x3 + 2) ∧ wI (x3 + 2) < h 1 x0.toNat 0 then
  if h 0 x0.toNat 0 = 10 ∧ 0 ≤ wI (x3 + 3) ∧ wI (x3 + 3) < h 1 x0.toNat 0 then
  if h 0 x0.toNat 0 = 10 ∧ 0 ≤ wI (x3 + 4) ∧ wI (x3 + 4) < h 1 x0.toNat 0 then
  if h 0 x0.toNat 0 = 10 ∧ 0 ≤ wI (x3 + 5) ∧ wI (x3 + 5) < h 1 x0.toNat 0 then
  if h 0 x0.toNat 0 = 10 ∧ 0 ≤ wI (x3 + 6) ∧ wI (x3 + 6) < h 1 x0.toNat 0 then
  dv_ (fi_vt 102 (h 0 x1.toNat 0)) fun m4 => ca_ (fj_run d m4 h [(4, x1), (0, h 10 x0.toNat (wI (x3 + 1)).toNat), (0, h 10 x0.toNat (wI (x3 + 2)).toNat), (0, h 10 x0.toNat (wI (x3 + 3)).toNat), (0, h 10 x0.toNat (wI (x3 + 4)).toNat), (0, h 10 x0.toNat (wI (x3 + 5)).toNat), (0, h 10 x0.toNat (wI (x3 + 6)).toNat)]) 0
    (fun v2 h1 =>
    if h1 0 x0.toNat 0 = 10 ∧ 0 ≤ wI (x3 + 1) ∧ wI (x3 + 1) < h1 1 x0.toNat 0 then
    if h1 0 x0.toNat 0 = 10 ∧ 0 ≤ wI (x3 + 2) ∧ wI (x3 + 2) < h1 1 x0.toNat 0 then
    if h1 0 x0.toNat 0 = 10 ∧ 0 ≤ wI (x3 + 3) ∧ wI (x3 + 3) < h1 1 x0.toNat 0 then
    if h1 0 x0.toNat 0 = 10 ∧ 0 ≤ wI (x3 + 4) ∧ wI (x3 + 4) < h1 1 x0.toNat 0 then
    if h1 0 x0.toNat 0 = 10 ∧ 0 ≤ wI (x3 + 5) ∧ wI (x3 + 5) < h1 1 x0.toNat 0 then
    if h1 0 x0.toNat 0 = 10 ∧ 0 ≤ wI (x3 + 6) ∧ wI (x3 + 6) < h1 1 x0.toNat 0 then
    dv_ (fi_vt 103 (h1 0 x2.toNat 0)) fun m8 => ca_ (fj_run d m8 h1 [(4, x2), (0, h1 10 x0.toNat (wI (x3 + 1)).toNat), (0, h1 10 x0.toNat (wI (x3 + 2)).toNat), (0, h1 10 x0.toNat (wI (x3 + 3)).toNat), (0, h1 10 x0.toNat (wI (x3 + 4)).toNat), (0, h1 10 x0.toNat (wI (x3 + 5)).toNat), (0, h1 10 x0.toNat (wI (x3 + 6)).toNat)]) 0
      (fun v6 h5 =>
      if v2 = v6 then
        c_720_2393 d x0 x1 x2 x3 h5
      else
        some (.inl (some (0, 0)), h5))
      (fun q7 h5 => tx_ q7 h5)
    else none
    else none
    else none
    else none
    else none
    else none)
    (fun q3 h1 => tx_ q3 h1)
  else none
  else none
  else none
  else none
  else none
  else none := by
  unfold c_720_2272
  exact
    have D : fk_D 720 [(2272, some [0, 1, 2, 3], .aload_n 1, 1, 0, 0, 0), (2273, none, .aload_n 0, 1, 0, 0, 0), (2274, none, .iload_n 3, 1, 0, 0, 0), (2275, none, .iconst 1, 1, 0, 1, 0), (2276, none, .iadd, 1, 0, 0, 0), (2277, none, .iaload, 1, 0, 0, 0), (2278, none, .aload_n 0, 1, 0, 0, 0), (2279, none, .iload_n 3, 1, 0, 0, 0), (2280, none, .iconst 2, 1, 0, 2, 0), (2281, none, .iadd, 1, 0, 0, 0), (2282, none, .iaload, 1, 0, 0, 0), (2283, none, .aload_n 0, 1, 0, 0, 0), (2284, none, .iload_n 3, 1, 0, 0, 0), (2285, none, .iconst 3, 1, 0, 3, 0), (2286, none, .iadd, 1, 0, 0, 0), (2287, none, .iaload, 1, 0, 0, 0), (2288, none, .aload_n 0, 1, 0, 0, 0), (2289, none, .iload_n 3, 1, 0, 0, 0), (2290, none, .iconst 4, 1, 0, 4, 0), (2291, none, .iadd, 1, 0, 0, 0)] := fq_of2 cd_720 ow_720 cl_720 rfl (pc := 2272) (by decide +kernel)
    j_aldn (pc := 2272) D rfl rfl rfl fun D =>
    j_aldn (pc := 2273) D rfl rfl rfl fun D =>
    j_ildn (pc := 2274) D rfl rfl rfl fun D =>
    j_ic (pc := 2275) D rfl fun D =>
    j_iadd (pc := 2276) D rfl fun D =>
    j_alp (pc := 2277) (e := 10) H.2.1 D rfl rfl ⟨rfl, rfl, rfl⟩ rfl fun q q2 D =>
    j_aldn (pc := 2278) D rfl rfl rfl fun D =>
    j_ildn (pc := 2279) D rfl rfl rfl fun D =>
    j_ic (pc := 2280) D rfl fun D =>
    j_iadd (pc := 2281) D rfl fun D =>
    j_alp (pc := 2282) (e := 10) H.2.1 D rfl rfl ⟨rfl, rfl, rfl⟩ rfl fun q q2 D =>
    j_aldn (pc := 2283) D rfl rfl rfl fun D =>
    j_ildn (pc := 2284) D rfl rfl rfl fun D =>
    j_ic (pc := 2285) D rfl fun D =>
    j_iadd (pc := 2286) D rfl fun D =>
    j_alp (pc := 2287) (e := 10) H.2.1 D rfl rfl ⟨rfl, rfl, rfl⟩ rfl fun q q2 D =>
    j_aldn (pc := 2288) D rfl rfl rfl fun D =>
    j_ildn (pc := 2289) D rfl rfl rfl fun D =>
    j_ic (pc := 2290) D rfl fun D =>
    j_iadd (pc := 2291) D rfl fun D =>
    have D : fk_D 720 [(2292, none, .iaload, 1, 0, 0, 0), (2293, none, .aload_n 0, 1, 0, 0, 0), (2294, none, .iload_n 3, 1, 0, 0, 0), (2295, none, .iconst 5, 1, 0, 5, 0), (2296, none, .iadd, 1, 0, 0, 0), (2297, none, .iaload, 1, 0, 0, 0), (2298, none, .aload_n 0, 1, 0, 0, 0), (2299, none, .iload_n 3, 1, 0, 0, 0), (2300, none, .bipush 6, 2, 0, 6, 0), (2302, none, .iadd, 1, 0, 0, 0), (2303, none, .iaload, 1, 0, 0, 0), (2304, none, .invokevirtual 234, 3, 6, 102, 1), (2307, none, .aload_n 2, 1, 0, 0, 0), (2308, none, .aload_n 0, 1, 0, 0, 0), (2309, none, .iload_n 3, 1, 0, 0, 0), (2310, none, .iconst 1, 1, 0, 1, 0), (2311, none, .iadd, 1, 0, 0, 0), (2312, none, .iaload, 1, 0, 0, 0), (2313, none, .aload_n 0, 1, 0, 0, 0), (2314, none, .iload_n 3, 1, 0, 0, 0)] := fq_of2 cd_720 ow_720 cl_720 rfl (pc := 2292) (by decide +kernel)
    j_alp (pc := 2292) (e := 10) H.2.1 D rfl rfl ⟨rfl, rfl, rfl⟩ rfl fun q q2 D =>
    j_aldn (pc := 2293) D rfl rfl rfl fun D =>
    j_ildn (pc := 2294) D rfl rfl rfl fun D =>
    j_ic (pc := 2295) D rfl fun D =>
    j_iadd (pc := 2296) D rfl fun D =>
    j_alp (pc := 2297) (e := 10) H.2.1 D rfl rfl ⟨rfl, rfl, rfl⟩ rfl fun q q2 D =>
    j_aldn (pc := 2298) D rfl rfl rfl fun D =>
    j_ildn (pc := 2299) D rfl rfl rfl fun D =>
    j_bp (pc := 2300) D rfl fun D =>
    j_iadd (pc := 2302) D rfl fun D =>
    j_alp (pc := 2303) (e := 10) H.2.1 D rfl rfl ⟨rfl, rfl, rfl⟩ rfl fun q q2 D =>
    j_ivu (pc := 2304) (dd := 102) (a := [(0, h 10 x0.toNat (wI (x3 + 1)).toNat), (0, h 10 x0.toNat (wI (x3 + 2)).toNat), (0, h 10 x0.toNat (wI (x3 + 3)).toNat), (0, h 10 x0.toNat (wI (x3 + 4)).toNat), (0, h 10 x0.toNat (wI (x3 + 5)).toNat), (0, h 10 x0.toNat (wI (x3 + 6)).toNat)]) (rest := []) H.2.1 D rfl rfl rfl rfl rfl (fun m4 v2 h1 e1 D =>
      have T := fj_run_ok _ _ _ _ _ _ H.1 e1
      have H := shp_st H T
      j_aldn (pc := 2307) D rfl rfl rfl fun D =>
      j_aldn (pc := 2308) D rfl rfl rfl fun D =>
      j_ildn (pc := 2309) D rfl rfl rfl fun D =>
      j_ic (pc := 2310) D rfl fun D =>
      j_iadd (pc := 2311) D rfl fun D =>
      j_alp (pc := 2312) (e := 10) H.2.1 D rfl rfl ⟨rfl, rfl, rfl⟩ rfl fun q q2 D =>
      j_aldn (pc := 2313) D rfl rfl rfl fun D =>
      j_ildn (pc := 2314) D rfl rfl rfl fun D =>
      have D : fk_D 720 [(2315, none, .iconst 2, 1, 0, 2, 0), (2316, none, .iadd, 1, 0, 0, 0), (2317, none, .iaload, 1, 0, 0, 0), (2318, none, .aload_n 0, 1, 0, 0, 0), (2319, none, .iload_n 3, 1, 0, 0, 0), (2320, none, .iconst 3, 1, 0, 3, 0), (2321, none, .iadd, 1, 0, 0, 0), (2322, none, .iaload, 1, 0, 0, 0), (2323, none, .aload_n 0, 1, 0, 0, 0), (2324, none, .iload_n 3, 1, 0, 0, 0), (2325, none, .iconst 4, 1, 0, 4, 0), (2326, none, .iadd, 1, 0, 0, 0), (2327, none, .iaload, 1, 0, 0, 0), (2328, none, .aload_n 0, 1, 0, 0, 0), (2329, none, .iload_n 3, 1, 0, 0, 0), (2330, none, .iconst 5, 1, 0, 5, 0), (2331, none, .iadd, 1, 0, 0, 0), (2332, none, .iaload, 1, 0, 0, 0), (2333, none, .aload_n 0, 1, 0, 0, 0), (2334, none, .iload_n 3, 1, 0, 0, 0)] := fq_of2 cd_720 ow_720 cl_720 rfl (pc := 2315) (by decide +kernel)
      j_ic (pc := 2315) D rfl fun D =>
      j_iadd (pc := 2316) D rfl fun D =>
      j_alp (pc := 2317) (e := 10) H.2.1 D rfl rfl ⟨rfl, rfl, rfl⟩ rfl fun q q2 D =>
      j_aldn (pc := 2318) D rfl rfl rfl fun D =>
      j_ildn (pc := 2319) D rfl rfl rfl fun D =>
      j_ic (pc := 2320) D rfl fun D =>
      j_iadd (pc := 2321) D rfl fun D =>
      j_alp (pc := 2322) (e := 10) H.2.1 D rfl rfl ⟨rfl, rfl, rfl⟩ rfl fun q q2 D =>
      j_aldn (pc := 2323) D rfl rfl rfl fun D =>
      j_ildn (pc := 2324) D rfl rfl rfl fun D =>
      j_ic (pc := 2325) D rfl fun D =>
      j_iadd (pc := 2326) D rfl fun D =>
      j_alp (pc := 2327) (e := 10) H.2.1 D rfl rfl ⟨rfl, rfl, rfl⟩ rfl fun q q2 D =>
      j_aldn (pc := 2328) D rfl rfl rfl fun D =>
      j_ildn (pc := 2329) D rfl rfl rfl fun D =>
      j_ic (pc := 2330) D rfl fun D =>
      j_iadd (pc := 2331) D rfl fun D =>
      j_alp (pc := 2332) (e := 10) H.2.1 D rfl rfl ⟨rfl, rfl, rfl⟩ rfl fun q q2 D =>
      j_aldn (pc := 2333) D rfl rfl rfl fun D =>
      j_ildn (pc := 2334) D rfl rfl rfl fun D =>
      have D : fk_D 720 [(2335, none, .bipush 6, 2, 0, 6, 0), (2337, none, .iadd, 1, 0, 0, 0), (2338, none, .iaload, 1, 0, 0, 0), (2339, none, .invokevirtual 237, 3, 6, 103, 1), (2342, none, .if_icmp .eq 51, 3, 2393, 0, 0), (2345, none, .iconst 0, 1, 0, 0, 0), (2346, none, .ireturn, 1, 0, 0, 0)] := fq_of2 cd_720 ow_720 cl_720 rfl (pc := 2335) (by decide +kernel)
      j_bp (pc := 2335) D rfl fun D =>
      j_iadd (pc := 2337) D rfl fun D =>
      j_alp (pc := 2338) (e := 10) H.2.1 D rfl rfl ⟨rfl, rfl, rfl⟩ rfl fun q q2 D =>
      j_ivu (pc := 2339) (dd := 103) (a := [(0, h1 10 x0.toNat (wI (x3 + 1)).toNat), (0, h1 10 x0.toNat (wI (x3 + 2)).toNat), (0, h1 10 x0.toNat (wI (x3 + 3)).toNat), (0, h1 10 x0.toNat (wI (x3 + 4)).toNat), (0, h1 10 x0.toNat (wI (x3 + 5)).toNat), (0, h1 10 x0.toNat (wI (x3 + 6)).toNat)]) (rest := [(0, v2)]) H.2.1 D rfl rfl rfl rfl rfl (fun m8 v6 h5 e1 D =>
        have T := fj_run_ok _ _ _ _ _ _ H.1 e1
        have H := shp_st H T
        j_ieq (pc := 2342) D rfl (fun q =>
          fk_jump cut_720_2393 rfl rfl) (fun q D =>
          j_ic (pc := 2345) D rfl fun D =>
          j_zret D rt_720 (gy (by decide)))) (fun m8 q7 h5 e1 =>
        j_tx (hx_720 _))) (fun m4 q3 h1 e1 =>
      j_tx (hx_720 _))
theorem e_720_2347 (d : Nat) (x0 x1 x2 x3 : Int) {h : fi_H} (H : Shp h) : c_720_2347 d x0 x1 x2 x3 h =
  if h 0 x0.toNat 0 = 10 ∧ 0 ≤ wI (x3 + 1) ∧ wI (x3 + 1) < h 1 x0.toNat 0 then
  dv_ (fi_vt 104 (h 0 x1.toNat 0)) fun m4 => ca_ (fj_run d m4 h [(4, x1), (0, h 10 x0.toNat (wI (x3 + 1)).toNat)]) 0
    (fun v2 h1 =>
    if h1 0 x0.toNat 0 = 10 ∧ 0 ≤ wI (x3 + 1) ∧ wI (x3 + 1) < h1 1 x0.toNat 0 then
    dv_ (fi_vt 105 (h1 0 x2.toNat 0)) fun m8 => ca_ (fj_run d m8 h1 [(4, x2), (0, h1 10 x0.toNat (wI (x3 + 1)).toNat)]) 0
      (fun v6 h5 =>
      if v2 = v6 then
        c_720_2393 d x0 x1 x2 x3 h5
      else
        some (.inl (some (0, 0)), h5))
      (fun q7 h5 => tx_ q7 h5)
    else none)
    (fun q3 h1 => tx_ q3 h1)
  else none := by
  unfold c_720_2347
  exact
    have D : fk_D 720 [(2347, some [0, 1, 2, 3], .aload_n 1, 1, 0, 0, 0), (2348, none, .aload_n 0, 1, 0, 0, 0), (2349, none, .iload_n 3, 1, 0, 0, 0), (2350, none, .iconst 1, 1, 0, 1, 0), (2351, none, .iadd, 1, 0, 0, 0), (2352, none, .iaload, 1, 0, 0, 0), (2353, none, .invokevirtual 238, 3, 1, 104, 1), (2356, none, .aload_n 2, 1, 0, 0, 0), (2357, none, .aload_n 0, 1, 0, 0, 0), (2358, none, .iload_n 3, 1, 0, 0, 0), (2359, none, .iconst 1, 1, 0, 1, 0), (2360, none, .iadd, 1, 0, 0, 0), (2361, none, .iaload, 1, 0, 0, 0), (2362, none, .invokevirtual 241, 3, 1, 105, 1), (2365, none, .if_icmp .eq 28, 3, 2393, 0, 0), (2368, none, .iconst 0, 1, 0, 0, 0), (2369, none, .ireturn, 1, 0, 0, 0)] := fq_of2 cd_720 ow_720 cl_720 rfl (pc := 2347) (by decide +kernel)
    j_aldn (pc := 2347) D rfl rfl rfl fun D =>
    j_aldn (pc := 2348) D rfl rfl rfl fun D =>
    j_ildn (pc := 2349) D rfl rfl rfl fun D =>
    j_ic (pc := 2350) D rfl fun D =>
    j_iadd (pc := 2351) D rfl fun D =>
    j_alp (pc := 2352) (e := 10) H.2.1 D rfl rfl ⟨rfl, rfl, rfl⟩ rfl fun q q2 D =>
    j_ivu (pc := 2353) (dd := 104) (a := [(0, h 10 x0.toNat (wI (x3 + 1)).toNat)]) (rest := []) H.2.1 D rfl rfl rfl rfl rfl (fun m4 v2 h1 e1 D =>
      have T := fj_run_ok _ _ _ _ _ _ H.1 e1
      have H := shp_st H T
      j_aldn (pc := 2356) D rfl rfl rfl fun D =>
      j_aldn (pc := 2357) D rfl rfl rfl fun D =>
      j_ildn (pc := 2358) D rfl rfl rfl fun D =>
      j_ic (pc := 2359) D rfl fun D =>
      j_iadd (pc := 2360) D rfl fun D =>
      j_alp (pc := 2361) (e := 10) H.2.1 D rfl rfl ⟨rfl, rfl, rfl⟩ rfl fun q q2 D =>
      j_ivu (pc := 2362) (dd := 105) (a := [(0, h1 10 x0.toNat (wI (x3 + 1)).toNat)]) (rest := [(0, v2)]) H.2.1 D rfl rfl rfl rfl rfl (fun m8 v6 h5 e1 D =>
        have T := fj_run_ok _ _ _ _ _ _ H.1 e1
        have H := shp_st H T
        j_ieq (pc := 2365) D rfl (fun q =>
          fk_jump cut_720_2393 rfl rfl) (fun q D =>
          j_ic (pc := 2368) D rfl fun D =>
          j_zret D rt_720 (gy (by decide)))) (fun m8 q7 h5 e1 =>
        j_tx (hx_720 _))) (fun m4 q3 h1 e1 =>
      j_tx (hx_720 _))
theorem e_720_2370 (d : Nat) (x0 x1 x2 x3 : Int) {h : fi_H} (H : Shp h) : c_720_2370 d x0 x1 x2 x3 h =
  if h 0 x0.toNat 0 = 10 ∧ 0 ≤ wI (x3 + 1) ∧ wI (x3 + 1) < h 1 x0.toNat 0 then
  dv_ (fi_vt 106 (h 0 x1.toNat 0)) fun m4 => ca_ (fj_run d m4 h [(4, x1), (0, h 10 x0.toNat (wI (x3 + 1)).toNat)]) 0
    (fun v2 h1 =>
    if h1 0 x0.toNat 0 = 10 ∧ 0 ≤ wI (x3 + 1) ∧ wI (x3 + 1) < h1 1 x0.toNat 0 then
    dv_ (fi_vt 107 (h1 0 x2.toNat 0)) fun m8 => ca_ (fj_run d m8 h1 [(4, x2), (0, h1 10 x0.toNat (wI (x3 + 1)).toNat)]) 0
      (fun v6 h5 =>
      if v2 = v6 then
        c_720_2393 d x0 x1 x2 x3 h5
      else
        some (.inl (some (0, 0)), h5))
      (fun q7 h5 => tx_ q7 h5)
    else none)
    (fun q3 h1 => tx_ q3 h1)
  else none := by
  unfold c_720_2370
  exact
    have D : fk_D 720 [(2370, some [0, 1, 2, 3], .aload_n 1, 1, 0, 0, 0), (2371, none, .aload_n 0, 1, 0, 0, 0), (2372, none, .iload_n 3, 1, 0, 0, 0), (2373, none, .iconst 1, 1, 0, 1, 0), (2374, none, .iadd, 1, 0, 0, 0), (2375, none, .iaload, 1, 0, 0, 0), (2376, none, .invokevirtual 242, 3, 1, 106, 1), (2379, none, .aload_n 2, 1, 0, 0, 0), (2380, none, .aload_n 0, 1, 0, 0, 0), (2381, none, .iload_n 3, 1, 0, 0, 0), (2382, none, .iconst 1, 1, 0, 1, 0), (2383, none, .iadd, 1, 0, 0, 0), (2384, none, .iaload, 1, 0, 0, 0), (2385, none, .invokevirtual 245, 3, 1, 107, 1), (2388, none, .if_icmp .eq 5, 3, 2393, 0, 0), (2391, none, .iconst 0, 1, 0, 0, 0), (2392, none, .ireturn, 1, 0, 0, 0)] := fq_of2 cd_720 ow_720 cl_720 rfl (pc := 2370) (by decide +kernel)
    j_aldn (pc := 2370) D rfl rfl rfl fun D =>
    j_aldn (pc := 2371) D rfl rfl rfl fun D =>
    j_ildn (pc := 2372) D rfl rfl rfl fun D =>
    j_ic (pc := 2373) D rfl fun D =>
    j_iadd (pc := 2374) D rfl fun D =>
    j_alp (pc := 2375) (e := 10) H.2.1 D rfl rfl ⟨rfl, rfl, rfl⟩ rfl fun q q2 D =>
    j_ivu (pc := 2376) (dd := 106) (a := [(0, h 10 x0.toNat (wI (x3 + 1)).toNat)]) (rest := []) H.2.1 D rfl rfl rfl rfl rfl (fun m4 v2 h1 e1 D =>
      have T := fj_run_ok _ _ _ _ _ _ H.1 e1
      have H := shp_st H T
      j_aldn (pc := 2379) D rfl rfl rfl fun D =>
      j_aldn (pc := 2380) D rfl rfl rfl fun D =>
      j_ildn (pc := 2381) D rfl rfl rfl fun D =>
      j_ic (pc := 2382) D rfl fun D =>
      j_iadd (pc := 2383) D rfl fun D =>
      j_alp (pc := 2384) (e := 10) H.2.1 D rfl rfl ⟨rfl, rfl, rfl⟩ rfl fun q q2 D =>
      j_ivu (pc := 2385) (dd := 107) (a := [(0, h1 10 x0.toNat (wI (x3 + 1)).toNat)]) (rest := [(0, v2)]) H.2.1 D rfl rfl rfl rfl rfl (fun m8 v6 h5 e1 D =>
        have T := fj_run_ok _ _ _ _ _ _ H.1 e1
        have H := shp_st H T
        j_ieq (pc := 2388) D rfl (fun q =>
          fk_jump cut_720_2393 rfl rfl) (fun q D =>
          j_ic (pc := 2391) D rfl fun D =>
          j_zret D rt_720 (gy (by decide)))) (fun m8 q7 h5 e1 =>
        j_tx (hx_720 _))) (fun m4 q3 h1 e1 =>
      j_tx (hx_720 _))
theorem e_720_2393 (d : Nat) (x0 x1 x2 x3 : Int) {h : fi_H} (H : Shp h) : c_720_2393 d x0 x1 x2 x3 h =
  c_720_18 d x0 x1 x2 (wI (x3 + 10)) h := by
  unfold c_720_2393
  exact
    have D : fk_D 720 [(2393, some [0, 1, 2, 3], .iinc 3 10, 3, 0, 10, 0), (2396, none, .goto (-2378), 3, 18, 0, 0)] := fq_of2 cd_720 ow_720 cl_720 rfl (pc := 2393) (by decide +kernel)
    j_inc (pc := 2393) (L' := [(3, (0, wI (x3 + 10))), (0, (4, x0)), (1, (4, x1)), (2, (4, x2))]) D rfl rfl rfl (by decide +kernel) rfl fun D =>
    j_goto (pc := 2396) D rfl <|
    fk_jump cut_720_18 rfl rfl
theorem m_720 (d : Nat) (x0 : Int) {h : fi_H} (H : Shp h) : fj_run (d + 1) 720 h [(4, x0)] =
  nw_ h 100 110 0 fun r1 h2 =>
  cv_ (fj_run d 89 h2 [(4, r1)])
    (fun h3 =>
    nw_ h3 129 189 0 fun r6 h7 =>
    cv_ (fj_run d 482 h7 [(4, r6)])
      (fun h8 =>
      c_720_18 d x0 r1 r6 0 h8)
      (fun q10 h8 => tx_ q10 h8))
    (fun q5 h3 => tx_ q5 h3) := by
  rw [fj_run_eq d (by decide) h [(4, x0)] (Nat.le_of_ble_eq_true (by rw [nl_720]; rfl))]
  show gG (fj_run d) 720 0 [(0, (4, x0))] [] h = _
  exact
    have D : fk_D 720 [(0, none, .new 7, 3, 100, 110, 0), (3, none, .dup, 1, 0, 0, 0), (4, none, .invokespecial 9, 3, 0, 89, 0), (7, none, .astore_n 1, 1, 0, 0, 0), (8, none, .new 10, 3, 129, 189, 0), (11, none, .dup, 1, 0, 0, 0), (12, none, .invokespecial 12, 3, 0, 482, 0), (15, none, .astore_n 2, 1, 0, 0, 0), (16, none, .iconst 0, 1, 0, 0, 0), (17, none, .istore_n 3, 1, 0, 0, 0)] := fq_of2 cd_720 ow_720 cl_720 rfl (pc := 0) (by decide +kernel)
    j_new (pc := 0) D rfl fun r1 h2 er eh2 S D =>
    have gt_r1 := nw_gt H.1 er
    have kc_r1 := nw_cls H.1 er eh2
    have T := fj_hs_ok H.1 S
    have H := shp_st H T
    j_sh (pc := 3) D rfl rfl rfl fun D =>
    j_spv (pc := 4) (m := 89) (a := []) (rest := [(4, r1)]) D rfl rfl rfl rfl (by rw [show h2 0 r1.toNat 0 = 100 from kc_r1]; decide) (gt_nz gt_r1) (fun h3 e1 D =>
      have T := fj_run_ok _ _ _ _ _ _ H.1 e1
      have kc_r1 := cls_st H.1 T.2 kc_r1 (by decide)
      have H := shp_st H T
      j_astn (pc := 7) (L' := [(1, (4, r1)), (0, (4, x0))]) D rfl nl_720 rfl rfl fun D =>
      j_new (pc := 8) D rfl fun r6 h7 er eh7 S D =>
      have gt_r6 := nw_gt H.1 er
      have kc_r6 := nw_cls H.1 er eh7
      have T := fj_hs_ok H.1 S
      have kc_r1 := cls_st H.1 T.2 kc_r1 (by decide)
      have H := shp_st H T
      j_sh (pc := 11) D rfl rfl rfl fun D =>
      j_spv (pc := 12) (m := 482) (a := []) (rest := [(4, r6)]) D rfl rfl rfl rfl (by rw [show h7 0 r6.toNat 0 = 129 from kc_r6]; decide) (gt_nz gt_r6) (fun h8 e1 D =>
        have T := fj_run_ok _ _ _ _ _ _ H.1 e1
        have kc_r1 := cls_st H.1 T.2 kc_r1 (by decide)
        have kc_r6 := cls_st H.1 T.2 kc_r6 (by decide)
        have H := shp_st H T
        j_astn (pc := 15) (L' := [(2, (4, r6)), (1, (4, r1)), (0, (4, x0))]) D rfl nl_720 rfl rfl fun D =>
        j_ic (pc := 16) D rfl fun D =>
        j_istn (pc := 17) (L' := [(3, (0, 0)), (2, (4, r6)), (1, (4, r1)), (0, (4, x0))]) D rfl nl_720 rfl rfl fun D =>
        fk_jump cut_720_18 rfl rfl) (fun q10 h8 e1 =>
        j_tx (hx_720 _))) (fun q5 h3 e1 =>
      j_tx (hx_720 _))
