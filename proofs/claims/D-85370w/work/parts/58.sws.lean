section
/-! printed by gen/sw.py: what the switches over words come to -/
set_option maxRecDepth 100000
def tb_168 : List (Int × List Int × Int) := [(-2114201671, [115, 97, 116, 117, 114, 100, 97, 121], 11), (-1310300822, [101, 97, 115, 116, 101, 114], 2), (-1289550567, [101, 120, 99, 101, 112, 116], 35), (-1266285217, [102, 114, 105, 100, 97, 121], 10), (-1218133446, [116, 111, 103, 101, 116, 104, 101, 114], 63), (-1068502768, [109, 111, 110, 100, 97, 121], 6), (-1068487181, [109, 111, 110, 116, 104, 115], 29), (-991716523, [112, 101, 114, 115, 111, 110], 23), (-977343923, [116, 117, 101, 115, 100, 97, 121], 7), (-899648223, [115, 108, 105, 99, 101, 115], 61), (-891985998, [115, 116, 114, 105, 107, 101], 57), (-891186736, [115, 117, 110, 100, 97, 121], 12), (-732377866, [97, 114, 116, 105, 99, 108, 101], 33), (-606534881, [115, 109, 97, 108, 108, 101, 115, 116], 52), (-216634360, [98, 101, 116, 119, 101, 101, 110], 62), (3370, [105, 115], 36), (3543, [111, 102], 5), (3551, [111, 110], 42), (3555, [111, 114], 38), (3739, [117, 112], 24), (96417, [97, 100, 100], 59), (96673, [97, 108, 108], 50), (96727, [97, 110, 100], 39), (96748, [97, 110, 121], 49), (99228, [100, 97, 121], 43), (103066, [104, 97, 115], 47), (109267, [110, 111, 116], 40), (111375, [112, 117, 116], 58), (112794, [114, 101, 109], 41), (114251, [115, 117, 109], 48), (3076014, [100, 97, 116, 101], 20), (3076183, [100, 97, 121, 115], 28), (3089570, [100, 111, 119, 110], 25), (3116345, [101, 108, 115, 101], 15), (3125530, [101, 118, 101, 110], 27), (3135084, [102, 97, 99, 116], 13), (3151786, [102, 114, 111, 109], 34), (3314326, [108, 97, 115, 116], 4), (3377192, [110, 101, 97, 114], 26), (3423444, [111, 118, 101, 114], 46), (3444122, [112, 108, 117, 115], 0), (3493088, [114, 97, 116, 101], 19), (3496350, [114, 101, 97, 108], 22), (3526476, [115, 101, 108, 102], 44), (3536714, [115, 112, 97, 110], 21), (3556460, [116, 101, 114, 109], 14), (3569038, [116, 114, 117, 101], 31), (3625364, [118, 111, 105, 100], 55), (3648314, [119, 104, 101, 110], 37), (92929327, [97, 109, 101, 110, 100], 56), (94851343, [99, 111, 117, 110, 116], 17), (97196323, [102, 97, 108, 115, 101], 32), (97440432, [102, 105, 114, 115, 116], 3), (101304457, [106, 111, 105, 110, 115], 54), (102865796, [108, 101, 118, 101, 108], 60), (103901296, [109, 105, 110, 117, 115], 1), (104079552, [109, 111, 110, 101, 121], 18), (109757585, [115, 116, 97, 116, 101], 45), (110115790, [116, 97, 98, 108, 101], 53), (110640747, [116, 114, 117, 116, 104], 16), (111443806, [117, 110, 116, 105, 108], 65), (114851798, [121, 101, 97, 114, 115], 30), (201724889, [103, 114, 101, 97, 116, 101, 115, 116], 51), (917264036, [119, 105, 116, 104, 100, 114, 97, 119, 110], 64), (1393530710, [119, 101, 100, 110, 101, 115, 100, 97, 121], 8), (1572055514, [116, 104, 117, 114, 115, 100, 97, 121], 9)]
theorem tb_168_ok : tb_ok tb_168 = true := by decide +kernel
theorem sw_168 (d : Nat) {h : fi_H} (H : Hp h) {s : Int} {k : Nat} {c : Nat → Int} (S : StrC h s k c) (x1 : Int) : (
  if hsh c k = (-2114201671) then c_168_707 (d + 3) x1 s (-1) h else
  if hsh c k = (-1310300822) then c_168_576 (d + 3) x1 s (-1) h else
  if hsh c k = (-1289550567) then c_168_1086 (d + 3) x1 s (-1) h else
  if hsh c k = (-1266285217) then c_168_692 (d + 3) x1 s (-1) h else
  if hsh c k = (-1218133446) then c_168_1534 (d + 3) x1 s (-1) h else
  if hsh c k = (-1068502768) then c_168_632 (d + 3) x1 s (-1) h else
  if hsh c k = (-1068487181) then c_168_990 (d + 3) x1 s (-1) h else
  if hsh c k = (-991716523) then c_168_894 (d + 3) x1 s (-1) h else
  if hsh c k = (-977343923) then c_168_647 (d + 3) x1 s (-1) h else
  if hsh c k = (-899648223) then c_168_1502 (d + 3) x1 s (-1) h else
  if hsh c k = (-891985998) then c_168_1438 (d + 3) x1 s (-1) h else
  if hsh c k = (-891186736) then c_168_722 (d + 3) x1 s (-1) h else
  if hsh c k = (-732377866) then c_168_1054 (d + 3) x1 s (-1) h else
  if hsh c k = (-606534881) then c_168_1358 (d + 3) x1 s (-1) h else
  if hsh c k = (-216634360) then c_168_1518 (d + 3) x1 s (-1) h else
  if hsh c k = 3370 then c_168_1102 (d + 3) x1 s (-1) h else
  if hsh c k = 3543 then c_168_618 (d + 3) x1 s (-1) h else
  if hsh c k = 3551 then c_168_1198 (d + 3) x1 s (-1) h else
  if hsh c k = 3555 then c_168_1134 (d + 3) x1 s (-1) h else
  if hsh c k = 3739 then c_168_910 (d + 3) x1 s (-1) h else
  if hsh c k = 96417 then c_168_1470 (d + 3) x1 s (-1) h else
  if hsh c k = 96673 then c_168_1326 (d + 3) x1 s (-1) h else
  if hsh c k = 96727 then c_168_1150 (d + 3) x1 s (-1) h else
  if hsh c k = 96748 then c_168_1310 (d + 3) x1 s (-1) h else
  if hsh c k = 99228 then c_168_1214 (d + 3) x1 s (-1) h else
  if hsh c k = 103066 then c_168_1278 (d + 3) x1 s (-1) h else
  if hsh c k = 109267 then c_168_1166 (d + 3) x1 s (-1) h else
  if hsh c k = 111375 then c_168_1454 (d + 3) x1 s (-1) h else
  if hsh c k = 112794 then c_168_1182 (d + 3) x1 s (-1) h else
  if hsh c k = 114251 then c_168_1294 (d + 3) x1 s (-1) h else
  if hsh c k = 3076014 then c_168_846 (d + 3) x1 s (-1) h else
  if hsh c k = 3076183 then c_168_974 (d + 3) x1 s (-1) h else
  if hsh c k = 3089570 then c_168_926 (d + 3) x1 s (-1) h else
  if hsh c k = 3116345 then c_168_767 (d + 3) x1 s (-1) h else
  if hsh c k = 3125530 then c_168_958 (d + 3) x1 s (-1) h else
  if hsh c k = 3135084 then c_168_737 (d + 3) x1 s (-1) h else
  if hsh c k = 3151786 then c_168_1070 (d + 3) x1 s (-1) h else
  if hsh c k = 3314326 then c_168_604 (d + 3) x1 s (-1) h else
  if hsh c k = 3377192 then c_168_942 (d + 3) x1 s (-1) h else
  if hsh c k = 3423444 then c_168_1262 (d + 3) x1 s (-1) h else
  if hsh c k = 3444122 then c_168_548 (d + 3) x1 s (-1) h else
  if hsh c k = 3493088 then c_168_830 (d + 3) x1 s (-1) h else
  if hsh c k = 3496350 then c_168_878 (d + 3) x1 s (-1) h else
  if hsh c k = 3526476 then c_168_1230 (d + 3) x1 s (-1) h else
  if hsh c k = 3536714 then c_168_862 (d + 3) x1 s (-1) h else
  if hsh c k = 3556460 then c_168_752 (d + 3) x1 s (-1) h else
  if hsh c k = 3569038 then c_168_1022 (d + 3) x1 s (-1) h else
  if hsh c k = 3625364 then c_168_1406 (d + 3) x1 s (-1) h else
  if hsh c k = 3648314 then c_168_1118 (d + 3) x1 s (-1) h else
  if hsh c k = 92929327 then c_168_1422 (d + 3) x1 s (-1) h else
  if hsh c k = 94851343 then c_168_798 (d + 3) x1 s (-1) h else
  if hsh c k = 97196323 then c_168_1038 (d + 3) x1 s (-1) h else
  if hsh c k = 97440432 then c_168_590 (d + 3) x1 s (-1) h else
  if hsh c k = 101304457 then c_168_1390 (d + 3) x1 s (-1) h else
  if hsh c k = 102865796 then c_168_1486 (d + 3) x1 s (-1) h else
  if hsh c k = 103901296 then c_168_562 (d + 3) x1 s (-1) h else
  if hsh c k = 104079552 then c_168_814 (d + 3) x1 s (-1) h else
  if hsh c k = 109757585 then c_168_1246 (d + 3) x1 s (-1) h else
  if hsh c k = 110115790 then c_168_1374 (d + 3) x1 s (-1) h else
  if hsh c k = 110640747 then c_168_782 (d + 3) x1 s (-1) h else
  if hsh c k = 111443806 then c_168_1566 (d + 3) x1 s (-1) h else
  if hsh c k = 114851798 then c_168_1006 (d + 3) x1 s (-1) h else
  if hsh c k = 201724889 then c_168_1342 (d + 3) x1 s (-1) h else
  if hsh c k = 917264036 then c_168_1550 (d + 3) x1 s (-1) h else
  if hsh c k = 1393530710 then c_168_662 (d + 3) x1 s (-1) h else
  if hsh c k = 1572055514 then c_168_677 (d + 3) x1 s (-1) h else
  c_168_1579 (d + 3) x1 (-1) h) = c_168_1579 (d + 3) x1 (sidx tb_168 k c) h := by
  have f0 : c_168_707 (d + 3) x1 s (-1) h = if eqL k c [115, 97, 116, 117, 114, 100, 97, 121] = true then c_168_1579 (d + 3) x1 11 h else c_168_1579 (d + 3) x1 (-1) h := by
    rw [e_168_707 (d + 3) _ _ _ H.1, S.2.1, show fi_vt 216 131 = some 64 from rfl, dv_s, kS_eq d H S (li_191 H).1, ca_ret, ite0]; rfl
  have f1 : c_168_576 (d + 3) x1 s (-1) h = if eqL k c [101, 97, 115, 116, 101, 114] = true then c_168_1579 (d + 3) x1 2 h else c_168_1579 (d + 3) x1 (-1) h := by
    rw [e_168_576 (d + 3) _ _ _ H.1, S.2.1, show fi_vt 216 131 = some 64 from rfl, dv_s, kS_eq d H S (li_177 H).1, ca_ret, ite0]; rfl
  have f2 : c_168_1086 (d + 3) x1 s (-1) h = if eqL k c [101, 120, 99, 101, 112, 116] = true then c_168_1579 (d + 3) x1 35 h else c_168_1579 (d + 3) x1 (-1) h := by
    rw [e_168_1086 (d + 3) _ _ _ H.1, S.2.1, show fi_vt 216 131 = some 64 from rfl, dv_s, kS_eq d H S (li_217 H).1, ca_ret, ite0]; rfl
  have f3 : c_168_692 (d + 3) x1 s (-1) h = if eqL k c [102, 114, 105, 100, 97, 121] = true then c_168_1579 (d + 3) x1 10 h else c_168_1579 (d + 3) x1 (-1) h := by
    rw [e_168_692 (d + 3) _ _ _ H.1, S.2.1, show fi_vt 216 131 = some 64 from rfl, dv_s, kS_eq d H S (li_189 H).1, ca_ret, ite0]; rfl
  have f4 : c_168_1534 (d + 3) x1 s (-1) h = if eqL k c [116, 111, 103, 101, 116, 104, 101, 114] = true then c_168_1579 (d + 3) x1 63 h else c_168_1579 (d + 3) x1 (-1) h := by
    rw [e_168_1534 (d + 3) _ _ _ H.1, S.2.1, show fi_vt 216 131 = some 64 from rfl, dv_s, kS_eq d H S (li_159 H).1, ca_ret, ite0]; rfl
  have f5 : c_168_632 (d + 3) x1 s (-1) h = if eqL k c [109, 111, 110, 100, 97, 121] = true then c_168_1579 (d + 3) x1 6 h else c_168_1579 (d + 3) x1 (-1) h := by
    rw [e_168_632 (d + 3) _ _ _ H.1, S.2.1, show fi_vt 216 131 = some 64 from rfl, dv_s, kS_eq d H S (li_181 H).1, ca_ret, ite0]; rfl
  have f6 : c_168_990 (d + 3) x1 s (-1) h = if eqL k c [109, 111, 110, 116, 104, 115] = true then c_168_1579 (d + 3) x1 29 h else c_168_1579 (d + 3) x1 (-1) h := by
    rw [e_168_990 (d + 3) _ _ _ H.1, S.2.1, show fi_vt 216 131 = some 64 from rfl, dv_s, kS_eq d H S (li_209 H).1, ca_ret, ite0]; rfl
  have f7 : c_168_894 (d + 3) x1 s (-1) h = if eqL k c [112, 101, 114, 115, 111, 110] = true then c_168_1579 (d + 3) x1 23 h else c_168_1579 (d + 3) x1 (-1) h := by
    rw [e_168_894 (d + 3) _ _ _ H.1, S.2.1, show fi_vt 216 131 = some 64 from rfl, dv_s, kS_eq d H S (li_205 H).1, ca_ret, ite0]; rfl
  have f8 : c_168_647 (d + 3) x1 s (-1) h = if eqL k c [116, 117, 101, 115, 100, 97, 121] = true then c_168_1579 (d + 3) x1 7 h else c_168_1579 (d + 3) x1 (-1) h := by
    rw [e_168_647 (d + 3) _ _ _ H.1, S.2.1, show fi_vt 216 131 = some 64 from rfl, dv_s, kS_eq d H S (li_183 H).1, ca_ret, ite0]; rfl
  have f9 : c_168_1502 (d + 3) x1 s (-1) h = if eqL k c [115, 108, 105, 99, 101, 115] = true then c_168_1579 (d + 3) x1 61 h else c_168_1579 (d + 3) x1 (-1) h := by
    rw [e_168_1502 (d + 3) _ _ _ H.1, S.2.1, show fi_vt 216 131 = some 64 from rfl, dv_s, kS_eq d H S (li_257 H).1, ca_ret, ite0]; rfl
  have f10 : c_168_1438 (d + 3) x1 s (-1) h = if eqL k c [115, 116, 114, 105, 107, 101] = true then c_168_1579 (d + 3) x1 57 h else c_168_1579 (d + 3) x1 (-1) h := by
    rw [e_168_1438 (d + 3) _ _ _ H.1, S.2.1, show fi_vt 216 131 = some 64 from rfl, dv_s, kS_eq d H S (li_249 H).1, ca_ret, ite0]; rfl
  have f11 : c_168_722 (d + 3) x1 s (-1) h = if eqL k c [115, 117, 110, 100, 97, 121] = true then c_168_1579 (d + 3) x1 12 h else c_168_1579 (d + 3) x1 (-1) h := by
    rw [e_168_722 (d + 3) _ _ _ H.1, S.2.1, show fi_vt 216 131 = some 64 from rfl, dv_s, kS_eq d H S (li_193 H).1, ca_ret, ite0]; rfl
  have f12 : c_168_1054 (d + 3) x1 s (-1) h = if eqL k c [97, 114, 116, 105, 99, 108, 101] = true then c_168_1579 (d + 3) x1 33 h else c_168_1579 (d + 3) x1 (-1) h := by
    rw [e_168_1054 (d + 3) _ _ _ H.1, S.2.1, show fi_vt 216 131 = some 64 from rfl, dv_s, kS_eq d H S (li_213 H).1, ca_ret, ite0]; rfl
  have f13 : c_168_1358 (d + 3) x1 s (-1) h = if eqL k c [115, 109, 97, 108, 108, 101, 115, 116] = true then c_168_1579 (d + 3) x1 52 h else c_168_1579 (d + 3) x1 (-1) h := by
    rw [e_168_1358 (d + 3) _ _ _ H.1, S.2.1, show fi_vt 216 131 = some 64 from rfl, dv_s, kS_eq d H S (li_157 H).1, ca_ret, ite0]; rfl
  have f14 : c_168_1518 (d + 3) x1 s (-1) h = if eqL k c [98, 101, 116, 119, 101, 101, 110] = true then c_168_1579 (d + 3) x1 62 h else c_168_1579 (d + 3) x1 (-1) h := by
    rw [e_168_1518 (d + 3) _ _ _ H.1, S.2.1, show fi_vt 216 131 = some 64 from rfl, dv_s, kS_eq d H S (li_259 H).1, ca_ret, ite0]; rfl
  have f15 : c_168_1102 (d + 3) x1 s (-1) h = if eqL k c [105, 115] = true then c_168_1579 (d + 3) x1 36 h else c_168_1579 (d + 3) x1 (-1) h := by
    rw [e_168_1102 (d + 3) _ _ _ H.1, S.2.1, show fi_vt 216 131 = some 64 from rfl, dv_s, kS_eq d H S (li_219 H).1, ca_ret, ite0]; rfl
  have f16 : c_168_618 (d + 3) x1 s (-1) h = if eqL k c [111, 102] = true then c_168_1579 (d + 3) x1 5 h else c_168_1579 (d + 3) x1 (-1) h := by
    rw [e_168_618 (d + 3) _ _ _ H.1, S.2.1, show fi_vt 216 131 = some 64 from rfl, dv_s, kS_eq d H S (li_179 H).1, ca_ret, ite0]; rfl
  have f17 : c_168_1198 (d + 3) x1 s (-1) h = if eqL k c [111, 110] = true then c_168_1579 (d + 3) x1 42 h else c_168_1579 (d + 3) x1 (-1) h := by
    rw [e_168_1198 (d + 3) _ _ _ H.1, S.2.1, show fi_vt 216 131 = some 64 from rfl, dv_s, kS_eq d H S (li_231 H).1, ca_ret, ite0]; rfl
  have f18 : c_168_1134 (d + 3) x1 s (-1) h = if eqL k c [111, 114] = true then c_168_1579 (d + 3) x1 38 h else c_168_1579 (d + 3) x1 (-1) h := by
    rw [e_168_1134 (d + 3) _ _ _ H.1, S.2.1, show fi_vt 216 131 = some 64 from rfl, dv_s, kS_eq d H S (li_223 H).1, ca_ret, ite0]; rfl
  have f19 : c_168_910 (d + 3) x1 s (-1) h = if eqL k c [117, 112] = true then c_168_1579 (d + 3) x1 24 h else c_168_1579 (d + 3) x1 (-1) h := by
    rw [e_168_910 (d + 3) _ _ _ H.1, S.2.1, show fi_vt 216 131 = some 64 from rfl, dv_s, kS_eq d H S (li_91 H).1, ca_ret, ite0]; rfl
  have f20 : c_168_1470 (d + 3) x1 s (-1) h = if eqL k c [97, 100, 100] = true then c_168_1579 (d + 3) x1 59 h else c_168_1579 (d + 3) x1 (-1) h := by
    rw [e_168_1470 (d + 3) _ _ _ H.1, S.2.1, show fi_vt 216 131 = some 64 from rfl, dv_s, kS_eq d H S (li_253 H).1, ca_ret, ite0]; rfl
  have f21 : c_168_1326 (d + 3) x1 s (-1) h = if eqL k c [97, 108, 108] = true then c_168_1579 (d + 3) x1 50 h else c_168_1579 (d + 3) x1 (-1) h := by
    rw [e_168_1326 (d + 3) _ _ _ H.1, S.2.1, show fi_vt 216 131 = some 64 from rfl, dv_s, kS_eq d H S (li_153 H).1, ca_ret, ite0]; rfl
  have f22 : c_168_1150 (d + 3) x1 s (-1) h = if eqL k c [97, 110, 100] = true then c_168_1579 (d + 3) x1 39 h else c_168_1579 (d + 3) x1 (-1) h := by
    rw [e_168_1150 (d + 3) _ _ _ H.1, S.2.1, show fi_vt 216 131 = some 64 from rfl, dv_s, kS_eq d H S (li_225 H).1, ca_ret, ite0]; rfl
  have f23 : c_168_1310 (d + 3) x1 s (-1) h = if eqL k c [97, 110, 121] = true then c_168_1579 (d + 3) x1 49 h else c_168_1579 (d + 3) x1 (-1) h := by
    rw [e_168_1310 (d + 3) _ _ _ H.1, S.2.1, show fi_vt 216 131 = some 64 from rfl, dv_s, kS_eq d H S (li_151 H).1, ca_ret, ite0]; rfl
  have f24 : c_168_1214 (d + 3) x1 s (-1) h = if eqL k c [100, 97, 121] = true then c_168_1579 (d + 3) x1 43 h else c_168_1579 (d + 3) x1 (-1) h := by
    rw [e_168_1214 (d + 3) _ _ _ H.1, S.2.1, show fi_vt 216 131 = some 64 from rfl, dv_s, kS_eq d H S (li_233 H).1, ca_ret, ite0]; rfl
  have f25 : c_168_1278 (d + 3) x1 s (-1) h = if eqL k c [104, 97, 115] = true then c_168_1579 (d + 3) x1 47 h else c_168_1579 (d + 3) x1 (-1) h := by
    rw [e_168_1278 (d + 3) _ _ _ H.1, S.2.1, show fi_vt 216 131 = some 64 from rfl, dv_s, kS_eq d H S (li_241 H).1, ca_ret, ite0]; rfl
  have f26 : c_168_1166 (d + 3) x1 s (-1) h = if eqL k c [110, 111, 116] = true then c_168_1579 (d + 3) x1 40 h else c_168_1579 (d + 3) x1 (-1) h := by
    rw [e_168_1166 (d + 3) _ _ _ H.1, S.2.1, show fi_vt 216 131 = some 64 from rfl, dv_s, kS_eq d H S (li_227 H).1, ca_ret, ite0]; rfl
  have f27 : c_168_1454 (d + 3) x1 s (-1) h = if eqL k c [112, 117, 116] = true then c_168_1579 (d + 3) x1 58 h else c_168_1579 (d + 3) x1 (-1) h := by
    rw [e_168_1454 (d + 3) _ _ _ H.1, S.2.1, show fi_vt 216 131 = some 64 from rfl, dv_s, kS_eq d H S (li_251 H).1, ca_ret, ite0]; rfl
  have f28 : c_168_1182 (d + 3) x1 s (-1) h = if eqL k c [114, 101, 109] = true then c_168_1579 (d + 3) x1 41 h else c_168_1579 (d + 3) x1 (-1) h := by
    rw [e_168_1182 (d + 3) _ _ _ H.1, S.2.1, show fi_vt 216 131 = some 64 from rfl, dv_s, kS_eq d H S (li_229 H).1, ca_ret, ite0]; rfl
  have f29 : c_168_1294 (d + 3) x1 s (-1) h = if eqL k c [115, 117, 109] = true then c_168_1579 (d + 3) x1 48 h else c_168_1579 (d + 3) x1 (-1) h := by
    rw [e_168_1294 (d + 3) _ _ _ H.1, S.2.1, show fi_vt 216 131 = some 64 from rfl, dv_s, kS_eq d H S (li_147 H).1, ca_ret, ite0]; rfl
  have f30 : c_168_846 (d + 3) x1 s (-1) h = if eqL k c [100, 97, 116, 101] = true then c_168_1579 (d + 3) x1 20 h else c_168_1579 (d + 3) x1 (-1) h := by
    rw [e_168_846 (d + 3) _ _ _ H.1, S.2.1, show fi_vt 216 131 = some 64 from rfl, dv_s, kS_eq d H S (li_99 H).1, ca_ret, ite0]; rfl
  have f31 : c_168_974 (d + 3) x1 s (-1) h = if eqL k c [100, 97, 121, 115] = true then c_168_1579 (d + 3) x1 28 h else c_168_1579 (d + 3) x1 (-1) h := by
    rw [e_168_974 (d + 3) _ _ _ H.1, S.2.1, show fi_vt 216 131 = some 64 from rfl, dv_s, kS_eq d H S (li_207 H).1, ca_ret, ite0]; rfl
  have f32 : c_168_926 (d + 3) x1 s (-1) h = if eqL k c [100, 111, 119, 110] = true then c_168_1579 (d + 3) x1 25 h else c_168_1579 (d + 3) x1 (-1) h := by
    rw [e_168_926 (d + 3) _ _ _ H.1, S.2.1, show fi_vt 216 131 = some 64 from rfl, dv_s, kS_eq d H S (li_93 H).1, ca_ret, ite0]; rfl
  have f33 : c_168_767 (d + 3) x1 s (-1) h = if eqL k c [101, 108, 115, 101] = true then c_168_1579 (d + 3) x1 15 h else c_168_1579 (d + 3) x1 (-1) h := by
    rw [e_168_767 (d + 3) _ _ _ H.1, S.2.1, show fi_vt 216 131 = some 64 from rfl, dv_s, kS_eq d H S (li_195 H).1, ca_ret, ite0]; rfl
  have f34 : c_168_958 (d + 3) x1 s (-1) h = if eqL k c [101, 118, 101, 110] = true then c_168_1579 (d + 3) x1 27 h else c_168_1579 (d + 3) x1 (-1) h := by
    rw [e_168_958 (d + 3) _ _ _ H.1, S.2.1, show fi_vt 216 131 = some 64 from rfl, dv_s, kS_eq d H S (li_97 H).1, ca_ret, ite0]; rfl
  have f35 : c_168_737 (d + 3) x1 s (-1) h = if eqL k c [102, 97, 99, 116] = true then c_168_1579 (d + 3) x1 13 h else c_168_1579 (d + 3) x1 (-1) h := by
    rw [e_168_737 (d + 3) _ _ _ H.1, S.2.1, show fi_vt 216 131 = some 64 from rfl, dv_s, kS_eq d H S (li_171 H).1, ca_ret, ite0]; rfl
  have f36 : c_168_1070 (d + 3) x1 s (-1) h = if eqL k c [102, 114, 111, 109] = true then c_168_1579 (d + 3) x1 34 h else c_168_1579 (d + 3) x1 (-1) h := by
    rw [e_168_1070 (d + 3) _ _ _ H.1, S.2.1, show fi_vt 216 131 = some 64 from rfl, dv_s, kS_eq d H S (li_215 H).1, ca_ret, ite0]; rfl
  have f37 : c_168_604 (d + 3) x1 s (-1) h = if eqL k c [108, 97, 115, 116] = true then c_168_1579 (d + 3) x1 4 h else c_168_1579 (d + 3) x1 (-1) h := by
    rw [e_168_604 (d + 3) _ _ _ H.1, S.2.1, show fi_vt 216 131 = some 64 from rfl, dv_s, kS_eq d H S (li_103 H).1, ca_ret, ite0]; rfl
  have f38 : c_168_942 (d + 3) x1 s (-1) h = if eqL k c [110, 101, 97, 114] = true then c_168_1579 (d + 3) x1 26 h else c_168_1579 (d + 3) x1 (-1) h := by
    rw [e_168_942 (d + 3) _ _ _ H.1, S.2.1, show fi_vt 216 131 = some 64 from rfl, dv_s, kS_eq d H S (li_95 H).1, ca_ret, ite0]; rfl
  have f39 : c_168_1262 (d + 3) x1 s (-1) h = if eqL k c [111, 118, 101, 114] = true then c_168_1579 (d + 3) x1 46 h else c_168_1579 (d + 3) x1 (-1) h := by
    rw [e_168_1262 (d + 3) _ _ _ H.1, S.2.1, show fi_vt 216 131 = some 64 from rfl, dv_s, kS_eq d H S (li_239 H).1, ca_ret, ite0]; rfl
  have f40 : c_168_548 (d + 3) x1 s (-1) h = if eqL k c [112, 108, 117, 115] = true then c_168_1579 (d + 3) x1 0 h else c_168_1579 (d + 3) x1 (-1) h := by
    rw [e_168_548 (d + 3) _ _ _ H.1, S.2.1, show fi_vt 216 131 = some 64 from rfl, dv_s, kS_eq d H S (li_173 H).1, ca_ret, ite0]; rfl
  have f41 : c_168_830 (d + 3) x1 s (-1) h = if eqL k c [114, 97, 116, 101] = true then c_168_1579 (d + 3) x1 19 h else c_168_1579 (d + 3) x1 (-1) h := by
    rw [e_168_830 (d + 3) _ _ _ H.1, S.2.1, show fi_vt 216 131 = some 64 from rfl, dv_s, kS_eq d H S (li_201 H).1, ca_ret, ite0]; rfl
  have f42 : c_168_878 (d + 3) x1 s (-1) h = if eqL k c [114, 101, 97, 108] = true then c_168_1579 (d + 3) x1 22 h else c_168_1579 (d + 3) x1 (-1) h := by
    rw [e_168_878 (d + 3) _ _ _ H.1, S.2.1, show fi_vt 216 131 = some 64 from rfl, dv_s, kS_eq d H S (li_119 H).1, ca_ret, ite0]; rfl
  have f43 : c_168_1230 (d + 3) x1 s (-1) h = if eqL k c [115, 101, 108, 102] = true then c_168_1579 (d + 3) x1 44 h else c_168_1579 (d + 3) x1 (-1) h := by
    rw [e_168_1230 (d + 3) _ _ _ H.1, S.2.1, show fi_vt 216 131 = some 64 from rfl, dv_s, kS_eq d H S (li_235 H).1, ca_ret, ite0]; rfl
  have f44 : c_168_862 (d + 3) x1 s (-1) h = if eqL k c [115, 112, 97, 110] = true then c_168_1579 (d + 3) x1 21 h else c_168_1579 (d + 3) x1 (-1) h := by
    rw [e_168_862 (d + 3) _ _ _ H.1, S.2.1, show fi_vt 216 131 = some 64 from rfl, dv_s, kS_eq d H S (li_203 H).1, ca_ret, ite0]; rfl
  have f45 : c_168_752 (d + 3) x1 s (-1) h = if eqL k c [116, 101, 114, 109] = true then c_168_1579 (d + 3) x1 14 h else c_168_1579 (d + 3) x1 (-1) h := by
    rw [e_168_752 (d + 3) _ _ _ H.1, S.2.1, show fi_vt 216 131 = some 64 from rfl, dv_s, kS_eq d H S (li_167 H).1, ca_ret, ite0]; rfl
  have f46 : c_168_1022 (d + 3) x1 s (-1) h = if eqL k c [116, 114, 117, 101] = true then c_168_1579 (d + 3) x1 31 h else c_168_1579 (d + 3) x1 (-1) h := by
    rw [e_168_1022 (d + 3) _ _ _ H.1, S.2.1, show fi_vt 216 131 = some 64 from rfl, dv_s, kS_eq d H S (li_131 H).1, ca_ret, ite0]; rfl
  have f47 : c_168_1406 (d + 3) x1 s (-1) h = if eqL k c [118, 111, 105, 100] = true then c_168_1579 (d + 3) x1 55 h else c_168_1579 (d + 3) x1 (-1) h := by
    rw [e_168_1406 (d + 3) _ _ _ H.1, S.2.1, show fi_vt 216 131 = some 64 from rfl, dv_s, kS_eq d H S (li_245 H).1, ca_ret, ite0]; rfl
  have f48 : c_168_1118 (d + 3) x1 s (-1) h = if eqL k c [119, 104, 101, 110] = true then c_168_1579 (d + 3) x1 37 h else c_168_1579 (d + 3) x1 (-1) h := by
    rw [e_168_1118 (d + 3) _ _ _ H.1, S.2.1, show fi_vt 216 131 = some 64 from rfl, dv_s, kS_eq d H S (li_221 H).1, ca_ret, ite0]; rfl
  have f49 : c_168_1422 (d + 3) x1 s (-1) h = if eqL k c [97, 109, 101, 110, 100] = true then c_168_1579 (d + 3) x1 56 h else c_168_1579 (d + 3) x1 (-1) h := by
    rw [e_168_1422 (d + 3) _ _ _ H.1, S.2.1, show fi_vt 216 131 = some 64 from rfl, dv_s, kS_eq d H S (li_247 H).1, ca_ret, ite0]; rfl
  have f50 : c_168_798 (d + 3) x1 s (-1) h = if eqL k c [99, 111, 117, 110, 116] = true then c_168_1579 (d + 3) x1 17 h else c_168_1579 (d + 3) x1 (-1) h := by
    rw [e_168_798 (d + 3) _ _ _ H.1, S.2.1, show fi_vt 216 131 = some 64 from rfl, dv_s, kS_eq d H S (li_149 H).1, ca_ret, ite0]; rfl
  have f51 : c_168_1038 (d + 3) x1 s (-1) h = if eqL k c [102, 97, 108, 115, 101] = true then c_168_1579 (d + 3) x1 32 h else c_168_1579 (d + 3) x1 (-1) h := by
    rw [e_168_1038 (d + 3) _ _ _ H.1, S.2.1, show fi_vt 216 131 = some 64 from rfl, dv_s, kS_eq d H S (li_133 H).1, ca_ret, ite0]; rfl
  have f52 : c_168_590 (d + 3) x1 s (-1) h = if eqL k c [102, 105, 114, 115, 116] = true then c_168_1579 (d + 3) x1 3 h else c_168_1579 (d + 3) x1 (-1) h := by
    rw [e_168_590 (d + 3) _ _ _ H.1, S.2.1, show fi_vt 216 131 = some 64 from rfl, dv_s, kS_eq d H S (li_101 H).1, ca_ret, ite0]; rfl
  have f53 : c_168_1390 (d + 3) x1 s (-1) h = if eqL k c [106, 111, 105, 110, 115] = true then c_168_1579 (d + 3) x1 54 h else c_168_1579 (d + 3) x1 (-1) h := by
    rw [e_168_1390 (d + 3) _ _ _ H.1, S.2.1, show fi_vt 216 131 = some 64 from rfl, dv_s, kS_eq d H S (li_243 H).1, ca_ret, ite0]; rfl
  have f54 : c_168_1486 (d + 3) x1 s (-1) h = if eqL k c [108, 101, 118, 101, 108] = true then c_168_1579 (d + 3) x1 60 h else c_168_1579 (d + 3) x1 (-1) h := by
    rw [e_168_1486 (d + 3) _ _ _ H.1, S.2.1, show fi_vt 216 131 = some 64 from rfl, dv_s, kS_eq d H S (li_255 H).1, ca_ret, ite0]; rfl
  have f55 : c_168_562 (d + 3) x1 s (-1) h = if eqL k c [109, 105, 110, 117, 115] = true then c_168_1579 (d + 3) x1 1 h else c_168_1579 (d + 3) x1 (-1) h := by
    rw [e_168_562 (d + 3) _ _ _ H.1, S.2.1, show fi_vt 216 131 = some 64 from rfl, dv_s, kS_eq d H S (li_175 H).1, ca_ret, ite0]; rfl
  have f56 : c_168_814 (d + 3) x1 s (-1) h = if eqL k c [109, 111, 110, 101, 121] = true then c_168_1579 (d + 3) x1 18 h else c_168_1579 (d + 3) x1 (-1) h := by
    rw [e_168_814 (d + 3) _ _ _ H.1, S.2.1, show fi_vt 216 131 = some 64 from rfl, dv_s, kS_eq d H S (li_199 H).1, ca_ret, ite0]; rfl
  have f57 : c_168_1246 (d + 3) x1 s (-1) h = if eqL k c [115, 116, 97, 116, 101] = true then c_168_1579 (d + 3) x1 45 h else c_168_1579 (d + 3) x1 (-1) h := by
    rw [e_168_1246 (d + 3) _ _ _ H.1, S.2.1, show fi_vt 216 131 = some 64 from rfl, dv_s, kS_eq d H S (li_237 H).1, ca_ret, ite0]; rfl
  have f58 : c_168_1374 (d + 3) x1 s (-1) h = if eqL k c [116, 97, 98, 108, 101] = true then c_168_1579 (d + 3) x1 53 h else c_168_1579 (d + 3) x1 (-1) h := by
    rw [e_168_1374 (d + 3) _ _ _ H.1, S.2.1, show fi_vt 216 131 = some 64 from rfl, dv_s, kS_eq d H S (li_169 H).1, ca_ret, ite0]; rfl
  have f59 : c_168_782 (d + 3) x1 s (-1) h = if eqL k c [116, 114, 117, 116, 104] = true then c_168_1579 (d + 3) x1 16 h else c_168_1579 (d + 3) x1 (-1) h := by
    rw [e_168_782 (d + 3) _ _ _ H.1, S.2.1, show fi_vt 216 131 = some 64 from rfl, dv_s, kS_eq d H S (li_197 H).1, ca_ret, ite0]; rfl
  have f60 : c_168_1566 (d + 3) x1 s (-1) h = if eqL k c [117, 110, 116, 105, 108] = true then c_168_1579 (d + 3) x1 65 h else c_168_1579 (d + 3) x1 (-1) h := by
    rw [e_168_1566 (d + 3) _ _ _ H.1, S.2.1, show fi_vt 216 131 = some 64 from rfl, dv_s, kS_eq d H S (li_263 H).1, ca_ret, ite0]; rfl
  have f61 : c_168_1006 (d + 3) x1 s (-1) h = if eqL k c [121, 101, 97, 114, 115] = true then c_168_1579 (d + 3) x1 30 h else c_168_1579 (d + 3) x1 (-1) h := by
    rw [e_168_1006 (d + 3) _ _ _ H.1, S.2.1, show fi_vt 216 131 = some 64 from rfl, dv_s, kS_eq d H S (li_211 H).1, ca_ret, ite0]; rfl
  have f62 : c_168_1342 (d + 3) x1 s (-1) h = if eqL k c [103, 114, 101, 97, 116, 101, 115, 116] = true then c_168_1579 (d + 3) x1 51 h else c_168_1579 (d + 3) x1 (-1) h := by
    rw [e_168_1342 (d + 3) _ _ _ H.1, S.2.1, show fi_vt 216 131 = some 64 from rfl, dv_s, kS_eq d H S (li_155 H).1, ca_ret, ite0]; rfl
  have f63 : c_168_1550 (d + 3) x1 s (-1) h = if eqL k c [119, 105, 116, 104, 100, 114, 97, 119, 110] = true then c_168_1579 (d + 3) x1 64 h else c_168_1579 (d + 3) x1 (-1) h := by
    rw [e_168_1550 (d + 3) _ _ _ H.1, S.2.1, show fi_vt 216 131 = some 64 from rfl, dv_s, kS_eq d H S (li_261 H).1, ca_ret, ite0]; rfl
  have f64 : c_168_662 (d + 3) x1 s (-1) h = if eqL k c [119, 101, 100, 110, 101, 115, 100, 97, 121] = true then c_168_1579 (d + 3) x1 8 h else c_168_1579 (d + 3) x1 (-1) h := by
    rw [e_168_662 (d + 3) _ _ _ H.1, S.2.1, show fi_vt 216 131 = some 64 from rfl, dv_s, kS_eq d H S (li_185 H).1, ca_ret, ite0]; rfl
  have f65 : c_168_677 (d + 3) x1 s (-1) h = if eqL k c [116, 104, 117, 114, 115, 100, 97, 121] = true then c_168_1579 (d + 3) x1 9 h else c_168_1579 (d + 3) x1 (-1) h := by
    rw [e_168_677 (d + 3) _ _ _ H.1, S.2.1, show fi_vt 216 131 = some 64 from rfl, dv_s, kS_eq d H S (li_187 H).1, ca_ret, ite0]; rfl
  rw [f0, f1, f2, f3, f4, f5, f6, f7, f8, f9, f10, f11, f12, f13, f14, f15, f16, f17, f18, f19, f20, f21, f22, f23, f24, f25, f26, f27, f28, f29, f30, f31, f32, f33, f34, f35, f36, f37, f38, f39, f40, f41, f42, f43, f44, f45, f46, f47, f48, f49, f50, f51, f52, f53, f54, f55, f56, f57, f58, f59, f60, f61, f62, f63, f64, f65]
  exact swf_eq (D := fun i => c_168_1579 (d + 3) x1 i h) tb_168_ok
def tb_180 : List (Int × List Int × Int) := [(-1653432665, [102, 117, 108, 108, 121, 101, 97, 114, 115], 1), (-1338751726, [100, 97, 121, 115, 116, 111], 3), (-734561580, [121, 101, 97, 114, 111, 102], 13), (-50730686, [102, 117, 108, 108, 109, 111, 110, 116, 104, 115], 2), (3357, [105, 102], 0), (3739, [117, 112], 6), (99828, [100, 117, 101], 18), (3076014, [100, 97, 116, 101], 10), (3089570, [100, 111, 119, 110], 7), (3125530, [101, 118, 101, 110], 9), (3314326, [108, 97, 115, 116], 12), (3357571, [109, 111, 115, 116], 5), (3377192, [110, 101, 97, 114], 8), (3496350, [114, 101, 97, 108], 20), (3506402, [114, 111, 111, 116], 21), (3530753, [115, 105, 122, 101], 19), (94546891, [99, 101, 110, 116, 115], 22), (95361651, [100, 97, 121, 111, 102], 15), (97440432, [102, 105, 114, 115, 116], 11), (102846057, [108, 101, 97, 115, 116], 4), (113107383, [119, 104, 111, 108, 101], 23), (1226862376, [119, 101, 101, 107, 100, 97, 121], 16), (1236635735, [109, 111, 110, 116, 104, 111, 102], 14), (1525164849, [119, 111, 114, 107, 105, 110, 103], 17)]
theorem tb_180_ok : tb_ok tb_180 = true := by decide +kernel
theorem sw_180 (d : Nat) {h : fi_H} (H : Hp h) {s : Int} {k : Nat} {c : Nat → Int} (S : StrC h s k c) : (
  if hsh c k = (-1653432665) then c_180_226 (d + 3) s (-1) h else
  if hsh c k = (-1338751726) then c_180_254 (d + 3) s (-1) h else
  if hsh c k = (-734561580) then c_180_401 (d + 3) s (-1) h else
  if hsh c k = (-50730686) then c_180_240 (d + 3) s (-1) h else
  if hsh c k = 3357 then c_180_212 (d + 3) s (-1) h else
  if hsh c k = 3739 then c_180_296 (d + 3) s (-1) h else
  if hsh c k = 99828 then c_180_476 (d + 3) s (-1) h else
  if hsh c k = 3076014 then c_180_356 (d + 3) s (-1) h else
  if hsh c k = 3089570 then c_180_311 (d + 3) s (-1) h else
  if hsh c k = 3125530 then c_180_341 (d + 3) s (-1) h else
  if hsh c k = 3314326 then c_180_386 (d + 3) s (-1) h else
  if hsh c k = 3357571 then c_180_282 (d + 3) s (-1) h else
  if hsh c k = 3377192 then c_180_326 (d + 3) s (-1) h else
  if hsh c k = 3496350 then c_180_506 (d + 3) s (-1) h else
  if hsh c k = 3506402 then c_180_521 (d + 3) s (-1) h else
  if hsh c k = 3530753 then c_180_491 (d + 3) s (-1) h else
  if hsh c k = 94546891 then c_180_536 (d + 3) s (-1) h else
  if hsh c k = 95361651 then c_180_431 (d + 3) s (-1) h else
  if hsh c k = 97440432 then c_180_371 (d + 3) s (-1) h else
  if hsh c k = 102846057 then c_180_268 (d + 3) s (-1) h else
  if hsh c k = 113107383 then c_180_551 (d + 3) s (-1) h else
  if hsh c k = 1226862376 then c_180_446 (d + 3) s (-1) h else
  if hsh c k = 1236635735 then c_180_416 (d + 3) s (-1) h else
  if hsh c k = 1525164849 then c_180_461 (d + 3) s (-1) h else
  c_180_563 (d + 3) (-1) h) = c_180_563 (d + 3) (sidx tb_180 k c) h := by
  have f0 : c_180_226 (d + 3) s (-1) h = if eqL k c [102, 117, 108, 108, 121, 101, 97, 114, 115] = true then c_180_563 (d + 3) 1 h else c_180_563 (d + 3) (-1) h := by
    rw [e_180_226 (d + 3) _ _ H.1, S.2.1, show fi_vt 216 131 = some 64 from rfl, dv_s, kS_eq d H S (li_81 H).1, ca_ret, ite0]; rfl
  have f1 : c_180_254 (d + 3) s (-1) h = if eqL k c [100, 97, 121, 115, 116, 111] = true then c_180_563 (d + 3) 3 h else c_180_563 (d + 3) (-1) h := by
    rw [e_180_254 (d + 3) _ _ H.1, S.2.1, show fi_vt 216 131 = some 64 from rfl, dv_s, kS_eq d H S (li_85 H).1, ca_ret, ite0]; rfl
  have f2 : c_180_401 (d + 3) s (-1) h = if eqL k c [121, 101, 97, 114, 111, 102] = true then c_180_563 (d + 3) 13 h else c_180_563 (d + 3) (-1) h := by
    rw [e_180_401 (d + 3) _ _ H.1, S.2.1, show fi_vt 216 131 = some 64 from rfl, dv_s, kS_eq d H S (li_105 H).1, ca_ret, ite0]; rfl
  have f3 : c_180_240 (d + 3) s (-1) h = if eqL k c [102, 117, 108, 108, 109, 111, 110, 116, 104, 115] = true then c_180_563 (d + 3) 2 h else c_180_563 (d + 3) (-1) h := by
    rw [e_180_240 (d + 3) _ _ H.1, S.2.1, show fi_vt 216 131 = some 64 from rfl, dv_s, kS_eq d H S (li_83 H).1, ca_ret, ite0]; rfl
  have f4 : c_180_212 (d + 3) s (-1) h = if eqL k c [105, 102] = true then c_180_563 (d + 3) 0 h else c_180_563 (d + 3) (-1) h := by
    rw [e_180_212 (d + 3) _ _ H.1, S.2.1, show fi_vt 216 131 = some 64 from rfl, dv_s, kS_eq d H S (li_79 H).1, ca_ret, ite0]; rfl
  have f5 : c_180_296 (d + 3) s (-1) h = if eqL k c [117, 112] = true then c_180_563 (d + 3) 6 h else c_180_563 (d + 3) (-1) h := by
    rw [e_180_296 (d + 3) _ _ H.1, S.2.1, show fi_vt 216 131 = some 64 from rfl, dv_s, kS_eq d H S (li_91 H).1, ca_ret, ite0]; rfl
  have f6 : c_180_476 (d + 3) s (-1) h = if eqL k c [100, 117, 101] = true then c_180_563 (d + 3) 18 h else c_180_563 (d + 3) (-1) h := by
    rw [e_180_476 (d + 3) _ _ H.1, S.2.1, show fi_vt 216 131 = some 64 from rfl, dv_s, kS_eq d H S (li_115 H).1, ca_ret, ite0]; rfl
  have f7 : c_180_356 (d + 3) s (-1) h = if eqL k c [100, 97, 116, 101] = true then c_180_563 (d + 3) 10 h else c_180_563 (d + 3) (-1) h := by
    rw [e_180_356 (d + 3) _ _ H.1, S.2.1, show fi_vt 216 131 = some 64 from rfl, dv_s, kS_eq d H S (li_99 H).1, ca_ret, ite0]; rfl
  have f8 : c_180_311 (d + 3) s (-1) h = if eqL k c [100, 111, 119, 110] = true then c_180_563 (d + 3) 7 h else c_180_563 (d + 3) (-1) h := by
    rw [e_180_311 (d + 3) _ _ H.1, S.2.1, show fi_vt 216 131 = some 64 from rfl, dv_s, kS_eq d H S (li_93 H).1, ca_ret, ite0]; rfl
  have f9 : c_180_341 (d + 3) s (-1) h = if eqL k c [101, 118, 101, 110] = true then c_180_563 (d + 3) 9 h else c_180_563 (d + 3) (-1) h := by
    rw [e_180_341 (d + 3) _ _ H.1, S.2.1, show fi_vt 216 131 = some 64 from rfl, dv_s, kS_eq d H S (li_97 H).1, ca_ret, ite0]; rfl
  have f10 : c_180_386 (d + 3) s (-1) h = if eqL k c [108, 97, 115, 116] = true then c_180_563 (d + 3) 12 h else c_180_563 (d + 3) (-1) h := by
    rw [e_180_386 (d + 3) _ _ H.1, S.2.1, show fi_vt 216 131 = some 64 from rfl, dv_s, kS_eq d H S (li_103 H).1, ca_ret, ite0]; rfl
  have f11 : c_180_282 (d + 3) s (-1) h = if eqL k c [109, 111, 115, 116] = true then c_180_563 (d + 3) 5 h else c_180_563 (d + 3) (-1) h := by
    rw [e_180_282 (d + 3) _ _ H.1, S.2.1, show fi_vt 216 131 = some 64 from rfl, dv_s, kS_eq d H S (li_89 H).1, ca_ret, ite0]; rfl
  have f12 : c_180_326 (d + 3) s (-1) h = if eqL k c [110, 101, 97, 114] = true then c_180_563 (d + 3) 8 h else c_180_563 (d + 3) (-1) h := by
    rw [e_180_326 (d + 3) _ _ H.1, S.2.1, show fi_vt 216 131 = some 64 from rfl, dv_s, kS_eq d H S (li_95 H).1, ca_ret, ite0]; rfl
  have f13 : c_180_506 (d + 3) s (-1) h = if eqL k c [114, 101, 97, 108] = true then c_180_563 (d + 3) 20 h else c_180_563 (d + 3) (-1) h := by
    rw [e_180_506 (d + 3) _ _ H.1, S.2.1, show fi_vt 216 131 = some 64 from rfl, dv_s, kS_eq d H S (li_119 H).1, ca_ret, ite0]; rfl
  have f14 : c_180_521 (d + 3) s (-1) h = if eqL k c [114, 111, 111, 116] = true then c_180_563 (d + 3) 21 h else c_180_563 (d + 3) (-1) h := by
    rw [e_180_521 (d + 3) _ _ H.1, S.2.1, show fi_vt 216 131 = some 64 from rfl, dv_s, kS_eq d H S (li_121 H).1, ca_ret, ite0]; rfl
  have f15 : c_180_491 (d + 3) s (-1) h = if eqL k c [115, 105, 122, 101] = true then c_180_563 (d + 3) 19 h else c_180_563 (d + 3) (-1) h := by
    rw [e_180_491 (d + 3) _ _ H.1, S.2.1, show fi_vt 216 131 = some 64 from rfl, dv_s, kS_eq d H S (li_117 H).1, ca_ret, ite0]; rfl
  have f16 : c_180_536 (d + 3) s (-1) h = if eqL k c [99, 101, 110, 116, 115] = true then c_180_563 (d + 3) 22 h else c_180_563 (d + 3) (-1) h := by
    rw [e_180_536 (d + 3) _ _ H.1, S.2.1, show fi_vt 216 131 = some 64 from rfl, dv_s, kS_eq d H S (li_123 H).1, ca_ret, ite0]; rfl
  have f17 : c_180_431 (d + 3) s (-1) h = if eqL k c [100, 97, 121, 111, 102] = true then c_180_563 (d + 3) 15 h else c_180_563 (d + 3) (-1) h := by
    rw [e_180_431 (d + 3) _ _ H.1, S.2.1, show fi_vt 216 131 = some 64 from rfl, dv_s, kS_eq d H S (li_109 H).1, ca_ret, ite0]; rfl
  have f18 : c_180_371 (d + 3) s (-1) h = if eqL k c [102, 105, 114, 115, 116] = true then c_180_563 (d + 3) 11 h else c_180_563 (d + 3) (-1) h := by
    rw [e_180_371 (d + 3) _ _ H.1, S.2.1, show fi_vt 216 131 = some 64 from rfl, dv_s, kS_eq d H S (li_101 H).1, ca_ret, ite0]; rfl
  have f19 : c_180_268 (d + 3) s (-1) h = if eqL k c [108, 101, 97, 115, 116] = true then c_180_563 (d + 3) 4 h else c_180_563 (d + 3) (-1) h := by
    rw [e_180_268 (d + 3) _ _ H.1, S.2.1, show fi_vt 216 131 = some 64 from rfl, dv_s, kS_eq d H S (li_87 H).1, ca_ret, ite0]; rfl
  have f20 : c_180_551 (d + 3) s (-1) h = if eqL k c [119, 104, 111, 108, 101] = true then c_180_563 (d + 3) 23 h else c_180_563 (d + 3) (-1) h := by
    rw [e_180_551 (d + 3) _ _ H.1, S.2.1, show fi_vt 216 131 = some 64 from rfl, dv_s, kS_eq d H S (li_125 H).1, ca_ret, ite0]; rfl
  have f21 : c_180_446 (d + 3) s (-1) h = if eqL k c [119, 101, 101, 107, 100, 97, 121] = true then c_180_563 (d + 3) 16 h else c_180_563 (d + 3) (-1) h := by
    rw [e_180_446 (d + 3) _ _ H.1, S.2.1, show fi_vt 216 131 = some 64 from rfl, dv_s, kS_eq d H S (li_111 H).1, ca_ret, ite0]; rfl
  have f22 : c_180_416 (d + 3) s (-1) h = if eqL k c [109, 111, 110, 116, 104, 111, 102] = true then c_180_563 (d + 3) 14 h else c_180_563 (d + 3) (-1) h := by
    rw [e_180_416 (d + 3) _ _ H.1, S.2.1, show fi_vt 216 131 = some 64 from rfl, dv_s, kS_eq d H S (li_107 H).1, ca_ret, ite0]; rfl
  have f23 : c_180_461 (d + 3) s (-1) h = if eqL k c [119, 111, 114, 107, 105, 110, 103] = true then c_180_563 (d + 3) 17 h else c_180_563 (d + 3) (-1) h := by
    rw [e_180_461 (d + 3) _ _ H.1, S.2.1, show fi_vt 216 131 = some 64 from rfl, dv_s, kS_eq d H S (li_113 H).1, ca_ret, ite0]; rfl
  rw [f0, f1, f2, f3, f4, f5, f6, f7, f8, f9, f10, f11, f12, f13, f14, f15, f16, f17, f18, f19, f20, f21, f22, f23]
  exact swf_eq (D := fun i => c_180_563 (d + 3) i h) tb_180_ok
def tb_184 : List (Int × List Int × Int) := [(-991716523, [112, 101, 114, 115, 111, 110], 7), (3076014, [100, 97, 116, 101], 4), (3493088, [114, 97, 116, 101], 3), (3496350, [114, 101, 97, 108], 6), (3536714, [115, 112, 97, 110], 5), (94851343, [99, 111, 117, 110, 116], 1), (104079552, [109, 111, 110, 101, 121], 2), (110640747, [116, 114, 117, 116, 104], 0)]
theorem tb_184_ok : tb_ok tb_184 = true := by decide +kernel
theorem sw_184 (d : Nat) {h : fi_H} (H : Hp h) {s : Int} {k : Nat} {c : Nat → Int} (S : StrC h s k c) : (
  if hsh c k = (-991716523) then c_184_214 (d + 3) s (-1) h else
  if hsh c k = 3076014 then c_184_168 (d + 3) s (-1) h else
  if hsh c k = 3493088 then c_184_153 (d + 3) s (-1) h else
  if hsh c k = 3496350 then c_184_198 (d + 3) s (-1) h else
  if hsh c k = 3536714 then c_184_183 (d + 3) s (-1) h else
  if hsh c k = 94851343 then c_184_123 (d + 3) s (-1) h else
  if hsh c k = 104079552 then c_184_138 (d + 3) s (-1) h else
  if hsh c k = 110640747 then c_184_108 (d + 3) s (-1) h else
  c_184_227 (d + 3) (-1) h) = c_184_227 (d + 3) (sidx tb_184 k c) h := by
  have f0 : c_184_214 (d + 3) s (-1) h = if eqL k c [112, 101, 114, 115, 111, 110] = true then c_184_227 (d + 3) 7 h else c_184_227 (d + 3) (-1) h := by
    rw [e_184_214 (d + 3) _ _ H.1, S.2.1, show fi_vt 216 131 = some 64 from rfl, dv_s, kS_eq d H S (li_205 H).1, ca_ret, ite0]; rfl
  have f1 : c_184_168 (d + 3) s (-1) h = if eqL k c [100, 97, 116, 101] = true then c_184_227 (d + 3) 4 h else c_184_227 (d + 3) (-1) h := by
    rw [e_184_168 (d + 3) _ _ H.1, S.2.1, show fi_vt 216 131 = some 64 from rfl, dv_s, kS_eq d H S (li_99 H).1, ca_ret, ite0]; rfl
  have f2 : c_184_153 (d + 3) s (-1) h = if eqL k c [114, 97, 116, 101] = true then c_184_227 (d + 3) 3 h else c_184_227 (d + 3) (-1) h := by
    rw [e_184_153 (d + 3) _ _ H.1, S.2.1, show fi_vt 216 131 = some 64 from rfl, dv_s, kS_eq d H S (li_201 H).1, ca_ret, ite0]; rfl
  have f3 : c_184_198 (d + 3) s (-1) h = if eqL k c [114, 101, 97, 108] = true then c_184_227 (d + 3) 6 h else c_184_227 (d + 3) (-1) h := by
    rw [e_184_198 (d + 3) _ _ H.1, S.2.1, show fi_vt 216 131 = some 64 from rfl, dv_s, kS_eq d H S (li_119 H).1, ca_ret, ite0]; rfl
  have f4 : c_184_183 (d + 3) s (-1) h = if eqL k c [115, 112, 97, 110] = true then c_184_227 (d + 3) 5 h else c_184_227 (d + 3) (-1) h := by
    rw [e_184_183 (d + 3) _ _ H.1, S.2.1, show fi_vt 216 131 = some 64 from rfl, dv_s, kS_eq d H S (li_203 H).1, ca_ret, ite0]; rfl
  have f5 : c_184_123 (d + 3) s (-1) h = if eqL k c [99, 111, 117, 110, 116] = true then c_184_227 (d + 3) 1 h else c_184_227 (d + 3) (-1) h := by
    rw [e_184_123 (d + 3) _ _ H.1, S.2.1, show fi_vt 216 131 = some 64 from rfl, dv_s, kS_eq d H S (li_149 H).1, ca_ret, ite0]; rfl
  have f6 : c_184_138 (d + 3) s (-1) h = if eqL k c [109, 111, 110, 101, 121] = true then c_184_227 (d + 3) 2 h else c_184_227 (d + 3) (-1) h := by
    rw [e_184_138 (d + 3) _ _ H.1, S.2.1, show fi_vt 216 131 = some 64 from rfl, dv_s, kS_eq d H S (li_199 H).1, ca_ret, ite0]; rfl
  have f7 : c_184_108 (d + 3) s (-1) h = if eqL k c [116, 114, 117, 116, 104] = true then c_184_227 (d + 3) 0 h else c_184_227 (d + 3) (-1) h := by
    rw [e_184_108 (d + 3) _ _ H.1, S.2.1, show fi_vt 216 131 = some 64 from rfl, dv_s, kS_eq d H S (li_197 H).1, ca_ret, ite0]; rfl
  rw [f0, f1, f2, f3, f4, f5, f6, f7]
  exact swf_eq (D := fun i => c_184_227 (d + 3) i h) tb_184_ok
def tb_187 : List (Int × List Int × Int) := [(3739, [117, 112], 0), (3089570, [100, 111, 119, 110], 1), (3125530, [101, 118, 101, 110], 3), (3377192, [110, 101, 97, 114], 2)]
theorem tb_187_ok : tb_ok tb_187 = true := by decide +kernel
theorem sw_187 (d : Nat) {h : fi_H} (H : Hp h) {s : Int} {k : Nat} {c : Nat → Int} (S : StrC h s k c) : (
  if hsh c k = 3739 then (dv_ (fi_vt 216 (h 0 s.toNat 0)) fun m9 => ca_ (fj_run (d + 3) m9 h [(4, s), (4, 91)]) 0 (fun v7 h6 => if v7 = 0 then c_187_133 (d + 3) (-1) h6 else c_187_133 (d + 3) 0 h6) (fun q8 h6 => tx_ q8 h6)) else
  if hsh c k = 3089570 then (dv_ (fi_vt 216 (h 0 s.toNat 0)) fun m9 => ca_ (fj_run (d + 3) m9 h [(4, s), (4, 93)]) 0 (fun v7 h6 => if v7 = 0 then c_187_133 (d + 3) (-1) h6 else c_187_133 (d + 3) 1 h6) (fun q8 h6 => tx_ q8 h6)) else
  if hsh c k = 3125530 then (dv_ (fi_vt 216 (h 0 s.toNat 0)) fun m9 => ca_ (fj_run (d + 3) m9 h [(4, s), (4, 97)]) 0 (fun v7 h6 => if v7 = 0 then c_187_133 (d + 3) (-1) h6 else c_187_133 (d + 3) 3 h6) (fun q8 h6 => tx_ q8 h6)) else
  if hsh c k = 3377192 then (dv_ (fi_vt 216 (h 0 s.toNat 0)) fun m9 => ca_ (fj_run (d + 3) m9 h [(4, s), (4, 95)]) 0 (fun v7 h6 => if v7 = 0 then c_187_133 (d + 3) (-1) h6 else c_187_133 (d + 3) 2 h6) (fun q8 h6 => tx_ q8 h6)) else
  c_187_133 (d + 3) (-1) h) = c_187_133 (d + 3) (sidx tb_187 k c) h := by
  have f0 : (dv_ (fi_vt 216 (h 0 s.toNat 0)) fun m9 => ca_ (fj_run (d + 3) m9 h [(4, s), (4, 91)]) 0 (fun v7 h6 => if v7 = 0 then c_187_133 (d + 3) (-1) h6 else c_187_133 (d + 3) 0 h6) (fun q8 h6 => tx_ q8 h6)) = if eqL k c [117, 112] = true then c_187_133 (d + 3) 0 h else c_187_133 (d + 3) (-1) h := by
    rw [S.2.1, show fi_vt 216 131 = some 64 from rfl, dv_s, kS_eq d H S (li_91 H).1, ca_ret, ite0]; rfl
  have f1 : (dv_ (fi_vt 216 (h 0 s.toNat 0)) fun m9 => ca_ (fj_run (d + 3) m9 h [(4, s), (4, 93)]) 0 (fun v7 h6 => if v7 = 0 then c_187_133 (d + 3) (-1) h6 else c_187_133 (d + 3) 1 h6) (fun q8 h6 => tx_ q8 h6)) = if eqL k c [100, 111, 119, 110] = true then c_187_133 (d + 3) 1 h else c_187_133 (d + 3) (-1) h := by
    rw [S.2.1, show fi_vt 216 131 = some 64 from rfl, dv_s, kS_eq d H S (li_93 H).1, ca_ret, ite0]; rfl
  have f2 : (dv_ (fi_vt 216 (h 0 s.toNat 0)) fun m9 => ca_ (fj_run (d + 3) m9 h [(4, s), (4, 97)]) 0 (fun v7 h6 => if v7 = 0 then c_187_133 (d + 3) (-1) h6 else c_187_133 (d + 3) 3 h6) (fun q8 h6 => tx_ q8 h6)) = if eqL k c [101, 118, 101, 110] = true then c_187_133 (d + 3) 3 h else c_187_133 (d + 3) (-1) h := by
    rw [S.2.1, show fi_vt 216 131 = some 64 from rfl, dv_s, kS_eq d H S (li_97 H).1, ca_ret, ite0]; rfl
  have f3 : (dv_ (fi_vt 216 (h 0 s.toNat 0)) fun m9 => ca_ (fj_run (d + 3) m9 h [(4, s), (4, 95)]) 0 (fun v7 h6 => if v7 = 0 then c_187_133 (d + 3) (-1) h6 else c_187_133 (d + 3) 2 h6) (fun q8 h6 => tx_ q8 h6)) = if eqL k c [110, 101, 97, 114] = true then c_187_133 (d + 3) 2 h else c_187_133 (d + 3) (-1) h := by
    rw [S.2.1, show fi_vt 216 131 = some 64 from rfl, dv_s, kS_eq d H S (li_95 H).1, ca_ret, ite0]; rfl
  rw [f0, f1, f2, f3]
  exact swf_eq (D := fun i => c_187_133 (d + 3) i h) tb_187_ok
def tb_204 : List (Int × List Int × Int) := [(-2114201671, [115, 97, 116, 117, 114, 100, 97, 121], 5), (-1266285217, [102, 114, 105, 100, 97, 121], 4), (-1068502768, [109, 111, 110, 100, 97, 121], 0), (-977343923, [116, 117, 101, 115, 100, 97, 121], 1), (-891186736, [115, 117, 110, 100, 97, 121], 6), (1393530710, [119, 101, 100, 110, 101, 115, 100, 97, 121], 2), (1572055514, [116, 104, 117, 114, 115, 100, 97, 121], 3)]
theorem tb_204_ok : tb_ok tb_204 = true := by decide +kernel
theorem sw_204 (d : Nat) {h : fi_H} (H : Hp h) {s : Int} {k : Nat} {c : Nat → Int} (S : StrC h s k c) : (
  if hsh c k = (-2114201671) then (dv_ (fi_vt 216 (h 0 s.toNat 0)) fun m9 => ca_ (fj_run (d + 3) m9 h [(4, s), (4, 191)]) 0 (fun v7 h6 => if v7 = 0 then c_204_196 (d + 3) (-1) h6 else c_204_196 (d + 3) 5 h6) (fun q8 h6 => tx_ q8 h6)) else
  if hsh c k = (-1266285217) then (dv_ (fi_vt 216 (h 0 s.toNat 0)) fun m9 => ca_ (fj_run (d + 3) m9 h [(4, s), (4, 189)]) 0 (fun v7 h6 => if v7 = 0 then c_204_196 (d + 3) (-1) h6 else c_204_196 (d + 3) 4 h6) (fun q8 h6 => tx_ q8 h6)) else
  if hsh c k = (-1068502768) then (dv_ (fi_vt 216 (h 0 s.toNat 0)) fun m9 => ca_ (fj_run (d + 3) m9 h [(4, s), (4, 181)]) 0 (fun v7 h6 => if v7 = 0 then c_204_196 (d + 3) (-1) h6 else c_204_196 (d + 3) 0 h6) (fun q8 h6 => tx_ q8 h6)) else
  if hsh c k = (-977343923) then (dv_ (fi_vt 216 (h 0 s.toNat 0)) fun m9 => ca_ (fj_run (d + 3) m9 h [(4, s), (4, 183)]) 0 (fun v7 h6 => if v7 = 0 then c_204_196 (d + 3) (-1) h6 else c_204_196 (d + 3) 1 h6) (fun q8 h6 => tx_ q8 h6)) else
  if hsh c k = (-891186736) then (dv_ (fi_vt 216 (h 0 s.toNat 0)) fun m9 => ca_ (fj_run (d + 3) m9 h [(4, s), (4, 193)]) 0 (fun v7 h6 => if v7 = 0 then c_204_196 (d + 3) (-1) h6 else c_204_196 (d + 3) 6 h6) (fun q8 h6 => tx_ q8 h6)) else
  if hsh c k = 1393530710 then (dv_ (fi_vt 216 (h 0 s.toNat 0)) fun m9 => ca_ (fj_run (d + 3) m9 h [(4, s), (4, 185)]) 0 (fun v7 h6 => if v7 = 0 then c_204_196 (d + 3) (-1) h6 else c_204_196 (d + 3) 2 h6) (fun q8 h6 => tx_ q8 h6)) else
  if hsh c k = 1572055514 then (dv_ (fi_vt 216 (h 0 s.toNat 0)) fun m9 => ca_ (fj_run (d + 3) m9 h [(4, s), (4, 187)]) 0 (fun v7 h6 => if v7 = 0 then c_204_196 (d + 3) (-1) h6 else c_204_196 (d + 3) 3 h6) (fun q8 h6 => tx_ q8 h6)) else
  c_204_196 (d + 3) (-1) h) = c_204_196 (d + 3) (sidx tb_204 k c) h := by
  have f0 : (dv_ (fi_vt 216 (h 0 s.toNat 0)) fun m9 => ca_ (fj_run (d + 3) m9 h [(4, s), (4, 191)]) 0 (fun v7 h6 => if v7 = 0 then c_204_196 (d + 3) (-1) h6 else c_204_196 (d + 3) 5 h6) (fun q8 h6 => tx_ q8 h6)) = if eqL k c [115, 97, 116, 117, 114, 100, 97, 121] = true then c_204_196 (d + 3) 5 h else c_204_196 (d + 3) (-1) h := by
    rw [S.2.1, show fi_vt 216 131 = some 64 from rfl, dv_s, kS_eq d H S (li_191 H).1, ca_ret, ite0]; rfl
  have f1 : (dv_ (fi_vt 216 (h 0 s.toNat 0)) fun m9 => ca_ (fj_run (d + 3) m9 h [(4, s), (4, 189)]) 0 (fun v7 h6 => if v7 = 0 then c_204_196 (d + 3) (-1) h6 else c_204_196 (d + 3) 4 h6) (fun q8 h6 => tx_ q8 h6)) = if eqL k c [102, 114, 105, 100, 97, 121] = true then c_204_196 (d + 3) 4 h else c_204_196 (d + 3) (-1) h := by
    rw [S.2.1, show fi_vt 216 131 = some 64 from rfl, dv_s, kS_eq d H S (li_189 H).1, ca_ret, ite0]; rfl
  have f2 : (dv_ (fi_vt 216 (h 0 s.toNat 0)) fun m9 => ca_ (fj_run (d + 3) m9 h [(4, s), (4, 181)]) 0 (fun v7 h6 => if v7 = 0 then c_204_196 (d + 3) (-1) h6 else c_204_196 (d + 3) 0 h6) (fun q8 h6 => tx_ q8 h6)) = if eqL k c [109, 111, 110, 100, 97, 121] = true then c_204_196 (d + 3) 0 h else c_204_196 (d + 3) (-1) h := by
    rw [S.2.1, show fi_vt 216 131 = some 64 from rfl, dv_s, kS_eq d H S (li_181 H).1, ca_ret, ite0]; rfl
  have f3 : (dv_ (fi_vt 216 (h 0 s.toNat 0)) fun m9 => ca_ (fj_run (d + 3) m9 h [(4, s), (4, 183)]) 0 (fun v7 h6 => if v7 = 0 then c_204_196 (d + 3) (-1) h6 else c_204_196 (d + 3) 1 h6) (fun q8 h6 => tx_ q8 h6)) = if eqL k c [116, 117, 101, 115, 100, 97, 121] = true then c_204_196 (d + 3) 1 h else c_204_196 (d + 3) (-1) h := by
    rw [S.2.1, show fi_vt 216 131 = some 64 from rfl, dv_s, kS_eq d H S (li_183 H).1, ca_ret, ite0]; rfl
  have f4 : (dv_ (fi_vt 216 (h 0 s.toNat 0)) fun m9 => ca_ (fj_run (d + 3) m9 h [(4, s), (4, 193)]) 0 (fun v7 h6 => if v7 = 0 then c_204_196 (d + 3) (-1) h6 else c_204_196 (d + 3) 6 h6) (fun q8 h6 => tx_ q8 h6)) = if eqL k c [115, 117, 110, 100, 97, 121] = true then c_204_196 (d + 3) 6 h else c_204_196 (d + 3) (-1) h := by
    rw [S.2.1, show fi_vt 216 131 = some 64 from rfl, dv_s, kS_eq d H S (li_193 H).1, ca_ret, ite0]; rfl
  have f5 : (dv_ (fi_vt 216 (h 0 s.toNat 0)) fun m9 => ca_ (fj_run (d + 3) m9 h [(4, s), (4, 185)]) 0 (fun v7 h6 => if v7 = 0 then c_204_196 (d + 3) (-1) h6 else c_204_196 (d + 3) 2 h6) (fun q8 h6 => tx_ q8 h6)) = if eqL k c [119, 101, 100, 110, 101, 115, 100, 97, 121] = true then c_204_196 (d + 3) 2 h else c_204_196 (d + 3) (-1) h := by
    rw [S.2.1, show fi_vt 216 131 = some 64 from rfl, dv_s, kS_eq d H S (li_185 H).1, ca_ret, ite0]; rfl
  have f6 : (dv_ (fi_vt 216 (h 0 s.toNat 0)) fun m9 => ca_ (fj_run (d + 3) m9 h [(4, s), (4, 187)]) 0 (fun v7 h6 => if v7 = 0 then c_204_196 (d + 3) (-1) h6 else c_204_196 (d + 3) 3 h6) (fun q8 h6 => tx_ q8 h6)) = if eqL k c [116, 104, 117, 114, 115, 100, 97, 121] = true then c_204_196 (d + 3) 3 h else c_204_196 (d + 3) (-1) h := by
    rw [S.2.1, show fi_vt 216 131 = some 64 from rfl, dv_s, kS_eq d H S (li_187 H).1, ca_ret, ite0]; rfl
  rw [f0, f1, f2, f3, f4, f5, f6]
  exact swf_eq (D := fun i => c_204_196 (d + 3) i h) tb_204_ok
def tb_240 : List (Int × List Int × Int) := [(-899648223, [115, 108, 105, 99, 101, 115], 12), (-606534881, [115, 109, 97, 108, 108, 101, 115, 116], 10), (-216634360, [98, 101, 116, 119, 101, 101, 110], 13), (96673, [97, 108, 108], 8), (96748, [97, 110, 121], 7), (99228, [100, 97, 121], 0), (103066, [104, 97, 115], 3), (114251, [115, 117, 109], 5), (3423444, [111, 118, 101, 114], 4), (3526476, [115, 101, 108, 102], 1), (94851343, [99, 111, 117, 110, 116], 6), (102865796, [108, 101, 118, 101, 108], 11), (109757585, [115, 116, 97, 116, 101], 2), (201724889, [103, 114, 101, 97, 116, 101, 115, 116], 9)]
theorem tb_240_ok : tb_ok tb_240 = true := by decide +kernel
theorem sw_240 (d : Nat) {h : fi_H} (H : Hp h) {s : Int} {k : Nat} {c : Nat → Int} (S : StrC h s k c) (x1 x2 : Int) : (
  if hsh c k = (-899648223) then c_240_430 (d + 3) x1 x2 s (-1) h else
  if hsh c k = (-606534881) then c_240_396 (d + 3) x1 x2 s (-1) h else
  if hsh c k = (-216634360) then c_240_447 (d + 3) x1 x2 s (-1) h else
  if hsh c k = 96673 then c_240_362 (d + 3) x1 x2 s (-1) h else
  if hsh c k = 96748 then c_240_345 (d + 3) x1 x2 s (-1) h else
  if hsh c k = 99228 then c_240_232 (d + 3) x1 x2 s (-1) h else
  if hsh c k = 103066 then c_240_280 (d + 3) x1 x2 s (-1) h else
  if hsh c k = 114251 then c_240_312 (d + 3) x1 x2 s (-1) h else
  if hsh c k = 3423444 then c_240_296 (d + 3) x1 x2 s (-1) h else
  if hsh c k = 3526476 then c_240_248 (d + 3) x1 x2 s (-1) h else
  if hsh c k = 94851343 then c_240_328 (d + 3) x1 x2 s (-1) h else
  if hsh c k = 102865796 then c_240_413 (d + 3) x1 x2 s (-1) h else
  if hsh c k = 109757585 then c_240_264 (d + 3) x1 x2 s (-1) h else
  if hsh c k = 201724889 then c_240_379 (d + 3) x1 x2 s (-1) h else
  c_240_461 (d + 3) x1 x2 (-1) h) = c_240_461 (d + 3) x1 x2 (sidx tb_240 k c) h := by
  have f0 : c_240_430 (d + 3) x1 x2 s (-1) h = if eqL k c [115, 108, 105, 99, 101, 115] = true then c_240_461 (d + 3) x1 x2 12 h else c_240_461 (d + 3) x1 x2 (-1) h := by
    rw [e_240_430 (d + 3) _ _ _ _ H.1, S.2.1, show fi_vt 216 131 = some 64 from rfl, dv_s, kS_eq d H S (li_257 H).1, ca_ret, ite0]; rfl
  have f1 : c_240_396 (d + 3) x1 x2 s (-1) h = if eqL k c [115, 109, 97, 108, 108, 101, 115, 116] = true then c_240_461 (d + 3) x1 x2 10 h else c_240_461 (d + 3) x1 x2 (-1) h := by
    rw [e_240_396 (d + 3) _ _ _ _ H.1, S.2.1, show fi_vt 216 131 = some 64 from rfl, dv_s, kS_eq d H S (li_157 H).1, ca_ret, ite0]; rfl
  have f2 : c_240_447 (d + 3) x1 x2 s (-1) h = if eqL k c [98, 101, 116, 119, 101, 101, 110] = true then c_240_461 (d + 3) x1 x2 13 h else c_240_461 (d + 3) x1 x2 (-1) h := by
    rw [e_240_447 (d + 3) _ _ _ _ H.1, S.2.1, show fi_vt 216 131 = some 64 from rfl, dv_s, kS_eq d H S (li_259 H).1, ca_ret, ite0]; rfl
  have f3 : c_240_362 (d + 3) x1 x2 s (-1) h = if eqL k c [97, 108, 108] = true then c_240_461 (d + 3) x1 x2 8 h else c_240_461 (d + 3) x1 x2 (-1) h := by
    rw [e_240_362 (d + 3) _ _ _ _ H.1, S.2.1, show fi_vt 216 131 = some 64 from rfl, dv_s, kS_eq d H S (li_153 H).1, ca_ret, ite0]; rfl
  have f4 : c_240_345 (d + 3) x1 x2 s (-1) h = if eqL k c [97, 110, 121] = true then c_240_461 (d + 3) x1 x2 7 h else c_240_461 (d + 3) x1 x2 (-1) h := by
    rw [e_240_345 (d + 3) _ _ _ _ H.1, S.2.1, show fi_vt 216 131 = some 64 from rfl, dv_s, kS_eq d H S (li_151 H).1, ca_ret, ite0]; rfl
  have f5 : c_240_232 (d + 3) x1 x2 s (-1) h = if eqL k c [100, 97, 121] = true then c_240_461 (d + 3) x1 x2 0 h else c_240_461 (d + 3) x1 x2 (-1) h := by
    rw [e_240_232 (d + 3) _ _ _ _ H.1, S.2.1, show fi_vt 216 131 = some 64 from rfl, dv_s, kS_eq d H S (li_233 H).1, ca_ret, ite0]; rfl
  have f6 : c_240_280 (d + 3) x1 x2 s (-1) h = if eqL k c [104, 97, 115] = true then c_240_461 (d + 3) x1 x2 3 h else c_240_461 (d + 3) x1 x2 (-1) h := by
    rw [e_240_280 (d + 3) _ _ _ _ H.1, S.2.1, show fi_vt 216 131 = some 64 from rfl, dv_s, kS_eq d H S (li_241 H).1, ca_ret, ite0]; rfl
  have f7 : c_240_312 (d + 3) x1 x2 s (-1) h = if eqL k c [115, 117, 109] = true then c_240_461 (d + 3) x1 x2 5 h else c_240_461 (d + 3) x1 x2 (-1) h := by
    rw [e_240_312 (d + 3) _ _ _ _ H.1, S.2.1, show fi_vt 216 131 = some 64 from rfl, dv_s, kS_eq d H S (li_147 H).1, ca_ret, ite0]; rfl
  have f8 : c_240_296 (d + 3) x1 x2 s (-1) h = if eqL k c [111, 118, 101, 114] = true then c_240_461 (d + 3) x1 x2 4 h else c_240_461 (d + 3) x1 x2 (-1) h := by
    rw [e_240_296 (d + 3) _ _ _ _ H.1, S.2.1, show fi_vt 216 131 = some 64 from rfl, dv_s, kS_eq d H S (li_239 H).1, ca_ret, ite0]; rfl
  have f9 : c_240_248 (d + 3) x1 x2 s (-1) h = if eqL k c [115, 101, 108, 102] = true then c_240_461 (d + 3) x1 x2 1 h else c_240_461 (d + 3) x1 x2 (-1) h := by
    rw [e_240_248 (d + 3) _ _ _ _ H.1, S.2.1, show fi_vt 216 131 = some 64 from rfl, dv_s, kS_eq d H S (li_235 H).1, ca_ret, ite0]; rfl
  have f10 : c_240_328 (d + 3) x1 x2 s (-1) h = if eqL k c [99, 111, 117, 110, 116] = true then c_240_461 (d + 3) x1 x2 6 h else c_240_461 (d + 3) x1 x2 (-1) h := by
    rw [e_240_328 (d + 3) _ _ _ _ H.1, S.2.1, show fi_vt 216 131 = some 64 from rfl, dv_s, kS_eq d H S (li_149 H).1, ca_ret, ite0]; rfl
  have f11 : c_240_413 (d + 3) x1 x2 s (-1) h = if eqL k c [108, 101, 118, 101, 108] = true then c_240_461 (d + 3) x1 x2 11 h else c_240_461 (d + 3) x1 x2 (-1) h := by
    rw [e_240_413 (d + 3) _ _ _ _ H.1, S.2.1, show fi_vt 216 131 = some 64 from rfl, dv_s, kS_eq d H S (li_255 H).1, ca_ret, ite0]; rfl
  have f12 : c_240_264 (d + 3) x1 x2 s (-1) h = if eqL k c [115, 116, 97, 116, 101] = true then c_240_461 (d + 3) x1 x2 2 h else c_240_461 (d + 3) x1 x2 (-1) h := by
    rw [e_240_264 (d + 3) _ _ _ _ H.1, S.2.1, show fi_vt 216 131 = some 64 from rfl, dv_s, kS_eq d H S (li_237 H).1, ca_ret, ite0]; rfl
  have f13 : c_240_379 (d + 3) x1 x2 s (-1) h = if eqL k c [103, 114, 101, 97, 116, 101, 115, 116] = true then c_240_461 (d + 3) x1 x2 9 h else c_240_461 (d + 3) x1 x2 (-1) h := by
    rw [e_240_379 (d + 3) _ _ _ _ H.1, S.2.1, show fi_vt 216 131 = some 64 from rfl, dv_s, kS_eq d H S (li_155 H).1, ca_ret, ite0]; rfl
  rw [f0, f1, f2, f3, f4, f5, f6, f7, f8, f9, f10, f11, f12, f13]
  exact swf_eq (D := fun i => c_240_461 (d + 3) x1 x2 i h) tb_240_ok
end
