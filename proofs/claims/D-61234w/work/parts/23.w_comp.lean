set_option maxRecDepth 100000
theorem db_m2 : (Int8.ofInt (-2)).toInt32 = (-2) := by decide
theorem db_7 : (Int8.ofInt 7).toInt32 = 7 := by decide
theorem db_126 : (Int8.ofInt 126).toInt32 = 126 := by decide
theorem ds_m10000 : (Int16.ofInt (-10000)).toInt32 = (-10000) := by decide
theorem ds_1000 : (Int16.ofInt 1000).toInt32 = 1000 := by decide
theorem ds_1200 : (Int16.ofInt 1200).toInt32 = 1200 := by decide
theorem fl_X1_10_X1 : FL RX1 10 nX1 0 RX1 TX1 4 := ⟨rfl, by decide, _, q209, Or.inl rfl⟩
theorem fl_X1_19_X1 : FL RX1 19 nX1 1 RX1 TX1 4 := ⟨rfl, by decide, _, q210, Or.inl rfl⟩
theorem fl_X1_26_X1 : FL RX1 26 nX1 2 RX1 TX1 4 := ⟨rfl, by decide, _, q211, Or.inl rfl⟩
theorem fl_X1_30_X1 : FL RX1 30 nX1 3 RX1 TX1 4 := ⟨rfl, by decide, _, q212, Or.inl rfl⟩
theorem fl_X1_91_X7 : FL RX1 91 nX7 0 RX7 TX7 3 := ⟨rfl, by decide, _, q1195, Or.inl rfl⟩
theorem fl_X1_148_X7 : FL RX1 148 nX7 1 RX7 TX7 3 := ⟨rfl, by decide, _, q1197, Or.inl rfl⟩
theorem fl_X1_155_X7 : FL RX1 155 nX7 2 RX7 TX7 3 := ⟨rfl, by decide, _, q1199, Or.inl rfl⟩
theorem fl_X1_180_X4 : FL RX1 180 nX4 0 RX4 TX4 3 := ⟨rfl, by decide, _, q640, Or.inl rfl⟩
theorem lkI_X1_9 : LkI RX1 9 mJ1_init 0 := ⟨okJ1_init, q115, q116, rfl, rfl, rfl, ⟨by decide, by decide⟩, by decide +kernel⟩
theorem lkI_X1_18 : LkI RX1 18 mJ6_init 0 := ⟨okJ6_init, q148, q149, rfl, rfl, rfl, ⟨by decide, by decide⟩, by decide +kernel⟩
theorem lkI_X1_25 : LkI RX1 25 mJ8_init 0 := ⟨okJ8_init, q177, q178, rfl, rfl, rfl, ⟨by decide, by decide⟩, by decide +kernel⟩
theorem lkV_X1_42_J1 : LkV RX1 42 RJ1 mJ1_length 0 := ⟨okJ1_length, q1526, q253, q254, ⟨by decide, by decide⟩, by decide +kernel⟩
theorem lkS_X1_38 : LkS RX1 38 mX1_need 1 := ⟨okX1_need, q1714, q1715, ⟨by decide, by decide⟩, by decide +kernel⟩
theorem lkV_X1_49_J1 : LkV RX1 49 RJ1 mJ1_append_3 1 := ⟨okJ1_append_3, q1694, q1219, q1220, ⟨by decide, by decide⟩, by decide +kernel⟩
theorem lkV_X1_53_J1 : LkV RX1 53 RJ1 mJ1_setLength 1 := ⟨okJ1_setLength, q892, q893, q894, ⟨by decide, by decide⟩, by decide +kernel⟩
theorem lkV_X1_57_J1 : LkV RX1 57 RJ1 mJ1_charAt 1 := ⟨okJ1_charAt, q1757, q260, q261, ⟨by decide, by decide⟩, by decide +kernel⟩
theorem lkI_X1_63 : LkI RX1 63 mX3_init 1 := ⟨okX3_init, q229, q230, rfl, rfl, rfl, ⟨by decide, by decide⟩, by decide +kernel⟩
theorem lkV_X1_66_X3 : LkV RX1 66 RX3 mX3_isOver 0 := ⟨okX3_isOver, q240, q241, q242, ⟨by decide, by decide⟩, by decide +kernel⟩
theorem lkV_X1_70_X3 : LkV RX1 70 RX3 mX3_readKind 1 := ⟨okX3_readKind, q289, q290, q291, ⟨by decide, by decide⟩, by decide +kernel⟩
theorem lkV_X1_84_J6 : LkV RX1 84 RJ6 mJ6_size 0 := ⟨okJ6_size, q915, q654, q655, ⟨by decide, by decide⟩, by decide +kernel⟩
theorem lkV_X1_74_J6 : LkV RX1 74 RJ6 mJ6_add 1 := ⟨okJ6_add, q891, q839, q840, ⟨by decide, by decide⟩, by decide +kernel⟩
theorem lkV_X1_106_J6 : LkV RX1 106 RJ6 mJ6_iterator 0 := ⟨okJ6_iterator, q1387, q658, q659, ⟨by decide, by decide⟩, by decide +kernel⟩
theorem lkV_X1_87_X3 : LkV RX1 87 RX3 mX3_readLine 1 := ⟨okX3_readLine, q920, q921, q922, ⟨by decide, by decide⟩, by decide +kernel⟩
theorem lkS_X1_96 : LkS RX1 96 mJ20_valueOf 1 := ⟨okJ20_valueOf, q1310, q936, ⟨by decide, by decide⟩, by decide +kernel⟩
theorem lkF_X1_110_J22 : LkF RX1 110 RJ22 ⟨"java/util/Iterator", "hasNext", "()Z"⟩ mJ22_hasNext 0 := ⟨okJ22_hasNext, q1389, q685, q687, q683, q682, q688, q686, q684, ⟨by decide, by decide⟩, by decide +kernel⟩
theorem lkV_X1_102_J8 : LkV RX1 102 RJ8 mJ8_put 2 := ⟨okJ8_put, q1311, q1312, q1313, ⟨by decide, by decide⟩, by decide +kernel⟩
theorem lkF_X1_115_J22 : LkF RX1 115 RJ22 ⟨"java/util/Iterator", "next", "()Ljava/lang/Object;"⟩ mJ22_next 0 := ⟨okJ22_next, q1391, q700, q702, q699, q698, q703, q701, q684, ⟨by decide, by decide⟩, by decide +kernel⟩
theorem lkV_X1_129_J8 : LkV RX1 129 RJ8 mJ8_size 0 := ⟨okJ8_size, q1414, q925, q926, ⟨by decide, by decide⟩, by decide +kernel⟩
theorem lkV_X1_119_X7 : LkV RX1 119 RX7 mX7_references 0 := ⟨okX7_references, q1393, q1394, q1395, ⟨by decide, by decide⟩, by decide +kernel⟩
theorem lkV_X1_123_J20 : LkV RX1 123 RJ20 mJ20_intValue 0 := ⟨okJ20_intValue, q1412, q1296, q1297, ⟨by decide, by decide⟩, by decide +kernel⟩
theorem lkV_X1_126_J8 : LkV RX1 126 RJ8 mJ8_containsKey 1 := ⟨okJ8_containsKey, q1413, q956, q957, ⟨by decide, by decide⟩, by decide +kernel⟩
theorem lkV_X1_130_J8 : LkV RX1 130 RJ8 mJ8_entrySet 0 := ⟨okJ8_entrySet, q1419, q1420, q1421, ⟨by decide, by decide⟩, by decide +kernel⟩
theorem lkF_X1_134_J31 : LkF RX1 134 RJ31 ⟨"java/util/Set", "iterator", "()Ljava/util/Iterator;"⟩ mJ31_iterator 0 := ⟨okJ31_iterator, q1437, q1441, q1443, q1439, q1438, q1444, q1442, q1440, ⟨by decide, by decide⟩, by decide +kernel⟩
theorem lkF_X1_110_J33 : LkF RX1 110 RJ33 ⟨"java/util/Iterator", "hasNext", "()Z"⟩ mJ32_hasNext 0 := ⟨okJ32_hasNext, q1389, q691, q693, q683, q682, q694, q692, q690, ⟨by decide, by decide⟩, by decide +kernel⟩
theorem lkF_X1_115_J33 : LkF RX1 115 RJ33 ⟨"java/util/Iterator", "next", "()Ljava/lang/Object;"⟩ mJ33_next 0 := ⟨okJ33_next, q1391, q709, q711, q699, q698, q712, q710, q690, ⟨by decide, by decide⟩, by decide +kernel⟩
theorem lkV_X1_145_J1 : LkV RX1 145 RJ1 mJ1_append_4 1 := ⟨okJ1_append_4, q1527, q1528, q1529, ⟨by decide, by decide⟩, by decide +kernel⟩
theorem lkF_X1_139_J29 : LkF RX1 139 RJ29 ⟨"java/util/Map$Entry", "getValue", "()Ljava/lang/Object;"⟩ mJ29_getValue 0 := ⟨okJ29_getValue, q1474, q1478, q1480, q1476, q1475, q1481, q1479, q1477, ⟨by decide, by decide⟩, by decide +kernel⟩
theorem lkV_X1_142_X7 : LkV RX1 142 RX7 mX7_write 1 := ⟨okX7_write, q1483, q1484, q1485, ⟨by decide, by decide⟩, by decide +kernel⟩
theorem lkI_X1_152 : LkI RX1 152 mX7_init 2 := ⟨okX7_init, q1621, q1189, rfl, rfl, rfl, ⟨by decide, by decide⟩, by decide +kernel⟩
theorem lkV_X1_158_J6 : LkV RX1 158 RJ6 mJ6_addAll 1 := ⟨okJ6_addAll, q1622, q1623, q1624, ⟨by decide, by decide⟩, by decide +kernel⟩
theorem lkV_X1_162_J8 : LkV RX1 162 RJ8 mJ8_get 1 := ⟨okJ8_get, q1776, q1777, q1778, ⟨by decide, by decide⟩, by decide +kernel⟩
theorem lkV_X1_166_X1 : LkV RX1 166 RX1 mX1_lineOf 1 := ⟨okX1_lineOf, q1772, q1774, qs21, ⟨by decide, by decide⟩, by decide +kernel⟩
theorem lkV_X1_170_J6 : LkV RX1 170 RJ6 mJ6_get 1 := ⟨okJ6_get, q1701, q1283, q1284, ⟨by decide, by decide⟩, by decide +kernel⟩
theorem lkF_X1_175_J29 : LkF RX1 175 RJ29 ⟨"java/util/Map$Entry", "getKey", "()Ljava/lang/Object;"⟩ mJ29_getKey 0 := ⟨okJ29_getKey, q1679, q1682, q1684, q1681, q1680, q1685, q1683, q1477, ⟨by decide, by decide⟩, by decide +kernel⟩
theorem lkV_X1_181_J2 : LkV RX1 181 RJ2 mJ2_equals 1 := ⟨okJ2_equals, q1703, q728, q729, ⟨by decide, by decide⟩, by decide +kernel⟩
theorem lkS_X1_186 : LkS RX1 186 mX1_over 2 := ⟨okX1_over, q1687, q1688, ⟨by decide, by decide⟩, by decide +kernel⟩
theorem lkV_X1_190_X8 : LkV RX1 190 RX8 mX8_refers 0 := ⟨okX8_refers, q1691, q1404, q1405, ⟨by decide, by decide⟩, by decide +kernel⟩
theorem lkS_X1_197 : LkS RX1 197 mJ15_max 2 := ⟨okJ15_max, q1692, q442, ⟨by decide, by decide⟩, by decide +kernel⟩
theorem lkV_X1_203_X1 : LkV RX1 203 RX1 mX1_kindOf 1 := ⟨okX1_kindOf, q1780, q1782, qs22, ⟨by decide, by decide⟩, by decide +kernel⟩
theorem lkV_X1_207_X1 : LkV RX1 207 RX1 mX1_depths 0 := ⟨okX1_depths, q1674, q1676, qs20, ⟨by decide, by decide⟩, by decide +kernel⟩
theorem lkV_X1_211_X1 : LkV RX1 211 RX1 mX1_argumentOf 2 := ⟨okX1_argumentOf, q1792, q1794, qs23, ⟨by decide, by decide⟩, by decide +kernel⟩
theorem lkU_X1_219_X6 : LkU RX1 219 RX6 "java/lang/Enum" ⟨"ExchangeText$Sort", "ordinal", "()I"⟩ mJ24_ordinal 0 := ⟨okJ24_ordinal, q1796, q1499, q1501, q1502, Or.inr q1500, ⟨by decide, by decide⟩, by decide +kernel⟩
theorem lkV_X1_230_X8 : LkV RX1 230 RX8 mX8_size 0 := ⟨okX8_size, q1799, q1800, q1801, ⟨by decide, by decide⟩, by decide +kernel⟩
theorem lkV_X1_231_X8 : LkV RX1 231 RX8 mX8_item 1 := ⟨okX8_item, q1816, q1817, q1818, ⟨by decide, by decide⟩, by decide +kernel⟩
theorem lkS_X1_237 : LkS RX1 237 mX8_of 2 := ⟨okX8_of, q1829, q1271, ⟨by decide, by decide⟩, by decide +kernel⟩
theorem lkV_X1_241_J6 : LkV RX1 241 RJ6 mJ6_set 2 := ⟨okJ6_set, q1830, q1831, q1832, ⟨by decide, by decide⟩, by decide +kernel⟩
theorem sw_X1_told_24 {G : Gm} {lv : List (Nat × Value)} {st : List Value} {w : Wd} {Q : Rs → Wd → Prop} {x : Int32} (u0 : ¬ x = 0) (u1 : ¬ x = 1) (u2 : ¬ x = 2) (kk : Rn G mX1_told 74 lv st w Q) : Rn G mX1_told 24 lv (.int x :: st) w Q := by
  have g0 : x.toInt ≠ 0 := fun h => u0 (Int32.toInt_inj.mp (h.trans (by decide)))
  have g1 : x.toInt ≠ 1 := fun h => u1 (Int32.toInt_inj.mp (h.trans (by decide)))
  have g2 : x.toInt ≠ 2 := fun h => u2 (Int32.toInt_inj.mp (h.trans (by decide)))
  by_cases hlo : x.toInt < 0 ∨ 2 < x.toInt
  · exact r_tabOut 14 74 rfl rfl hlo kk
  · have h1 : ¬ x.toInt < 0 := fun h => hlo (Or.inl h)
    have h2 : ¬ 2 < x.toInt := fun h => hlo (Or.inr h)
    omega
theorem e_X1_init {G : Gm} {κ : Nat → Nat} {φ : Nat → Option Nat} (hS : GS G κ φ) {w : Wd} {Q : Rs → Wd → Prop} {a1 : Nat} (hg : 101 ≤ w.2.2) (hg1 : (12 + 16) ≤ w.2.2 - (12 + 4)) (o2 : w.1 a1 = some (.inl (nX1, [.null, .null, .null, .null]))) (k3 : Q (.inl none) (wset (wset (wnew (wset (wset (wnew (wset (wset (wnew (wset (wset (wnew (wnew w (.inl (nJ1, [.null, .int 0, .int 0, .int 0])) 4) (arB 16 (fun _ => 0)) 16) w.2.1 (.inl (nJ1, [.ref (w.2.1 + 1), .int 0, .int 0, .int 0]))) a1 (.inl (nX1, [.ref w.2.1, .null, .null, .null]))) (.inl (nJ6, [.int 0, .null, .int 0])) 3) (w.2.1 + 2) (.inl (nJ6, [.int 0, .ref (κ 1), .int 0]))) a1 (.inl (nX1, [.ref w.2.1, .ref (w.2.1 + 2), .null, .null]))) (.inl (nJ8, [.null, .null, .null, .null, .int 0, .int 0, .null, .null, .null])) 9) (w.2.1 + 3) (.inl (nJ8, [.null, .null, .null, .null, .int 0, .int 0, .null, .null, .null]))) a1 (.inl (nX1, [.ref w.2.1, .ref (w.2.1 + 2), .ref (w.2.1 + 3), .null]))) (.inl (nJ8, [.null, .null, .null, .null, .int 0, .int 0, .null, .null, .null])) 9) (w.2.1 + 4) (.inl (nJ8, [.null, .null, .null, .null, .int 0, .int 0, .null, .null, .null]))) a1 (.inl (nX1, [.ref w.2.1, .ref (w.2.1 + 2), .ref (w.2.1 + 3), .ref (w.2.1 + 4)])))) : Ev G mX1_init [.ref a1] w Q := by
  show Rn G mX1_init 0 [(0, .ref a1)] [] w Q
  refine Rn.wok fun hwk => ?_
  refine r_aload_n 0 1 0 rfl rfl rfl ?_
  refine r_objInit q110 q111 q112 1 4 rfl rfl (by decide) (Nat.le_of_ble_eq_true rfl) ?_
  refine r_aload_n 2 5 0 rfl rfl rfl ?_
  refine r_new (fs := [.null, .int 0, .int 0, .int 0]) (ty := tyJ1) (T := TJ1) (C := RJ1) (N := 4) (ci := nJ1) (n := 4) 3 8 rfl rfl rfl in_J1 tyJ1_ok q113 q114 q62 rfl (by decide) (by show 12 + 4 ≤ w.2.2; omega) ?_
  show Rn G mX1_init 8 [(0, .ref a1)] [.ref w.2.1, .ref a1] (wnew w (.inl (nJ1, [.null, .int 0, .int 0, .int 0])) 4) _
  refine r_dup 4 9 rfl rfl rfl ?_
  refine r_callI lkI_X1_9 5 12 rfl rfl (by decide) [] rfl rfl (Nat.le_of_ble_eq_true rfl) (Nat.le_of_ble_eq_true rfl) (e_J1_init hS (o1 := wnew_s) (hg2 := hg1) (k3 := ?_)) (fun _ _ h => h)
  show Rn G mX1_init 12 [(0, .ref a1)] [.ref w.2.1, .ref a1] (wset (wnew (wnew w (.inl (nJ1, [.null, .int 0, .int 0, .int 0])) 4) (arB 16 (fun _ => 0)) 16) w.2.1 (.inl (nJ1, [.ref (w.2.1 + 1), .int 0, .int 0, .int 0]))) _
  refine r_putF (i := 0) fl_X1_10_X1 in_X1 q106 (ty0 := tyX1) tyX1_ok nmX1 6 15 rfl rfl (wset_n (wnew_n (wnew_n o2 (by have := (hwk.1 _ _ o2).2; show a1 < w.2.1; omega)) (by have := (hwk.1 _ _ o2).2; show a1 < (w.2.1 + 1); omega)) (Nat.ne_of_lt (show a1 < w.2.1 from (by have := (hwk.1 _ _ o2).2; omega)))) rfl rfl rfl rfl rfl (Nat.le_of_ble_eq_true rfl) ?_
  show Rn G mX1_init 15 [(0, .ref a1)] [] (wset (wset (wnew (wnew w (.inl (nJ1, [.null, .int 0, .int 0, .int 0])) 4) (arB 16 (fun _ => 0)) 16) w.2.1 (.inl (nJ1, [.ref (w.2.1 + 1), .int 0, .int 0, .int 0]))) a1 (.inl (nX1, [.ref w.2.1, .null, .null, .null]))) _
  refine r_aload_n 7 16 0 rfl rfl rfl ?_
  refine r_new (fs := [.int 0, .null, .int 0]) (ty := tyJ6) (T := TJ6) (C := RJ6) (N := 3) (ci := nJ6) (n := 3) 8 19 rfl rfl rfl in_J6 tyJ6_ok q146 q147 q67 rfl (by decide) (by show 12 + 3 ≤ w.2.2 - (12 + 4) - (12 + 16); omega) ?_
  show Rn G mX1_init 19 [(0, .ref a1)] [.ref (w.2.1 + 2), .ref a1] (wnew (wset (wset (wnew (wnew w (.inl (nJ1, [.null, .int 0, .int 0, .int 0])) 4) (arB 16 (fun _ => 0)) 16) w.2.1 (.inl (nJ1, [.ref (w.2.1 + 1), .int 0, .int 0, .int 0]))) a1 (.inl (nX1, [.ref w.2.1, .null, .null, .null]))) (.inl (nJ6, [.int 0, .null, .int 0])) 3) _
  refine r_dup 9 20 rfl rfl rfl ?_
  refine r_callI lkI_X1_18 10 23 rfl rfl (by decide) [] rfl rfl (Nat.le_of_ble_eq_true rfl) (Nat.le_of_ble_eq_true rfl) (e_J6_init hS (o1 := wnew_s) (k2 := ?_)) (fun _ _ h => h)
  show Rn G mX1_init 23 [(0, .ref a1)] [.ref (w.2.1 + 2), .ref a1] (wset (wnew (wset (wset (wnew (wnew w (.inl (nJ1, [.null, .int 0, .int 0, .int 0])) 4) (arB 16 (fun _ => 0)) 16) w.2.1 (.inl (nJ1, [.ref (w.2.1 + 1), .int 0, .int 0, .int 0]))) a1 (.inl (nX1, [.ref w.2.1, .null, .null, .null]))) (.inl (nJ6, [.int 0, .null, .int 0])) 3) (w.2.1 + 2) (.inl (nJ6, [.int 0, .ref (κ 1), .int 0]))) _
  refine r_put (i := 1) fl_X1_19_X1 in_X1 q106 (ty0 := tyX1) tyX1_ok nmX1 11 26 rfl rfl (wset_n (wnew_n wset_s (by have := (hwk.1 _ _ o2).2; show a1 < (w.2.1 + 2); omega)) (Nat.ne_of_lt (show a1 < (w.2.1 + 2) from (by have := (hwk.1 _ _ o2).2; omega)))) rfl rfl rfl (Nat.le_of_ble_eq_true rfl) ?_
  show Rn G mX1_init 26 [(0, .ref a1)] [] (wset (wset (wnew (wset (wset (wnew (wnew w (.inl (nJ1, [.null, .int 0, .int 0, .int 0])) 4) (arB 16 (fun _ => 0)) 16) w.2.1 (.inl (nJ1, [.ref (w.2.1 + 1), .int 0, .int 0, .int 0]))) a1 (.inl (nX1, [.ref w.2.1, .null, .null, .null]))) (.inl (nJ6, [.int 0, .null, .int 0])) 3) (w.2.1 + 2) (.inl (nJ6, [.int 0, .ref (κ 1), .int 0]))) a1 (.inl (nX1, [.ref w.2.1, .ref (w.2.1 + 2), .null, .null]))) _
  refine r_aload_n 12 27 0 rfl rfl rfl ?_
  refine r_new (fs := [.null, .null, .null, .null, .int 0, .int 0, .null, .null, .null]) (ty := tyJ8) (T := TJ8) (C := RJ8) (N := 9) (ci := nJ8) (n := 9) 13 30 rfl rfl rfl in_J8 tyJ8_ok q175 q176 q69 rfl (by decide) (by show 12 + 9 ≤ w.2.2 - (12 + 4) - (12 + 16) - (12 + 3); omega) ?_
  show Rn G mX1_init 30 [(0, .ref a1)] [.ref (w.2.1 + 3), .ref a1] (wnew (wset (wset (wnew (wset (wset (wnew (wnew w (.inl (nJ1, [.null, .int 0, .int 0, .int 0])) 4) (arB 16 (fun _ => 0)) 16) w.2.1 (.inl (nJ1, [.ref (w.2.1 + 1), .int 0, .int 0, .int 0]))) a1 (.inl (nX1, [.ref w.2.1, .null, .null, .null]))) (.inl (nJ6, [.int 0, .null, .int 0])) 3) (w.2.1 + 2) (.inl (nJ6, [.int 0, .ref (κ 1), .int 0]))) a1 (.inl (nX1, [.ref w.2.1, .ref (w.2.1 + 2), .null, .null]))) (.inl (nJ8, [.null, .null, .null, .null, .int 0, .int 0, .null, .null, .null])) 9) _
  refine r_dup 14 31 rfl rfl rfl ?_
  refine r_callI lkI_X1_25 15 34 rfl rfl (by decide) [] rfl rfl (Nat.le_of_ble_eq_true rfl) (Nat.le_of_ble_eq_true rfl) (e_J8_init hS (o1 := wnew_s) (k2 := ?_)) (fun _ _ h => h)
  show Rn G mX1_init 34 [(0, .ref a1)] [.ref (w.2.1 + 3), .ref a1] (wset (wnew (wset (wset (wnew (wset (wset (wnew (wnew w (.inl (nJ1, [.null, .int 0, .int 0, .int 0])) 4) (arB 16 (fun _ => 0)) 16) w.2.1 (.inl (nJ1, [.ref (w.2.1 + 1), .int 0, .int 0, .int 0]))) a1 (.inl (nX1, [.ref w.2.1, .null, .null, .null]))) (.inl (nJ6, [.int 0, .null, .int 0])) 3) (w.2.1 + 2) (.inl (nJ6, [.int 0, .ref (κ 1), .int 0]))) a1 (.inl (nX1, [.ref w.2.1, .ref (w.2.1 + 2), .null, .null]))) (.inl (nJ8, [.null, .null, .null, .null, .int 0, .int 0, .null, .null, .null])) 9) (w.2.1 + 3) (.inl (nJ8, [.null, .null, .null, .null, .int 0, .int 0, .null, .null, .null]))) _
  refine r_put (i := 2) fl_X1_26_X1 in_X1 q106 (ty0 := tyX1) tyX1_ok nmX1 16 37 rfl rfl (wset_n (wnew_n wset_s (by have := (hwk.1 _ _ o2).2; show a1 < (w.2.1 + 3); omega)) (Nat.ne_of_lt (show a1 < (w.2.1 + 3) from (by have := (hwk.1 _ _ o2).2; omega)))) rfl rfl rfl (Nat.le_of_ble_eq_true rfl) ?_
  show Rn G mX1_init 37 [(0, .ref a1)] [] (wset (wset (wnew (wset (wset (wnew (wset (wset (wnew (wnew w (.inl (nJ1, [.null, .int 0, .int 0, .int 0])) 4) (arB 16 (fun _ => 0)) 16) w.2.1 (.inl (nJ1, [.ref (w.2.1 + 1), .int 0, .int 0, .int 0]))) a1 (.inl (nX1, [.ref w.2.1, .null, .null, .null]))) (.inl (nJ6, [.int 0, .null, .int 0])) 3) (w.2.1 + 2) (.inl (nJ6, [.int 0, .ref (κ 1), .int 0]))) a1 (.inl (nX1, [.ref w.2.1, .ref (w.2.1 + 2), .null, .null]))) (.inl (nJ8, [.null, .null, .null, .null, .int 0, .int 0, .null, .null, .null])) 9) (w.2.1 + 3) (.inl (nJ8, [.null, .null, .null, .null, .int 0, .int 0, .null, .null, .null]))) a1 (.inl (nX1, [.ref w.2.1, .ref (w.2.1 + 2), .ref (w.2.1 + 3), .null]))) _
  refine r_aload_n 17 38 0 rfl rfl rfl ?_
  refine r_new (fs := [.null, .null, .null, .null, .int 0, .int 0, .null, .null, .null]) (ty := tyJ8) (T := TJ8) (C := RJ8) (N := 9) (ci := nJ8) (n := 9) 18 41 rfl rfl rfl in_J8 tyJ8_ok q175 q176 q69 rfl (by decide) (by show 12 + 9 ≤ w.2.2 - (12 + 4) - (12 + 16) - (12 + 3) - (12 + 9); omega) ?_
  show Rn G mX1_init 41 [(0, .ref a1)] [.ref (w.2.1 + 4), .ref a1] (wnew (wset (wset (wnew (wset (wset (wnew (wset (wset (wnew (wnew w (.inl (nJ1, [.null, .int 0, .int 0, .int 0])) 4) (arB 16 (fun _ => 0)) 16) w.2.1 (.inl (nJ1, [.ref (w.2.1 + 1), .int 0, .int 0, .int 0]))) a1 (.inl (nX1, [.ref w.2.1, .null, .null, .null]))) (.inl (nJ6, [.int 0, .null, .int 0])) 3) (w.2.1 + 2) (.inl (nJ6, [.int 0, .ref (κ 1), .int 0]))) a1 (.inl (nX1, [.ref w.2.1, .ref (w.2.1 + 2), .null, .null]))) (.inl (nJ8, [.null, .null, .null, .null, .int 0, .int 0, .null, .null, .null])) 9) (w.2.1 + 3) (.inl (nJ8, [.null, .null, .null, .null, .int 0, .int 0, .null, .null, .null]))) a1 (.inl (nX1, [.ref w.2.1, .ref (w.2.1 + 2), .ref (w.2.1 + 3), .null]))) (.inl (nJ8, [.null, .null, .null, .null, .int 0, .int 0, .null, .null, .null])) 9) _
  refine r_dup 19 42 rfl rfl rfl ?_
  refine r_callI lkI_X1_25 20 45 rfl rfl (by decide) [] rfl rfl (Nat.le_of_ble_eq_true rfl) (Nat.le_of_ble_eq_true rfl) (e_J8_init hS (o1 := wnew_s) (k2 := ?_)) (fun _ _ h => h)
  show Rn G mX1_init 45 [(0, .ref a1)] [.ref (w.2.1 + 4), .ref a1] (wset (wnew (wset (wset (wnew (wset (wset (wnew (wset (wset (wnew (wnew w (.inl (nJ1, [.null, .int 0, .int 0, .int 0])) 4) (arB 16 (fun _ => 0)) 16) w.2.1 (.inl (nJ1, [.ref (w.2.1 + 1), .int 0, .int 0, .int 0]))) a1 (.inl (nX1, [.ref w.2.1, .null, .null, .null]))) (.inl (nJ6, [.int 0, .null, .int 0])) 3) (w.2.1 + 2) (.inl (nJ6, [.int 0, .ref (κ 1), .int 0]))) a1 (.inl (nX1, [.ref w.2.1, .ref (w.2.1 + 2), .null, .null]))) (.inl (nJ8, [.null, .null, .null, .null, .int 0, .int 0, .null, .null, .null])) 9) (w.2.1 + 3) (.inl (nJ8, [.null, .null, .null, .null, .int 0, .int 0, .null, .null, .null]))) a1 (.inl (nX1, [.ref w.2.1, .ref (w.2.1 + 2), .ref (w.2.1 + 3), .null]))) (.inl (nJ8, [.null, .null, .null, .null, .int 0, .int 0, .null, .null, .null])) 9) (w.2.1 + 4) (.inl (nJ8, [.null, .null, .null, .null, .int 0, .int 0, .null, .null, .null]))) _
  refine r_put (i := 3) fl_X1_30_X1 in_X1 q106 (ty0 := tyX1) tyX1_ok nmX1 21 48 rfl rfl (wset_n (wnew_n wset_s (by have := (hwk.1 _ _ o2).2; show a1 < (w.2.1 + 4); omega)) (Nat.ne_of_lt (show a1 < (w.2.1 + 4) from (by have := (hwk.1 _ _ o2).2; omega)))) rfl rfl rfl (Nat.le_of_ble_eq_true rfl) ?_
  show Rn G mX1_init 48 [(0, .ref a1)] [] (wset (wset (wnew (wset (wset (wnew (wset (wset (wnew (wset (wset (wnew (wnew w (.inl (nJ1, [.null, .int 0, .int 0, .int 0])) 4) (arB 16 (fun _ => 0)) 16) w.2.1 (.inl (nJ1, [.ref (w.2.1 + 1), .int 0, .int 0, .int 0]))) a1 (.inl (nX1, [.ref w.2.1, .null, .null, .null]))) (.inl (nJ6, [.int 0, .null, .int 0])) 3) (w.2.1 + 2) (.inl (nJ6, [.int 0, .ref (κ 1), .int 0]))) a1 (.inl (nX1, [.ref w.2.1, .ref (w.2.1 + 2), .null, .null]))) (.inl (nJ8, [.null, .null, .null, .null, .int 0, .int 0, .null, .null, .null])) 9) (w.2.1 + 3) (.inl (nJ8, [.null, .null, .null, .null, .int 0, .int 0, .null, .null, .null]))) a1 (.inl (nX1, [.ref w.2.1, .ref (w.2.1 + 2), .ref (w.2.1 + 3), .null]))) (.inl (nJ8, [.null, .null, .null, .null, .int 0, .int 0, .null, .null, .null])) 9) (w.2.1 + 4) (.inl (nJ8, [.null, .null, .null, .null, .int 0, .int 0, .null, .null, .null]))) a1 (.inl (nX1, [.ref w.2.1, .ref (w.2.1 + 2), .ref (w.2.1 + 3), .ref (w.2.1 + 4)]))) _
  exact r_vret 22 rfl rfl k3
theorem e_X1_say {G : Gm} {κ : Nat → Nat} {φ : Nat → Option Nat} (hS : GS G κ φ) {w : Wd} {Q : Rs → Wd → Prop} {a1 : Nat} {y2 : Int64} (k1 : Rn G mX1_say 6 [(0, .ref a1), (1, .long y2), (3, .int 0), (4, .int 7)] [] w Q) : Ev G mX1_say [.ref a1, .long y2] w Q := by
  show Rn G mX1_say 0 [(0, .ref a1), (1, .long y2)] [] w Q
  refine r_iconst 0 1 rfl rfl di_0 ?_
  refine r_istore_n (lv' := [(3, .int 0), (0, .ref a1), (1, .long y2)]) 1 2 rfl rfl (Nat.le_of_ble_eq_true rfl) rfl ?_
  refine r_bipush 2 4 rfl rfl db_7 ?_
  refine r_istore (lv' := [(4, .int 7), (3, .int 0), (0, .ref a1), (1, .long y2)]) 3 6 rfl rfl (Nat.le_of_ble_eq_true rfl) rfl ?_
  exact r_sub [2, 3, 1, 0] rfl k1
theorem e_X1_say_6 {G : Gm} {κ : Nat → Nat} {φ : Nat → Option Nat} (hS : GS G κ φ) {w : Wd} {Q : Rs → Wd → Prop} {a1 : Nat} {y2 : Int64} {m3 : Nat} {x4 : Int32} {a5 : Nat} {a6 : Nat} {a7 : Nat} {a8 : Nat} {a9 : Nat} {x10 : Int32} {m11 : Nat} (o1 : Lk G w a1 (.inl (nX1, [.ref a5, .ref a6, .ref a7, .ref a8]))) (o2 : Lk G w a5 (.inl (nJ1, [.ref a9, .int 0, .int x10, .int (nI m11)]))) (bd3 : (m11 + m3) < 2 ^ 31) (k4 : x4 < 0 → (m11 + m3) ≤ 1200 → Rn G mX1_say 98 [(0, .ref a1), (1, .long y2), (4, .int 7)] [] w Q) (hg : 18 ≤ w.2.2) (k5 : x4 < 0 → ¬ (m11 + m3) ≤ 1200 → Q (.inr w.2.1) (wnew w (.inl (nJ13, [.null])) 6)) (k6 : ¬ x4 < 0 → (((y2 >>> ((((8 : Int32) * x4) : Int32).toInt64 &&& 63)) &&& 255) : Int64).toInt32 = 0 → Rn G mX1_say 6 [(0, .ref a1), (1, .long y2), (3, .int (nI m3)), (4, .int (x4 + (-1)))] [] w Q) (k7 : ¬ x4 < 0 → ¬ (((y2 >>> ((((8 : Int32) * x4) : Int32).toInt64 &&& 63)) &&& 255) : Int64).toInt32 = 0 → (((y2 >>> ((((8 : Int32) * x4) : Int32).toInt64 &&& 63)) &&& 255) : Int64).toInt32 < 32 → Q (.inr w.2.1) (wnew w (.inl (nJ12, [.null])) 6)) (k8 : ¬ x4 < 0 → ¬ (((y2 >>> ((((8 : Int32) * x4) : Int32).toInt64 &&& 63)) &&& 255) : Int64).toInt32 = 0 → ¬ (((y2 >>> ((((8 : Int32) * x4) : Int32).toInt64 &&& 63)) &&& 255) : Int64).toInt32 < 32 → (126 : Int32) < (((y2 >>> ((((8 : Int32) * x4) : Int32).toInt64 &&& 63)) &&& 255) : Int64).toInt32 → Q (.inr w.2.1) (wnew w (.inl (nJ12, [.null])) 6)) (k9 : ¬ x4 < 0 → ¬ (((y2 >>> ((((8 : Int32) * x4) : Int32).toInt64 &&& 63)) &&& 255) : Int64).toInt32 = 0 → ¬ (((y2 >>> ((((8 : Int32) * x4) : Int32).toInt64 &&& 63)) &&& 255) : Int64).toInt32 < 32 → ¬ (126 : Int32) < (((y2 >>> ((((8 : Int32) * x4) : Int32).toInt64 &&& 63)) &&& 255) : Int64).toInt32 → Rn G mX1_say 6 [(0, .ref a1), (1, .long y2), (3, .int (nI (m3 + 1))), (4, .int (x4 + (-1)))] [] w Q) : Rn G mX1_say 6 [(0, .ref a1), (1, .long y2), (3, .int (nI m3)), (4, .int x4)] [] w Q := by
  refine r_iload 4 8 3 rfl rfl rfl ?_
  refine r_if_lt 5 11 71 rfl rfl rfl (fun c1 => ?_) (fun c1 => ?_)
  · refine r_aload_n 37 72 0 rfl rfl rfl ?_
    refine r_get (v := .ref a5) fl_X1_10_X1 38 75 rfl rfl o1 rfl ?_
    refine r_callV lkV_X1_42_J1 (C := RJ1) (TT := TJ1) (NN := 4) rfl o2 39 78 rfl rfl (by decide) [] rfl rfl (Nat.le_of_ble_eq_true rfl) (Nat.le_of_ble_eq_true rfl) (e_J1_length hS (m4 := m11) (o1 := o2) (k2 := ?_)) (fun _ _ h => h)
    show Rn G mX1_say 78 [(0, .ref a1), (1, .long y2), (3, .int (nI m3)), (4, .int x4)] [.int (nI m11)] w _
    refine r_iload_n 40 79 2 rfl rfl rfl ?_
    refine r_iadd 41 80 rfl rfl ?_
    refine x_eq (y := (nI (m11 + m3))) (nI_add _ _) ?_
    refine r_sipush 42 83 rfl rfl ds_1200 ?_
    refine y_icmp_le (a := (m11 + m3)) (b := 1200) bd3 (by decide) 43 86 94 rfl rfl rfl (fun c2 => ?_) (fun c2 => ?_)
    · refine r_bipush 48 96 rfl rfl db_7 ?_
      refine r_istore (lv' := [(4, .int 7), (0, .ref a1), (1, .long y2), (3, .int (nI m3))]) 49 98 rfl rfl (Nat.le_of_ble_eq_true rfl) rfl ?_
      exact r_sub [1, 2, 0] rfl (k4 c1 c2)
    · refine r_new (fs := [.null, .null, .null, .null, .null]) (ty := tyE) (T := TE) (C := RJ13) (N := 5) (ci := nJ13) (n := 6) 44 89 rfl rfl rfl inE_J13 tyE_ok q1728 q1729 q75 rfl (by decide) (by show 12 + 6 ≤ w.2.2; omega) ?_
      show Rn G mX1_say 89 [(0, .ref a1), (1, .long y2), (3, .int (nI m3)), (4, .int x4)] [.ref w.2.1] (wnew w (.inl (nJ13, [.null, .null, .null, .null, .null])) 6) _
      refine r_dup 45 90 rfl rfl rfl ?_
      refine r_exc0 (iB := 0) (iC := 1) (iS := 2) (iP := 3) (iM := 4) (names := exN) (nI0 := 0) rfl xw_J13 (hS 55) rfl rfl rfl rfl rfl ⟨⟨by decide, by decide, by decide, by decide⟩, by decide, by decide, by decide, by decide⟩ inE_J13 (ty0 := tyE) tyE_ok nmE (by decide +kernel) exN_fit xch_J13 q1737 q1738 q1739 46 93 rfl rfl (by decide) (by decide) (Nat.le_of_ble_eq_true rfl) wnew_s rfl ⟨by decide, by decide, by decide, by decide⟩ ?_
      refine z_wn ?_
      show Rn G mX1_say 93 [(0, .ref a1), (1, .long y2), (3, .int (nI m3)), (4, .int x4)] [.ref w.2.1] (wnew w (.inl (nJ13, [.null])) 6) _
      exact r_athrow 47 rfl rfl (k5 c1 c2)
  · refine r_lload_n 6 12 1 rfl rfl rfl ?_
    refine r_bipush 7 14 rfl rfl db_8 ?_
    refine r_iload 8 16 3 rfl rfl rfl ?_
    refine r_imul 9 17 rfl rfl ?_
    refine r_lshr 10 18 rfl rfl ?_
    refine r_ldc2 q1713 11 21 rfl rfl ?_
    refine r_land 12 22 rfl rfl ?_
    refine r_l2i 13 23 rfl rfl ?_
    refine r_istore (lv' := [(5, .int (((y2 >>> ((((8 : Int32) * x4) : Int32).toInt64 &&& 63)) &&& 255) : Int64).toInt32), (0, .ref a1), (1, .long y2), (3, .int (nI m3)), (4, .int x4)]) 14 25 rfl rfl (Nat.le_of_ble_eq_true rfl) rfl ?_
    refine r_iload 15 27 0 rfl rfl rfl ?_
    refine r_if_eq 16 30 44 rfl rfl rfl (fun c2 => ?_) (fun c2 => ?_)
    · refine r_iconst 23 45 rfl rfl di_1 ?_
      refine r_goto 24 49 rfl rfl ?_
      refine r_callS lkS_X1_38 26 52 rfl rfl (by decide) [.int 1] rfl rfl (Nat.le_of_ble_eq_true rfl) (Nat.le_of_ble_eq_true rfl) (e_X1_need hS (hg := by show 18 ≤ w.2.2; omega) (k2 := fun z0 => absurd z0 (by decide)) (k1 := fun z2_0 => ?_)) (fun _ _ h => h)
      show Rn G mX1_say 52 [(5, .int (((y2 >>> ((((8 : Int32) * x4) : Int32).toInt64 &&& 63)) &&& 255) : Int64).toInt32), (0, .ref a1), (1, .long y2), (3, .int (nI m3)), (4, .int x4)] [] w _
      refine r_iload_n 27 53 3 rfl rfl rfl ?_
      refine r_iload 28 55 0 rfl rfl rfl ?_
      refine r_if_ne 29 58 62 rfl rfl rfl (fun c => absurd c2 c) (fun _ => ?_)
      refine r_iconst 30 59 rfl rfl di_0 ?_
      refine r_goto 31 63 rfl rfl ?_
      refine r_iadd 33 64 rfl rfl ?_
      refine x_eq (y := (nI m3)) (nI_add _ _) ?_
      refine r_istore_n (lv' := [(3, .int (nI m3)), (5, .int (((y2 >>> ((((8 : Int32) * x4) : Int32).toInt64 &&& 63)) &&& 255) : Int64).toInt32), (0, .ref a1), (1, .long y2), (4, .int x4)]) 34 65 rfl rfl (Nat.le_of_ble_eq_true rfl) rfl ?_
      refine r_iinc (v := (x4 + (-1))) (lv' := [(4, .int (x4 + (-1))), (3, .int (nI m3)), (5, .int (((y2 >>> ((((8 : Int32) * x4) : Int32).toInt64 &&& 63)) &&& 255) : Int64).toInt32), (0, .ref a1), (1, .long y2)]) 35 68 4 rfl rfl rfl (congrArg (fun z => x4 + z) di_m1) (Nat.le_of_ble_eq_true rfl) rfl ?_
      refine r_goto 36 6 rfl rfl ?_
      exact r_sub [3, 4, 1, 0] rfl (k6 c1 c2)
    · refine r_iload 17 32 0 rfl rfl rfl ?_
      refine r_bipush 18 34 rfl rfl db_32 ?_
      refine r_icmp_lt 19 37 48 rfl rfl rfl (fun c3 => ?_) (fun c3 => ?_)
      · refine r_iconst 25 49 rfl rfl di_0 ?_
        refine r_callS lkS_X1_38 26 52 rfl rfl (by decide) [.int 0] rfl rfl (Nat.le_of_ble_eq_true rfl) (Nat.le_of_ble_eq_true rfl) (e_X1_need hS (hg := by show 18 ≤ w.2.2; omega) (k1 := fun z0 => absurd z0 (by decide)) (k2 := fun z3_0 => ?_)) (fun _ _ h => h)
        show Th G mX1_say 49 [(5, .int (((y2 >>> ((((8 : Int32) * x4) : Int32).toInt64 &&& 63)) &&& 255) : Int64).toInt32), (0, .ref a1), (1, .long y2), (3, .int (nI m3)), (4, .int x4)] [] w.2.1 (wnew w (.inl (nJ12, [.null])) 6) _
        exact th_out rfl (k7 c1 c2 c3)
      · refine r_iload 20 39 0 rfl rfl rfl ?_
        refine r_bipush 21 41 rfl rfl db_126 ?_
        refine r_icmp_gt 22 44 48 rfl rfl rfl (fun c4 => ?_) (fun c4 => ?_)
        · refine r_iconst 25 49 rfl rfl di_0 ?_
          refine r_callS lkS_X1_38 26 52 rfl rfl (by decide) [.int 0] rfl rfl (Nat.le_of_ble_eq_true rfl) (Nat.le_of_ble_eq_true rfl) (e_X1_need hS (hg := by show 18 ≤ w.2.2; omega) (k1 := fun z0 => absurd z0 (by decide)) (k2 := fun z4_0 => ?_)) (fun _ _ h => h)
          show Th G mX1_say 49 [(5, .int (((y2 >>> ((((8 : Int32) * x4) : Int32).toInt64 &&& 63)) &&& 255) : Int64).toInt32), (0, .ref a1), (1, .long y2), (3, .int (nI m3)), (4, .int x4)] [] w.2.1 (wnew w (.inl (nJ12, [.null])) 6) _
          exact th_out rfl (k8 c1 c2 c3 c4)
        · refine r_iconst 23 45 rfl rfl di_1 ?_
          refine r_goto 24 49 rfl rfl ?_
          refine r_callS lkS_X1_38 26 52 rfl rfl (by decide) [.int 1] rfl rfl (Nat.le_of_ble_eq_true rfl) (Nat.le_of_ble_eq_true rfl) (e_X1_need hS (hg := by show 18 ≤ w.2.2; omega) (k2 := fun z0 => absurd z0 (by decide)) (k1 := fun z4_0 => ?_)) (fun _ _ h => h)
          show Rn G mX1_say 52 [(5, .int (((y2 >>> ((((8 : Int32) * x4) : Int32).toInt64 &&& 63)) &&& 255) : Int64).toInt32), (0, .ref a1), (1, .long y2), (3, .int (nI m3)), (4, .int x4)] [] w _
          refine r_iload_n 27 53 3 rfl rfl rfl ?_
          refine r_iload 28 55 0 rfl rfl rfl ?_
          refine r_if_ne 29 58 62 rfl rfl rfl (fun _ => ?_) (fun c => absurd c c2)
          refine r_iconst 32 63 rfl rfl di_1 ?_
          refine r_iadd 33 64 rfl rfl ?_
          refine x_eq (y := (nI (m3 + 1))) (nI_add _ _) ?_
          refine r_istore_n (lv' := [(3, .int (nI (m3 + 1))), (5, .int (((y2 >>> ((((8 : Int32) * x4) : Int32).toInt64 &&& 63)) &&& 255) : Int64).toInt32), (0, .ref a1), (1, .long y2), (4, .int x4)]) 34 65 rfl rfl (Nat.le_of_ble_eq_true rfl) rfl ?_
          refine r_iinc (v := (x4 + (-1))) (lv' := [(4, .int (x4 + (-1))), (3, .int (nI (m3 + 1))), (5, .int (((y2 >>> ((((8 : Int32) * x4) : Int32).toInt64 &&& 63)) &&& 255) : Int64).toInt32), (0, .ref a1), (1, .long y2)]) 35 68 4 rfl rfl rfl (congrArg (fun z => x4 + z) di_m1) (Nat.le_of_ble_eq_true rfl) rfl ?_
          refine r_goto 36 6 rfl rfl ?_
          exact r_sub [3, 4, 1, 0] rfl (k9 c1 c2 c3 c4)
theorem e_X1_say_98 {G : Gm} {κ : Nat → Nat} {φ : Nat → Option Nat} (hS : GS G κ φ) {w : Wd} {Q : Rs → Wd → Prop} {a1 : Nat} {y2 : Int64} {x3 : Int32} {a4 : Nat} {a5 : Nat} {a6 : Nat} {a7 : Nat} {a8 : Nat} {x9 : Int32} {m10 : Nat} (o1 : Lk G w a1 (.inl (nX1, [.ref a4, .ref a5, .ref a6, .ref a7]))) (o2 : Lk G w a4 (.inl (nJ1, [.ref a8, .int 0, .int x9, .int (nI m10)]))) (k3 : x3 < 0 → Q (.inl (some (.int (nI m10)))) w) (k4 : ¬ x3 < 0 → (((y2 >>> ((((8 : Int32) * x3) : Int32).toInt64 &&& 63)) &&& 255) : Int64).toInt32 = 0 → Rn G mX1_say 98 [(0, .ref a1), (1, .long y2), (4, .int (x3 + (-1)))] [] w Q) (q5 : ¬ x3 < 0 → ¬ (((y2 >>> ((((8 : Int32) * x3) : Int32).toInt64 &&& 63)) &&& 255) : Int64).toInt32 = 0 → (((((y2 >>> ((((8 : Int32) * x3) : Int32).toInt64 &&& 63)) &&& 255) : Int64).toInt32 : Int32).toUInt32 % 65536).toInt32 = (((y2 >>> ((((8 : Int32) * x3) : Int32).toInt64 &&& 63)) &&& 255) : Int64).toInt32) {Q6 : Rs → Wd → Prop} (e6 : ¬ x3 < 0 → ¬ (((y2 >>> ((((8 : Int32) * x3) : Int32).toInt64 &&& 63)) &&& 255) : Int64).toInt32 = 0 → Ev G mJ1_append_3 [.ref a4, .int (((y2 >>> ((((8 : Int32) * x3) : Int32).toInt64 &&& 63)) &&& 255) : Int64).toInt32] w Q6) (k6 : ¬ x3 < 0 → ¬ (((y2 >>> ((((8 : Int32) * x3) : Int32).toInt64 &&& 63)) &&& 255) : Int64).toInt32 = 0 → ∀ r w', Q6 r w' → Af G mX1_say 129 132 [(0, .ref a1), (1, .long y2), (4, .int x3)] [] r w' Q) : Rn G mX1_say 98 [(0, .ref a1), (1, .long y2), (4, .int x3)] [] w Q := by
  refine r_iload 50 100 2 rfl rfl rfl ?_
  refine r_if_lt 51 103 139 rfl rfl rfl (fun c1 => ?_) (fun c1 => ?_)
  · refine r_aload_n 71 140 0 rfl rfl rfl ?_
    refine r_get (v := .ref a4) fl_X1_10_X1 72 143 rfl rfl o1 rfl ?_
    refine r_callV lkV_X1_42_J1 (C := RJ1) (TT := TJ1) (NN := 4) rfl o2 73 146 rfl rfl (by decide) [] rfl rfl (Nat.le_of_ble_eq_true rfl) (Nat.le_of_ble_eq_true rfl) (e_J1_length hS (m4 := m10) (o1 := o2) (k2 := ?_)) (fun _ _ h => h)
    show Rn G mX1_say 146 [(0, .ref a1), (1, .long y2), (4, .int x3)] [.int (nI m10)] w _
    exact r_iret 74 rfl rfl rfl (k3 c1)
  · refine r_lload_n 52 104 1 rfl rfl rfl ?_
    refine r_bipush 53 106 rfl rfl db_8 ?_
    refine r_iload 54 108 2 rfl rfl rfl ?_
    refine r_imul 55 109 rfl rfl ?_
    refine r_lshr 56 110 rfl rfl ?_
    refine r_ldc2 q1713 57 113 rfl rfl ?_
    refine r_land 58 114 rfl rfl ?_
    refine r_l2i 59 115 rfl rfl ?_
    refine r_istore (lv' := [(5, .int (((y2 >>> ((((8 : Int32) * x3) : Int32).toInt64 &&& 63)) &&& 255) : Int64).toInt32), (0, .ref a1), (1, .long y2), (4, .int x3)]) 60 117 rfl rfl (Nat.le_of_ble_eq_true rfl) rfl ?_
    refine r_iload 61 119 0 rfl rfl rfl ?_
    refine r_if_eq 62 122 133 rfl rfl rfl (fun c2 => ?_) (fun c2 => ?_)
    · refine r_iinc (v := (x3 + (-1))) (lv' := [(4, .int (x3 + (-1))), (5, .int (((y2 >>> ((((8 : Int32) * x3) : Int32).toInt64 &&& 63)) &&& 255) : Int64).toInt32), (0, .ref a1), (1, .long y2)]) 69 136 3 rfl rfl rfl (congrArg (fun z => x3 + z) di_m1) (Nat.le_of_ble_eq_true rfl) rfl ?_
      refine r_goto 70 98 rfl rfl ?_
      exact r_sub [2, 3, 0] rfl (k4 c1 c2)
    · refine r_aload_n 63 123 1 rfl rfl rfl ?_
      refine r_get (v := .ref a4) fl_X1_10_X1 64 126 rfl rfl o1 rfl ?_
      refine r_iload 65 128 0 rfl rfl rfl ?_
      refine x_i2c 66 129 rfl rfl (q5 c1 c2) ?_
      exact r_callV lkV_X1_49_J1 (C := RJ1) (TT := TJ1) (NN := 4) rfl o2 67 132 rfl rfl (by decide) [.int (((y2 >>> ((((8 : Int32) * x3) : Int32).toInt64 &&& 63)) &&& 255) : Int64).toInt32] rfl rfl (Nat.le_of_ble_eq_true rfl) (Nat.le_of_ble_eq_true rfl) (e6 c1 c2) (fun r w' h => Af.sub [1, 2, 3] rfl ((k6 c1 c2) r w' h))
theorem e_X1_say_132 {G : Gm} {κ : Nat → Nat} {φ : Nat → Option Nat} (hS : GS G κ φ) {w : Wd} {Q : Rs → Wd → Prop} {a1 : Nat} {y2 : Int64} {x3 : Int32} {a4 : Nat} (k1 : Rn G mX1_say 98 [(0, .ref a1), (1, .long y2), (4, .int (x3 + (-1)))] [] w Q) : Rn G mX1_say 132 [(0, .ref a1), (1, .long y2), (4, .int x3)] [.ref a4] w Q := by
  refine r_pop 68 133 rfl rfl rfl ?_
  refine r_iinc (v := (x3 + (-1))) (lv' := [(4, .int (x3 + (-1))), (0, .ref a1), (1, .long y2)]) 69 136 2 rfl rfl rfl (congrArg (fun z => x3 + z) di_m1) (Nat.le_of_ble_eq_true rfl) rfl ?_
  refine r_goto 70 98 rfl rfl ?_
  exact r_sub [1, 2, 0] rfl k1
theorem e_X1_trim {G : Gm} {κ : Nat → Nat} {φ : Nat → Option Nat} (hS : GS G κ φ) {w : Wd} {Q : Rs → Wd → Prop} {a1 : Nat} {x2 : Int32} {a3 : Nat} {a4 : Nat} {a5 : Nat} {a6 : Nat} {a7 : Nat} {x8 : Int32} {m9 : Nat} (hg : 18 ≤ w.2.2) (k1 : x2 < 0 → Q (.inr w.2.1) (wnew w (.inl (nJ12, [.null])) 6)) (o2 : Lk G w a1 (.inl (nX1, [.ref a3, .ref a4, .ref a5, .ref a6]))) (o3 : Lk G w a3 (.inl (nJ1, [.ref a7, .int 0, .int x8, .int (nI m9)]))) (k4 : ¬ x2 < 0 → (nI m9) < x2 → Q (.inr w.2.1) (wnew w (.inl (nJ12, [.null])) 6)) {Q5 : Rs → Wd → Prop} (e5 : ¬ x2 < 0 → ¬ (nI m9) < x2 → Ev G mJ1_setLength [.ref a3, .int ((nI m9) - x2)] w Q5) (k5 : ¬ x2 < 0 → ¬ (nI m9) < x2 → ∀ r w', Q5 r w' → Af G mX1_trim 36 39 [(0, .ref a1)] [] r w' Q) : Ev G mX1_trim [.ref a1, .int x2] w Q := by
  show Rn G mX1_trim 0 [(0, .ref a1), (1, .int x2)] [] w Q
  refine r_iload_n 0 1 1 rfl rfl rfl ?_
  refine r_if_lt 1 4 19 rfl rfl rfl (fun c1 => ?_) (fun c1 => ?_)
  · refine r_iconst 9 20 rfl rfl di_0 ?_
    refine r_callS lkS_X1_38 10 23 rfl rfl (by decide) [.int 0] rfl rfl (Nat.le_of_ble_eq_true rfl) (Nat.le_of_ble_eq_true rfl) (e_X1_need hS (hg := by show 18 ≤ w.2.2; omega) (k1 := fun z0 => absurd z0 (by decide)) (k2 := fun z1_0 => ?_)) (fun _ _ h => h)
    show Th G mX1_trim 20 [(0, .ref a1), (1, .int x2)] [] w.2.1 (wnew w (.inl (nJ12, [.null])) 6) _
    exact th_out rfl (k1 c1)
  · refine r_iload_n 2 5 1 rfl rfl rfl ?_
    refine r_aload_n 3 6 0 rfl rfl rfl ?_
    refine r_get (v := .ref a3) fl_X1_10_X1 4 9 rfl rfl o2 rfl ?_
    refine r_callV lkV_X1_42_J1 (C := RJ1) (TT := TJ1) (NN := 4) rfl o3 5 12 rfl rfl (by decide) [] rfl rfl (Nat.le_of_ble_eq_true rfl) (Nat.le_of_ble_eq_true rfl) (e_J1_length hS (m4 := m9) (o1 := o3) (k2 := ?_)) (fun _ _ h => h)
    show Rn G mX1_trim 12 [(0, .ref a1), (1, .int x2)] [.int (nI m9), .int x2] w _
    refine r_icmp_gt 6 15 19 rfl rfl rfl (fun c2 => ?_) (fun c2 => ?_)
    · refine r_iconst 9 20 rfl rfl di_0 ?_
      refine r_callS lkS_X1_38 10 23 rfl rfl (by decide) [.int 0] rfl rfl (Nat.le_of_ble_eq_true rfl) (Nat.le_of_ble_eq_true rfl) (e_X1_need hS (hg := by show 18 ≤ w.2.2; omega) (k1 := fun z0 => absurd z0 (by decide)) (k2 := fun z2_0 => ?_)) (fun _ _ h => h)
      show Th G mX1_trim 20 [(0, .ref a1), (1, .int x2)] [] w.2.1 (wnew w (.inl (nJ12, [.null])) 6) _
      exact th_out rfl (k4 c1 c2)
    · refine r_iconst 7 16 rfl rfl di_1 ?_
      refine r_goto 8 20 rfl rfl ?_
      refine r_callS lkS_X1_38 10 23 rfl rfl (by decide) [.int 1] rfl rfl (Nat.le_of_ble_eq_true rfl) (Nat.le_of_ble_eq_true rfl) (e_X1_need hS (hg := by show 18 ≤ w.2.2; omega) (k2 := fun z0 => absurd z0 (by decide)) (k1 := fun z2_0 => ?_)) (fun _ _ h => h)
      show Rn G mX1_trim 23 [(0, .ref a1), (1, .int x2)] [] w _
      refine r_aload_n 11 24 0 rfl rfl rfl ?_
      refine r_get (v := .ref a3) fl_X1_10_X1 12 27 rfl rfl o2 rfl ?_
      refine r_aload_n 13 28 0 rfl rfl rfl ?_
      refine r_get (v := .ref a3) fl_X1_10_X1 14 31 rfl rfl o2 rfl ?_
      refine r_callV lkV_X1_42_J1 (C := RJ1) (TT := TJ1) (NN := 4) rfl o3 15 34 rfl rfl (by decide) [] rfl rfl (Nat.le_of_ble_eq_true rfl) (Nat.le_of_ble_eq_true rfl) (e_J1_length hS (m4 := m9) (o1 := o3) (k2 := ?_)) (fun _ _ h => h)
      show Rn G mX1_trim 34 [(0, .ref a1), (1, .int x2)] [.int (nI m9), .ref a3] w _
      refine r_iload_n 16 35 1 rfl rfl rfl ?_
      refine r_isub 17 36 rfl rfl ?_
      exact r_callV lkV_X1_53_J1 (C := RJ1) (TT := TJ1) (NN := 4) rfl o3 18 39 rfl rfl (by decide) [.int ((nI m9) - x2)] rfl rfl (Nat.le_of_ble_eq_true rfl) (Nat.le_of_ble_eq_true rfl) (e5 c1 c2) (fun r w' h => Af.sub [0] rfl ((k5 c1 c2) r w' h))
theorem e_X1_trim_39 {G : Gm} {κ : Nat → Nat} {φ : Nat → Option Nat} (hS : GS G κ φ) {w : Wd} {Q : Rs → Wd → Prop} {a1 : Nat} {a2 : Nat} {a3 : Nat} {a4 : Nat} {a5 : Nat} {a6 : Nat} {x7 : Int32} {m8 : Nat} (o1 : Lk G w a1 (.inl (nX1, [.ref a2, .ref a3, .ref a4, .ref a5]))) (o2 : Lk G w a2 (.inl (nJ1, [.ref a6, .int 0, .int x7, .int (nI m8)]))) (k3 : Q (.inl (some (.int (nI m8)))) w) : Rn G mX1_trim 39 [(0, .ref a1)] [] w Q := by
  refine r_aload_n 19 40 0 rfl rfl rfl ?_
  refine r_get (v := .ref a2) fl_X1_10_X1 20 43 rfl rfl o1 rfl ?_
  refine r_callV lkV_X1_42_J1 (C := RJ1) (TT := TJ1) (NN := 4) rfl o2 21 46 rfl rfl (by decide) [] rfl rfl (Nat.le_of_ble_eq_true rfl) (Nat.le_of_ble_eq_true rfl) (e_J1_length hS (m4 := m8) (o1 := o2) (k2 := ?_)) (fun _ _ h => h)
  show Rn G mX1_trim 46 [(0, .ref a1)] [.int (nI m8)] w _
  exact r_iret 22 rfl rfl rfl k3
theorem e_X1_charAt {G : Gm} {κ : Nat → Nat} {φ : Nat → Option Nat} (hS : GS G κ φ) {w : Wd} {Q : Rs → Wd → Prop} {a1 : Nat} {x2 : Int32} {a3 : Nat} {a4 : Nat} {a5 : Nat} {a6 : Nat} {a7 : Nat} {x8 : Int32} {m9 : Nat} (hg : 18 ≤ w.2.2) (k1 : x2 < 0 → Q (.inr w.2.1) (wnew w (.inl (nJ12, [.null])) 6)) (o2 : Lk G w a1 (.inl (nX1, [.ref a3, .ref a4, .ref a5, .ref a6]))) (o3 : Lk G w a3 (.inl (nJ1, [.ref a7, .int 0, .int x8, .int (nI m9)]))) (k4 : ¬ x2 < 0 → (nI m9) ≤ x2 → Q (.inr w.2.1) (wnew w (.inl (nJ12, [.null])) 6)) (k5 : ¬ x2 < 0 → ¬ (nI m9) ≤ x2 → Rn G mX1_charAt 23 [(0, .ref a1), (1, .int x2)] [] w Q) : Ev G mX1_charAt [.ref a1, .int x2] w Q := by
  show Rn G mX1_charAt 0 [(0, .ref a1), (1, .int x2)] [] w Q
  refine r_iload_n 0 1 1 rfl rfl rfl ?_
  refine r_if_lt 1 4 19 rfl rfl rfl (fun c1 => ?_) (fun c1 => ?_)
  · refine r_iconst 9 20 rfl rfl di_0 ?_
    refine r_callS lkS_X1_38 10 23 rfl rfl (by decide) [.int 0] rfl rfl (Nat.le_of_ble_eq_true rfl) (Nat.le_of_ble_eq_true rfl) (e_X1_need hS (hg := by show 18 ≤ w.2.2; omega) (k1 := fun z0 => absurd z0 (by decide)) (k2 := fun z1_0 => ?_)) (fun _ _ h => h)
    show Th G mX1_charAt 20 [(0, .ref a1), (1, .int x2)] [] w.2.1 (wnew w (.inl (nJ12, [.null])) 6) _
    exact th_out rfl (k1 c1)
  · refine r_iload_n 2 5 1 rfl rfl rfl ?_
    refine r_aload_n 3 6 0 rfl rfl rfl ?_
    refine r_get (v := .ref a3) fl_X1_10_X1 4 9 rfl rfl o2 rfl ?_
    refine r_callV lkV_X1_42_J1 (C := RJ1) (TT := TJ1) (NN := 4) rfl o3 5 12 rfl rfl (by decide) [] rfl rfl (Nat.le_of_ble_eq_true rfl) (Nat.le_of_ble_eq_true rfl) (e_J1_length hS (m4 := m9) (o1 := o3) (k2 := ?_)) (fun _ _ h => h)
    show Rn G mX1_charAt 12 [(0, .ref a1), (1, .int x2)] [.int (nI m9), .int x2] w _
    refine r_icmp_ge 6 15 19 rfl rfl rfl (fun c2 => ?_) (fun c2 => ?_)
    · refine r_iconst 9 20 rfl rfl di_0 ?_
      refine r_callS lkS_X1_38 10 23 rfl rfl (by decide) [.int 0] rfl rfl (Nat.le_of_ble_eq_true rfl) (Nat.le_of_ble_eq_true rfl) (e_X1_need hS (hg := by show 18 ≤ w.2.2; omega) (k1 := fun z0 => absurd z0 (by decide)) (k2 := fun z2_0 => ?_)) (fun _ _ h => h)
      show Th G mX1_charAt 20 [(0, .ref a1), (1, .int x2)] [] w.2.1 (wnew w (.inl (nJ12, [.null])) 6) _
      exact th_out rfl (k4 c1 c2)
    · refine r_iconst 7 16 rfl rfl di_1 ?_
      refine r_goto 8 20 rfl rfl ?_
      refine r_callS lkS_X1_38 10 23 rfl rfl (by decide) [.int 1] rfl rfl (Nat.le_of_ble_eq_true rfl) (Nat.le_of_ble_eq_true rfl) (e_X1_need hS (hg := by show 18 ≤ w.2.2; omega) (k2 := fun z0 => absurd z0 (by decide)) (k1 := fun z2_0 => ?_)) (fun _ _ h => h)
      show Rn G mX1_charAt 23 [(0, .ref a1), (1, .int x2)] [] w _
      exact (k5 c1 c2)
theorem e_X1_charAt_23 {G : Gm} {κ : Nat → Nat} {φ : Nat → Option Nat} (hS : GS G κ φ) {w : Wd} {Q : Rs → Wd → Prop} {a1 : Nat} {m2 : Nat} {a3 : Nat} {a4 : Nat} {a5 : Nat} {a6 : Nat} {a7 : Nat} {x8 : Int32} {m9 : Nat} {n10 : Nat} {g11 : Nat → Nat} (o1 : Lk G w a1 (.inl (nX1, [.ref a3, .ref a4, .ref a5, .ref a6]))) (o2 : Lk G w a3 (.inl (nJ1, [.ref a7, .int 0, .int x8, .int (nI m9)]))) (o3 : Lk G w a7 (arB n10 g11)) (b4 : m9 < 2 ^ 31) (b5 : n10 < 2 ^ 31) (f6 : ¬ n10 < m9) (b7 : m2 < 2 ^ 31) (f8 : m2 < m9) (q9 : (g11 m2) < 128) (k10 : Q (.inl (some (.int (nI (g11 m2))))) w) : Rn G mX1_charAt 23 [(0, .ref a1), (1, .int (nI m2))] [] w Q := by
  refine r_aload_n 11 24 0 rfl rfl rfl ?_
  refine r_get (v := .ref a3) fl_X1_10_X1 12 27 rfl rfl o1 rfl ?_
  refine r_iload_n 13 28 1 rfl rfl rfl ?_
  refine r_callV lkV_X1_57_J1 (C := RJ1) (TT := TJ1) (NN := 4) rfl o2 14 31 rfl rfl (by decide) [.int (nI m2)] rfl rfl (Nat.le_of_ble_eq_true rfl) (Nat.le_of_ble_eq_true rfl) (e_J1_charAt hS (m5 := m9) (m2 := m2) (o1 := o2) (o2 := o3) (b3 := b4) (b4 := b5) (f5 := f6) (b6 := b7) (f7 := f8) (q8 := q9) (k9 := ?_)) (fun _ _ h => h)
  show Rn G mX1_charAt 31 [(0, .ref a1), (1, .int (nI m2))] [.int (nI (g11 m2))] w _
  exact r_iret 15 rfl rfl rfl k10
theorem e_X1_schema {G : Gm} {κ : Nat → Nat} {φ : Nat → Option Nat} (hS : GS G κ φ) {w : Wd} {Q : Rs → Wd → Prop} {a1 : Nat} {a2 : Nat} {a3 : Nat} {a4 : Nat} {a5 : Nat} (hg : 29 ≤ w.2.2) (o1 : Lk G w a1 (.inl (nX1, [.ref a2, .ref a3, .ref a4, .ref a5]))) (k2 : Rn G mX1_schema 20 [(0, .ref a1), (1, .ref w.2.1), (2, .ref (w.2.1 + 1))] [] (wset (wnew (wset (wnew w (.inl (nX3, [.null, .int 0])) 2) w.2.1 (.inl (nX3, [.ref a2, .int 0]))) (.inl (nJ6, [.int 0, .null, .int 0])) 3) (w.2.1 + 1) (.inl (nJ6, [.int 0, .ref (κ 1), .int 0]))) Q) : Ev G mX1_schema [.ref a1] w Q := by
  show Rn G mX1_schema 0 [(0, .ref a1)] [] w Q
  refine Rn.wok fun hwk => ?_
  refine r_new (fs := [.null, .int 0]) (ty := tyX3) (T := TX3) (C := RX3) (N := 2) (ci := nX3) (n := 2) 0 3 rfl rfl rfl in_X3 tyX3_ok q227 q228 q84 rfl (by decide) (by show 12 + 2 ≤ w.2.2; omega) ?_
  show Rn G mX1_schema 3 [(0, .ref a1)] [.ref w.2.1] (wnew w (.inl (nX3, [.null, .int 0])) 2) _
  refine r_dup 1 4 rfl rfl rfl ?_
  refine r_aload_n 2 5 0 rfl rfl rfl ?_
  refine r_get (v := .ref a2) fl_X1_10_X1 3 8 rfl rfl (Lk.new_n o1 (by have := (o1.lt hwk); show a1 < w.2.1; omega)) rfl ?_
  refine r_callI lkI_X1_63 4 11 rfl rfl (by decide) [.ref a2] rfl rfl (Nat.le_of_ble_eq_true rfl) (Nat.le_of_ble_eq_true rfl) (e_X3_init hS (o1 := wnew_s) (k2 := ?_)) (fun _ _ h => h)
  show Rn G mX1_schema 11 [(0, .ref a1)] [.ref w.2.1] (wset (wnew w (.inl (nX3, [.null, .int 0])) 2) w.2.1 (.inl (nX3, [.ref a2, .int 0]))) _
  refine r_astore_n (lv' := [(1, .ref w.2.1), (0, .ref a1)]) 5 12 rfl rfl (Nat.le_of_ble_eq_true rfl) rfl ?_
  refine r_new (fs := [.int 0, .null, .int 0]) (ty := tyJ6) (T := TJ6) (C := RJ6) (N := 3) (ci := nJ6) (n := 3) 6 15 rfl rfl rfl in_J6 tyJ6_ok q146 q147 q67 rfl (by decide) (by show 12 + 3 ≤ w.2.2 - (12 + 2); omega) ?_
  show Rn G mX1_schema 15 [(1, .ref w.2.1), (0, .ref a1)] [.ref (w.2.1 + 1)] (wnew (wset (wnew w (.inl (nX3, [.null, .int 0])) 2) w.2.1 (.inl (nX3, [.ref a2, .int 0]))) (.inl (nJ6, [.int 0, .null, .int 0])) 3) _
  refine r_dup 7 16 rfl rfl rfl ?_
  refine r_callI lkI_X1_18 8 19 rfl rfl (by decide) [] rfl rfl (Nat.le_of_ble_eq_true rfl) (Nat.le_of_ble_eq_true rfl) (e_J6_init hS (o1 := wnew_s) (k2 := ?_)) (fun _ _ h => h)
  show Rn G mX1_schema 19 [(1, .ref w.2.1), (0, .ref a1)] [.ref (w.2.1 + 1)] (wset (wnew (wset (wnew w (.inl (nX3, [.null, .int 0])) 2) w.2.1 (.inl (nX3, [.ref a2, .int 0]))) (.inl (nJ6, [.int 0, .null, .int 0])) 3) (w.2.1 + 1) (.inl (nJ6, [.int 0, .ref (κ 1), .int 0]))) _
  refine r_astore_n (lv' := [(2, .ref (w.2.1 + 1)), (1, .ref w.2.1), (0, .ref a1)]) 9 20 rfl rfl (Nat.le_of_ble_eq_true rfl) rfl ?_
  exact r_sub [2, 1, 0] rfl k2
theorem e_X1_schema_20 {G : Gm} {κ : Nat → Nat} {φ : Nat → Option Nat} (hS : GS G κ φ) {w : Wd} {Q : Rs → Wd → Prop} {a1 : Nat} {a2 : Nat} {a3 : Nat} {a4 : Nat} {m5 : Nat} (o1 : Lk G w a2 (.inl (nX3, [.ref a4, .int (nI m5)]))) {Q2 : Rs → Wd → Prop} (e2 : Ev G mX3_isOver [.ref a2] w Q2) (k2 : ∀ r w', Q2 r w' → Af G mX1_schema 21 24 [(0, .ref a1), (1, .ref a2), (2, .ref a3)] [] r w' Q) : Rn G mX1_schema 20 [(0, .ref a1), (1, .ref a2), (2, .ref a3)] [] w Q := by
  refine r_aload_n 10 21 1 rfl rfl rfl ?_
  exact r_callV lkV_X1_66_X3 (C := RX3) (TT := TX3) (NN := 2) rfl o1 11 24 rfl rfl (by decide) [] rfl rfl (Nat.le_of_ble_eq_true rfl) (Nat.le_of_ble_eq_true rfl) e2 (fun r w' h => Af.sub [0, 1, 2] rfl (k2 r w' h))
theorem e_X1_schema_24 {G : Gm} {κ : Nat → Nat} {φ : Nat → Option Nat} (hS : GS G κ φ) {w : Wd} {Q : Rs → Wd → Prop} {a1 : Nat} {a2 : Nat} {a3 : Nat} {x4 : Int32} {a5 : Nat} {a6 : Nat} {a7 : Nat} {a8 : Nat} {a9 : Nat} {x10 : Int32} {m11 : Nat} {a12 : Nat} {m13 : Nat} (o1 : w.1 a1 = some (.inl (nX1, [.ref a5, .ref a6, .ref a7, .ref a8]))) (o2 : Lk G w a5 (.inl (nJ1, [.ref a9, .int 0, .int x10, .int (nI m11)]))) {Q3 : Rs → Wd → Prop} (e3 : ¬ x4 = 0 → Ev G mJ1_setLength [.ref a5, .int 0] (wset w a1 (.inl (nX1, [.ref a5, .ref a3, .ref a7, .ref a8]))) Q3) (k3 : ¬ x4 = 0 → ∀ r w', Q3 r w' → Af G mX1_schema 61 64 [(2, .ref a3)] [] r w' Q) (o4 : Lk G w a2 (.inl (nX3, [.ref a12, .int (nI m13)]))) {Q5 : Rs → Wd → Prop} (e5 : x4 = 0 → Ev G mX3_readKind [.ref a2, .ref a3] w Q5) (k5 : x4 = 0 → ∀ r w', Q5 r w' → Af G mX1_schema 30 33 [(0, .ref a1), (1, .ref a2), (2, .ref a3)] [.ref a3] r w' Q) : Rn G mX1_schema 24 [(0, .ref a1), (1, .ref a2), (2, .ref a3)] [.int x4] w Q := by
  refine Rn.wok fun hwk => ?_
  refine r_if_ne 12 27 40 rfl rfl rfl (fun c1 => ?_) (fun c1 => ?_)
  · refine r_goto 20 51 rfl rfl ?_
    refine r_aload_n 27 52 0 rfl rfl rfl ?_
    refine r_aload_n 28 53 2 rfl rfl rfl ?_
    refine r_put (i := 1) fl_X1_19_X1 in_X1 q106 (ty0 := tyX1) tyX1_ok nmX1 29 56 rfl rfl o1 rfl rfl rfl (Nat.le_of_ble_eq_true rfl) ?_
    show Rn G mX1_schema 56 [(0, .ref a1), (1, .ref a2), (2, .ref a3)] [] (wset w a1 (.inl (nX1, [.ref a5, .ref a3, .ref a7, .ref a8]))) _
    refine r_aload_n 30 57 0 rfl rfl rfl ?_
    refine r_get (v := .ref a5) fl_X1_10_X1 31 60 rfl rfl (Or.inl wset_s) rfl ?_
    refine r_iconst 32 61 rfl rfl di_0 ?_
    exact r_callV lkV_X1_53_J1 (C := RJ1) (TT := TJ1) (NN := 4) rfl (Lk.set_n o2 (Lk.ne o2 o1 hwk (by intro h; simp at h))) 33 64 rfl rfl (by decide) [.int 0] rfl rfl (Nat.le_of_ble_eq_true rfl) (Nat.le_of_ble_eq_true rfl) (e3 c1) (fun r w' h => Af.sub [2] rfl ((k3 c1) r w' h))
  · refine r_aload_n 13 28 2 rfl rfl rfl ?_
    refine r_aload_n 14 29 1 rfl rfl rfl ?_
    refine r_aload_n 15 30 2 rfl rfl rfl ?_
    exact r_callV lkV_X1_70_X3 (C := RX3) (TT := TX3) (NN := 2) rfl o4 16 33 rfl rfl (by decide) [.ref a3] rfl rfl (Nat.le_of_ble_eq_true rfl) (Nat.le_of_ble_eq_true rfl) (e5 c1) (fun r w' h => Af.sub [0, 1, 2] rfl ((k5 c1) r w' h))
theorem e_X1_schema_64 {G : Gm} {κ : Nat → Nat} {φ : Nat → Option Nat} (hS : GS G κ φ) {w : Wd} {Q : Rs → Wd → Prop} {a1 : Nat} {x2 : Int32} {a3 : Nat} {m4 : Nat} (o1 : Lk G w a1 (.inl (nJ6, [.int x2, .ref a3, .int (nI m4)]))) (k2 : Q (.inl (some (.int (nI m4)))) w) : Rn G mX1_schema 64 [(2, .ref a1)] [] w Q := by
  refine r_aload_n 34 65 0 rfl rfl rfl ?_
  refine r_callV lkV_X1_84_J6 (C := RJ6) (TT := TJ6) (NN := 3) rfl o1 35 68 rfl rfl (by decide) [] rfl rfl (Nat.le_of_ble_eq_true rfl) (Nat.le_of_ble_eq_true rfl) (e_J6_size hS (m4 := m4) (o1 := o1) (k2 := ?_)) (fun _ _ h => h)
  show Rn G mX1_schema 68 [(2, .ref a1)] [.int (nI m4)] w _
  exact r_iret 36 rfl rfl rfl k2
theorem e_X1_schema_33 {G : Gm} {κ : Nat → Nat} {φ : Nat → Option Nat} (hS : GS G κ φ) {w : Wd} {Q : Rs → Wd → Prop} {a1 : Nat} {a2 : Nat} {k_a3 : Nat} {a3 : Nat} {x4 : Int32} {a5 : Nat} {m6 : Nat} (o1 : Lk G w k_a3 (.inl (nJ6, [.int x4, .ref a5, .int (nI m6)]))) {Q2 : Rs → Wd → Prop} (e2 : Ev G mJ6_add [.ref k_a3, .ref a3] w Q2) (k2 : ∀ r w', Q2 r w' → Af G mX1_schema 33 36 [(0, .ref a1), (1, .ref a2), (2, .ref k_a3)] [] r w' Q) : Rn G mX1_schema 33 [(0, .ref a1), (1, .ref a2), (2, .ref k_a3)] [.ref a3, .ref k_a3] w Q := by
  exact r_callV lkV_X1_74_J6 (C := RJ6) (TT := TJ6) (NN := 3) rfl o1 17 36 rfl rfl (by decide) [.ref a3] rfl rfl (Nat.le_of_ble_eq_true rfl) (Nat.le_of_ble_eq_true rfl) e2 (fun r w' h => Af.sub [0, 1, 2] rfl (k2 r w' h))
theorem e_X1_schema_36 {G : Gm} {κ : Nat → Nat} {φ : Nat → Option Nat} (hS : GS G κ φ) {w : Wd} {Q : Rs → Wd → Prop} {a1 : Nat} {a2 : Nat} {a3 : Nat} {x4 : Int32} (k1 : Rn G mX1_schema 20 [(0, .ref a1), (1, .ref a2), (2, .ref a3)] [] w Q) : Rn G mX1_schema 36 [(0, .ref a1), (1, .ref a2), (2, .ref a3)] [.int x4] w Q := by
  refine r_pop 18 37 rfl rfl rfl ?_
  refine r_goto 19 20 rfl rfl ?_
  exact k1
theorem e_X1_read {G : Gm} {κ : Nat → Nat} {φ : Nat → Option Nat} (hS : GS G κ φ) {w : Wd} {Q : Rs → Wd → Prop} {a1 : Nat} {a2 : Nat} {a3 : Nat} {a4 : Nat} {a5 : Nat} (hg : 50 ≤ w.2.2) (o1 : Lk G w a1 (.inl (nX1, [.ref a2, .ref a3, .ref a4, .ref a5]))) (k2 : Rn G mX1_read 28 [(0, .ref a1), (1, .ref w.2.1), (2, .ref (w.2.1 + 1)), (3, .ref (w.2.1 + 2))] [] (wset (wnew (wset (wnew (wset (wnew w (.inl (nX3, [.null, .int 0])) 2) w.2.1 (.inl (nX3, [.ref a2, .int 0]))) (.inl (nJ8, [.null, .null, .null, .null, .int 0, .int 0, .null, .null, .null])) 9) (w.2.1 + 1) (.inl (nJ8, [.null, .null, .null, .null, .int 0, .int 0, .null, .null, .null]))) (.inl (nJ6, [.int 0, .null, .int 0])) 3) (w.2.1 + 2) (.inl (nJ6, [.int 0, .ref (κ 1), .int 0]))) Q) : Ev G mX1_read [.ref a1] w Q := by
  show Rn G mX1_read 0 [(0, .ref a1)] [] w Q
  refine Rn.wok fun hwk => ?_
  refine r_new (fs := [.null, .int 0]) (ty := tyX3) (T := TX3) (C := RX3) (N := 2) (ci := nX3) (n := 2) 0 3 rfl rfl rfl in_X3 tyX3_ok q227 q228 q84 rfl (by decide) (by show 12 + 2 ≤ w.2.2; omega) ?_
  show Rn G mX1_read 3 [(0, .ref a1)] [.ref w.2.1] (wnew w (.inl (nX3, [.null, .int 0])) 2) _
  refine r_dup 1 4 rfl rfl rfl ?_
  refine r_aload_n 2 5 0 rfl rfl rfl ?_
  refine r_get (v := .ref a2) fl_X1_10_X1 3 8 rfl rfl (Lk.new_n o1 (by have := (o1.lt hwk); show a1 < w.2.1; omega)) rfl ?_
  refine r_callI lkI_X1_63 4 11 rfl rfl (by decide) [.ref a2] rfl rfl (Nat.le_of_ble_eq_true rfl) (Nat.le_of_ble_eq_true rfl) (e_X3_init hS (o1 := wnew_s) (k2 := ?_)) (fun _ _ h => h)
  show Rn G mX1_read 11 [(0, .ref a1)] [.ref w.2.1] (wset (wnew w (.inl (nX3, [.null, .int 0])) 2) w.2.1 (.inl (nX3, [.ref a2, .int 0]))) _
  refine r_astore_n (lv' := [(1, .ref w.2.1), (0, .ref a1)]) 5 12 rfl rfl (Nat.le_of_ble_eq_true rfl) rfl ?_
  refine r_new (fs := [.null, .null, .null, .null, .int 0, .int 0, .null, .null, .null]) (ty := tyJ8) (T := TJ8) (C := RJ8) (N := 9) (ci := nJ8) (n := 9) 6 15 rfl rfl rfl in_J8 tyJ8_ok q175 q176 q69 rfl (by decide) (by show 12 + 9 ≤ w.2.2 - (12 + 2); omega) ?_
  show Rn G mX1_read 15 [(1, .ref w.2.1), (0, .ref a1)] [.ref (w.2.1 + 1)] (wnew (wset (wnew w (.inl (nX3, [.null, .int 0])) 2) w.2.1 (.inl (nX3, [.ref a2, .int 0]))) (.inl (nJ8, [.null, .null, .null, .null, .int 0, .int 0, .null, .null, .null])) 9) _
  refine r_dup 7 16 rfl rfl rfl ?_
  refine r_callI lkI_X1_25 8 19 rfl rfl (by decide) [] rfl rfl (Nat.le_of_ble_eq_true rfl) (Nat.le_of_ble_eq_true rfl) (e_J8_init hS (o1 := wnew_s) (k2 := ?_)) (fun _ _ h => h)
  show Rn G mX1_read 19 [(1, .ref w.2.1), (0, .ref a1)] [.ref (w.2.1 + 1)] (wset (wnew (wset (wnew w (.inl (nX3, [.null, .int 0])) 2) w.2.1 (.inl (nX3, [.ref a2, .int 0]))) (.inl (nJ8, [.null, .null, .null, .null, .int 0, .int 0, .null, .null, .null])) 9) (w.2.1 + 1) (.inl (nJ8, [.null, .null, .null, .null, .int 0, .int 0, .null, .null, .null]))) _
  refine r_astore_n (lv' := [(2, .ref (w.2.1 + 1)), (1, .ref w.2.1), (0, .ref a1)]) 9 20 rfl rfl (Nat.le_of_ble_eq_true rfl) rfl ?_
  refine r_new (fs := [.int 0, .null, .int 0]) (ty := tyJ6) (T := TJ6) (C := RJ6) (N := 3) (ci := nJ6) (n := 3) 10 23 rfl rfl rfl in_J6 tyJ6_ok q146 q147 q67 rfl (by decide) (by show 12 + 3 ≤ w.2.2 - (12 + 2) - (12 + 9); omega) ?_
  show Rn G mX1_read 23 [(2, .ref (w.2.1 + 1)), (1, .ref w.2.1), (0, .ref a1)] [.ref (w.2.1 + 2)] (wnew (wset (wnew (wset (wnew w (.inl (nX3, [.null, .int 0])) 2) w.2.1 (.inl (nX3, [.ref a2, .int 0]))) (.inl (nJ8, [.null, .null, .null, .null, .int 0, .int 0, .null, .null, .null])) 9) (w.2.1 + 1) (.inl (nJ8, [.null, .null, .null, .null, .int 0, .int 0, .null, .null, .null]))) (.inl (nJ6, [.int 0, .null, .int 0])) 3) _
  refine r_dup 11 24 rfl rfl rfl ?_
  refine r_callI lkI_X1_18 12 27 rfl rfl (by decide) [] rfl rfl (Nat.le_of_ble_eq_true rfl) (Nat.le_of_ble_eq_true rfl) (e_J6_init hS (o1 := wnew_s) (k2 := ?_)) (fun _ _ h => h)
  show Rn G mX1_read 27 [(2, .ref (w.2.1 + 1)), (1, .ref w.2.1), (0, .ref a1)] [.ref (w.2.1 + 2)] (wset (wnew (wset (wnew (wset (wnew w (.inl (nX3, [.null, .int 0])) 2) w.2.1 (.inl (nX3, [.ref a2, .int 0]))) (.inl (nJ8, [.null, .null, .null, .null, .int 0, .int 0, .null, .null, .null])) 9) (w.2.1 + 1) (.inl (nJ8, [.null, .null, .null, .null, .int 0, .int 0, .null, .null, .null]))) (.inl (nJ6, [.int 0, .null, .int 0])) 3) (w.2.1 + 2) (.inl (nJ6, [.int 0, .ref (κ 1), .int 0]))) _
  refine r_astore_n (lv' := [(3, .ref (w.2.1 + 2)), (2, .ref (w.2.1 + 1)), (1, .ref w.2.1), (0, .ref a1)]) 13 28 rfl rfl (Nat.le_of_ble_eq_true rfl) rfl ?_
  exact r_sub [3, 2, 1, 0] rfl k2
theorem e_X1_read_28 {G : Gm} {κ : Nat → Nat} {φ : Nat → Option Nat} (hS : GS G κ φ) {w : Wd} {Q : Rs → Wd → Prop} {a1 : Nat} {a2 : Nat} {a3 : Nat} {a4 : Nat} {a5 : Nat} {m6 : Nat} (o1 : Lk G w a2 (.inl (nX3, [.ref a5, .int (nI m6)]))) {Q2 : Rs → Wd → Prop} (e2 : Ev G mX3_isOver [.ref a2] w Q2) (k2 : ∀ r w', Q2 r w' → Af G mX1_read 29 32 [(0, .ref a1), (1, .ref a2), (2, .ref a3), (3, .ref a4)] [] r w' Q) : Rn G mX1_read 28 [(0, .ref a1), (1, .ref a2), (2, .ref a3), (3, .ref a4)] [] w Q := by
  refine r_aload_n 14 29 1 rfl rfl rfl ?_
  exact r_callV lkV_X1_66_X3 (C := RX3) (TT := TX3) (NN := 2) rfl o1 15 32 rfl rfl (by decide) [] rfl rfl (Nat.le_of_ble_eq_true rfl) (Nat.le_of_ble_eq_true rfl) e2 (fun r w' h => Af.sub [0, 1, 2, 3] rfl (k2 r w' h))
theorem e_X1_read_32 {G : Gm} {κ : Nat → Nat} {φ : Nat → Option Nat} (hS : GS G κ φ) {w : Wd} {Q : Rs → Wd → Prop} {a1 : Nat} {a2 : Nat} {a3 : Nat} {a4 : Nat} {x5 : Int32} {x6 : Int32} {a7 : Nat} {m8 : Nat} {a9 : Nat} {m10 : Nat} (o1 : Lk G w a4 (.inl (nJ6, [.int x6, .ref a7, .int (nI m8)]))) {Q2 : Rs → Wd → Prop} (e2 : ¬ x5 = 0 → Ev G mJ6_iterator [.ref a4] w Q2) (k2 : ¬ x5 = 0 → ∀ r w', Q2 r w' → Af G mX1_read 81 84 [(0, .ref a1), (2, .ref a3)] [] r w' Q) (o3 : Lk G w a2 (.inl (nX3, [.ref a9, .int (nI m10)]))) {Q4 : Rs → Wd → Prop} (e4 : x5 = 0 → Ev G mX3_readLine [.ref a2, .ref a3] w Q4) (k4 : x5 = 0 → ∀ r w', Q4 r w' → Af G mX1_read 37 40 [(0, .ref a1), (1, .ref a2), (2, .ref a3), (3, .ref a4)] [] r w' Q) : Rn G mX1_read 32 [(0, .ref a1), (1, .ref a2), (2, .ref a3), (3, .ref a4)] [.int x5] w Q := by
  refine r_if_ne 16 35 67 rfl rfl rfl (fun c1 => ?_) (fun c1 => ?_)
  · refine r_goto 33 80 rfl rfl ?_
    refine r_aload_n 40 81 3 rfl rfl rfl ?_
    exact r_callV lkV_X1_106_J6 (C := RJ6) (TT := TJ6) (NN := 3) rfl o1 41 84 rfl rfl (by decide) [] rfl rfl (Nat.le_of_ble_eq_true rfl) (Nat.le_of_ble_eq_true rfl) (e2 c1) (fun r w' h => Af.sub [0, 2] rfl ((k2 c1) r w' h))
  · refine r_aload_n 17 36 1 rfl rfl rfl ?_
    refine r_aload_n 18 37 2 rfl rfl rfl ?_
    exact r_callV lkV_X1_87_X3 (C := RX3) (TT := TX3) (NN := 2) rfl o3 19 40 rfl rfl (by decide) [.ref a3] rfl rfl (Nat.le_of_ble_eq_true rfl) (Nat.le_of_ble_eq_true rfl) (e4 c1) (fun r w' h => Af.sub [0, 1, 2, 3] rfl ((k4 c1) r w' h))
theorem e_X1_read_84 {G : Gm} {κ : Nat → Nat} {φ : Nat → Option Nat} (hS : GS G κ φ) {w : Wd} {Q : Rs → Wd → Prop} {a1 : Nat} {a2 : Nat} {a3 : Nat} (k1 : Rn G mX1_read 86 [(0, .ref a1), (2, .ref a2), (4, .ref a3)] [] w Q) : Rn G mX1_read 84 [(0, .ref a1), (2, .ref a2)] [.ref a3] w Q := by
  refine r_astore (lv' := [(4, .ref a3), (0, .ref a1), (2, .ref a2)]) 42 86 rfl rfl (Nat.le_of_ble_eq_true rfl) rfl ?_
  exact r_sub [1, 2, 0] rfl k1
theorem e_X1_read_40 {G : Gm} {κ : Nat → Nat} {φ : Nat → Option Nat} (hS : GS G κ φ) {w : Wd} {Q : Rs → Wd → Prop} {a1 : Nat} {a2 : Nat} {a3 : Nat} {a4 : Nat} {a5 : Nat} {m6 : Nat} {a7 : Nat} {a8 : Nat} (o1 : Lk G w a5 (.inl (nX7, [.int (nI m6), .ref a7, .ref a8]))) {Q2 : Rs → Wd → Prop} (e2 : Ev G mJ20_valueOf [.int (nI m6)] w Q2) (k2 : ∀ r w', Q2 r w' → Af G mX1_read 48 51 [(0, .ref a1), (1, .ref a2), (2, .ref a3), (3, .ref a4), (4, .ref a5)] [.ref a3] r w' Q) : Rn G mX1_read 40 [(0, .ref a1), (1, .ref a2), (2, .ref a3), (3, .ref a4)] [.ref a5] w Q := by
  refine r_astore (lv' := [(4, .ref a5), (0, .ref a1), (1, .ref a2), (2, .ref a3), (3, .ref a4)]) 20 42 rfl rfl (Nat.le_of_ble_eq_true rfl) rfl ?_
  refine r_aload_n 21 43 3 rfl rfl rfl ?_
  refine r_aload 22 45 0 rfl rfl rfl ?_
  refine r_get (v := .int (nI m6)) fl_X1_91_X7 23 48 rfl rfl o1 rfl ?_
  exact r_callS lkS_X1_96 24 51 rfl rfl (by decide) [.int (nI m6)] rfl rfl (Nat.le_of_ble_eq_true rfl) (Nat.le_of_ble_eq_true rfl) e2 (fun r w' h => Af.sub [1, 2, 3, 4, 0] rfl (k2 r w' h))
theorem e_X1_read_86 {G : Gm} {κ : Nat → Nat} {φ : Nat → Option Nat} (hS : GS G κ φ) {w : Wd} {Q : Rs → Wd → Prop} {a1 : Nat} {a2 : Nat} {a3 : Nat} {m4 : Nat} {x5 : Int32} {x6 : Int32} {a7 : Nat} (o1 : Lk G w a3 (.inl (nJ22, [.int (nI m4), .int x5, .int x6, .ref a7]))) {Q2 : Rs → Wd → Prop} (e2 : Ev G mJ22_hasNext [.ref a3] w Q2) (k2 : ∀ r w', Q2 r w' → Af G mX1_read 88 93 [(0, .ref a1), (2, .ref a2), (4, .ref a3)] [] r w' Q) : Rn G mX1_read 86 [(0, .ref a1), (2, .ref a2), (4, .ref a3)] [] w Q := by
  refine r_aload 43 88 2 rfl rfl rfl ?_
  exact r_callF lkF_X1_110_J22 (C := RJ22) (TT := TJ22) (NN := 4) rfl o1 44 93 rfl rfl (by decide) [] rfl rfl (Nat.le_of_ble_eq_true rfl) (Nat.le_of_ble_eq_true rfl) e2 (fun r w' h => Af.sub [0, 1, 2] rfl (k2 r w' h))
theorem e_X1_read_51 {G : Gm} {κ : Nat → Nat} {φ : Nat → Option Nat} (hS : GS G κ φ) {w : Wd} {Q : Rs → Wd → Prop} {a1 : Nat} {a2 : Nat} {k_a3 : Nat} {a3 : Nat} {a4 : Nat} {a5 : Nat} {p6 : Option Nat} {p7 : Option Nat} {p8 : Option Nat} {m9 : Nat} {x10 : Int32} {p11 : Option Nat} {p12 : Option Nat} {p13 : Option Nat} (o1 : Lk G w k_a3 (.inl (nJ8, [va_rf p6, va_rf p7, .null, va_rf p8, .int (nI m9), .int x10, va_rf p11, va_rf p12, va_rf p13]))) {Q2 : Rs → Wd → Prop} (e2 : Ev G mJ8_put [.ref k_a3, .ref a5, .ref a4] w Q2) (k2 : ∀ r w', Q2 r w' → Af G mX1_read 53 56 [(0, .ref a1), (1, .ref a2), (2, .ref k_a3), (3, .ref a3), (4, .ref a4)] [] r w' Q) : Rn G mX1_read 51 [(0, .ref a1), (1, .ref a2), (2, .ref k_a3), (3, .ref a3), (4, .ref a4)] [.ref a5, .ref k_a3] w Q := by
  refine r_aload 25 53 4 rfl rfl rfl ?_
  exact r_callV lkV_X1_102_J8 (C := RJ8) (TT := TJ8) (NN := 9) rfl o1 26 56 rfl rfl (by decide) [.ref a5, .ref a4] rfl rfl (Nat.le_of_ble_eq_true rfl) (Nat.le_of_ble_eq_true rfl) e2 (fun r w' h => Af.sub [0, 1, 2, 3, 4] rfl (k2 r w' h))
theorem e_X1_read_93 {G : Gm} {κ : Nat → Nat} {φ : Nat → Option Nat} (hS : GS G κ φ) {w : Wd} {Q : Rs → Wd → Prop} {a1 : Nat} {a2 : Nat} {a3 : Nat} {x4 : Int32} {a5 : Nat} {a6 : Nat} {a7 : Nat} {a8 : Nat} {a9 : Nat} {x10 : Int32} {m11 : Nat} {m12 : Nat} {x13 : Int32} {x14 : Int32} {a15 : Nat} (o1 : w.1 a1 = some (.inl (nX1, [.ref a5, .ref a6, .ref a7, .ref a8]))) (o2 : Lk G w a5 (.inl (nJ1, [.ref a9, .int 0, .int x10, .int (nI m11)]))) {Q3 : Rs → Wd → Prop} (e3 : x4 = 0 → Ev G mJ1_setLength [.ref a5, .int 0] (wset w a1 (.inl (nX1, [.ref a5, .ref a6, .ref a2, .ref a8]))) Q3) (k3 : x4 = 0 → ∀ r w', Q3 r w' → Af G mX1_read 181 184 [(2, .ref a2)] [] r w' Q) (o4 : Lk G w a3 (.inl (nJ22, [.int (nI m12), .int x13, .int x14, .ref a15]))) {Q5 : Rs → Wd → Prop} (e5 : ¬ x4 = 0 → Ev G mJ22_next [.ref a3] w Q5) (k5 : ¬ x4 = 0 → ∀ r w', Q5 r w' → Af G mX1_read 98 103 [(0, .ref a1), (2, .ref a2), (4, .ref a3)] [] r w' Q) : Rn G mX1_read 93 [(0, .ref a1), (2, .ref a2), (4, .ref a3)] [.int x4] w Q := by
  refine Rn.wok fun hwk => ?_
  refine r_if_eq 45 96 171 rfl rfl rfl (fun c1 => ?_) (fun c1 => ?_)
  · refine r_aload_n 74 172 0 rfl rfl rfl ?_
    refine r_aload_n 75 173 1 rfl rfl rfl ?_
    refine r_put (i := 2) fl_X1_26_X1 in_X1 q106 (ty0 := tyX1) tyX1_ok nmX1 76 176 rfl rfl o1 rfl rfl rfl (Nat.le_of_ble_eq_true rfl) ?_
    show Rn G mX1_read 176 [(0, .ref a1), (2, .ref a2), (4, .ref a3)] [] (wset w a1 (.inl (nX1, [.ref a5, .ref a6, .ref a2, .ref a8]))) _
    refine r_aload_n 77 177 0 rfl rfl rfl ?_
    refine r_get (v := .ref a5) fl_X1_10_X1 78 180 rfl rfl (Or.inl wset_s) rfl ?_
    refine r_iconst 79 181 rfl rfl di_0 ?_
    exact r_callV lkV_X1_53_J1 (C := RJ1) (TT := TJ1) (NN := 4) rfl (Lk.set_n o2 (Lk.ne o2 o1 hwk (by intro h; simp at h))) 80 184 rfl rfl (by decide) [.int 0] rfl rfl (Nat.le_of_ble_eq_true rfl) (Nat.le_of_ble_eq_true rfl) (e3 c1) (fun r w' h => Af.sub [1] rfl ((k3 c1) r w' h))
  · refine r_aload 46 98 2 rfl rfl rfl ?_
    exact r_callF lkF_X1_115_J22 (C := RJ22) (TT := TJ22) (NN := 4) rfl o4 47 103 rfl rfl (by decide) [] rfl rfl (Nat.le_of_ble_eq_true rfl) (Nat.le_of_ble_eq_true rfl) (e5 c1) (fun r w' h => Af.sub [0, 1, 2] rfl ((k5 c1) r w' h))
theorem e_X1_read_56 {G : Gm} {κ : Nat → Nat} {φ : Nat → Option Nat} (hS : GS G κ φ) {w : Wd} {Q : Rs → Wd → Prop} {a1 : Nat} {a2 : Nat} {a3 : Nat} {a4 : Nat} {a5 : Nat} {p6 : Option Nat} {x8 : Int32} {a9 : Nat} {m10 : Nat} (o1 : Lk G w a4 (.inl (nJ6, [.int x8, .ref a9, .int (nI m10)]))) {Q2 : Rs → Wd → Prop} (e2 : p6 = none → Ev G mJ6_add [.ref a4, .ref a5] w Q2) (k2 : p6 = none → ∀ r w', Q2 r w' → Af G mX1_read 60 63 [(0, .ref a1), (1, .ref a2), (2, .ref a3), (3, .ref a4)] [] r w' Q) {Q3 : Rs → Wd → Prop} (e3 : ∀ pa7 : Nat, p6 = some pa7 → Ev G mJ6_add [.ref a4, .ref a5] w Q3) (k3 : ∀ pa7 : Nat, p6 = some pa7 → ∀ r w', Q3 r w' → Af G mX1_read 60 63 [(0, .ref a1), (1, .ref a2), (2, .ref a3), (3, .ref a4)] [] r w' Q) : Rn G mX1_read 56 [(0, .ref a1), (1, .ref a2), (2, .ref a3), (3, .ref a4), (4, .ref a5)] [va_rf p6] w Q := by
  cases p6 with
  | none =>
    refine r_pop 27 57 rfl rfl rfl ?_
    refine r_aload_n 28 58 3 rfl rfl rfl ?_
    refine r_aload 29 60 4 rfl rfl rfl ?_
    exact r_callV lkV_X1_74_J6 (C := RJ6) (TT := TJ6) (NN := 3) rfl o1 30 63 rfl rfl (by decide) [.ref a5] rfl rfl (Nat.le_of_ble_eq_true rfl) (Nat.le_of_ble_eq_true rfl) (e2 rfl) (fun r w' h => Af.sub [0, 1, 2, 3] rfl ((k2 rfl) r w' h))
  | some pa7 =>
    refine r_pop 27 57 rfl rfl rfl ?_
    refine r_aload_n 28 58 3 rfl rfl rfl ?_
    refine r_aload 29 60 4 rfl rfl rfl ?_
    exact r_callV lkV_X1_74_J6 (C := RJ6) (TT := TJ6) (NN := 3) rfl o1 30 63 rfl rfl (by decide) [.ref a5] rfl rfl (Nat.le_of_ble_eq_true rfl) (Nat.le_of_ble_eq_true rfl) (e3 pa7 rfl) (fun r w' h => Af.sub [0, 1, 2, 3] rfl ((k3 pa7 rfl) r w' h))
theorem e_X1_read_184 {G : Gm} {κ : Nat → Nat} {φ : Nat → Option Nat} (hS : GS G κ φ) {w : Wd} {Q : Rs → Wd → Prop} {a1 : Nat} {p2 : Option Nat} {p3 : Option Nat} {p4 : Option Nat} {m5 : Nat} {x6 : Int32} {p7 : Option Nat} {p8 : Option Nat} {p9 : Option Nat} (o1 : Lk G w a1 (.inl (nJ8, [va_rf p2, va_rf p3, .null, va_rf p4, .int (nI m5), .int x6, va_rf p7, va_rf p8, va_rf p9]))) (k2 : Q (.inl (some (.int (nI m5)))) w) : Rn G mX1_read 184 [(2, .ref a1)] [] w Q := by
  refine r_aload_n 81 185 0 rfl rfl rfl ?_
  refine r_callV lkV_X1_129_J8 (C := RJ8) (TT := TJ8) (NN := 9) rfl o1 82 188 rfl rfl (by decide) [] rfl rfl (Nat.le_of_ble_eq_true rfl) (Nat.le_of_ble_eq_true rfl) (e_J8_size hS (p9 := p9) (p8 := p8) (p7 := p7) (m5 := m5) (p4 := p4) (p3 := p3) (p2 := p2) (o1 := o1) (k2 := ?_)) (fun _ _ h => h)
  show Rn G mX1_read 188 [(2, .ref a1)] [.int (nI m5)] w _
  exact r_iret 83 rfl rfl rfl k2
theorem e_X1_read_103 {G : Gm} {κ : Nat → Nat} {φ : Nat → Option Nat} (hS : GS G κ φ) {w : Wd} {Q : Rs → Wd → Prop} {a1 : Nat} {a2 : Nat} {a3 : Nat} {a4 : Nat} {m5 : Nat} {a6 : Nat} {a7 : Nat} (o1 : Lk G w a4 (.inl (nX7, [.int (nI m5), .ref a6, .ref a7]))) {Q2 : Rs → Wd → Prop} (e2 : Ev G mX7_references [.ref a4] w Q2) (k2 : ∀ r w', Q2 r w' → Af G mX1_read 110 113 [(0, .ref a1), (2, .ref a2), (4, .ref a3), (5, .ref a4)] [] r w' Q) : Rn G mX1_read 103 [(0, .ref a1), (2, .ref a2), (4, .ref a3)] [.ref a4] w Q := by
  refine r_castS (C := RX7) (TT := TX7) (NN := 3) rfl q1392 48 106 rfl rfl o1 ?_
  refine r_astore (lv' := [(5, .ref a4), (0, .ref a1), (2, .ref a2), (4, .ref a3)]) 49 108 rfl rfl (Nat.le_of_ble_eq_true rfl) rfl ?_
  refine r_aload 50 110 0 rfl rfl rfl ?_
  exact r_callV lkV_X1_119_X7 (C := RX7) (TT := TX7) (NN := 3) rfl o1 51 113 rfl rfl (by decide) [] rfl rfl (Nat.le_of_ble_eq_true rfl) (Nat.le_of_ble_eq_true rfl) e2 (fun r w' h => Af.sub [1, 2, 3, 0] rfl (k2 r w' h))
theorem e_X1_read_63 {G : Gm} {κ : Nat → Nat} {φ : Nat → Option Nat} (hS : GS G κ φ) {w : Wd} {Q : Rs → Wd → Prop} {a1 : Nat} {a2 : Nat} {a3 : Nat} {a4 : Nat} {x5 : Int32} (k1 : Rn G mX1_read 28 [(0, .ref a1), (1, .ref a2), (2, .ref a3), (3, .ref a4)] [] w Q) : Rn G mX1_read 63 [(0, .ref a1), (1, .ref a2), (2, .ref a3), (3, .ref a4)] [.int x5] w Q := by
  refine r_pop 31 64 rfl rfl rfl ?_
  refine r_goto 32 28 rfl rfl ?_
  exact k1
theorem e_X1_read_113 {G : Gm} {κ : Nat → Nat} {φ : Nat → Option Nat} (hS : GS G κ φ) {w : Wd} {Q : Rs → Wd → Prop} {a1 : Nat} {a2 : Nat} {a3 : Nat} {a4 : Nat} {a5 : Nat} {x6 : Int32} {a7 : Nat} {m8 : Nat} (o1 : Lk G w a5 (.inl (nJ6, [.int x6, .ref a7, .int (nI m8)]))) {Q2 : Rs → Wd → Prop} (e2 : Ev G mJ6_iterator [.ref a5] w Q2) (k2 : ∀ r w', Q2 r w' → Af G mX1_read 113 116 [(0, .ref a1), (2, .ref a2), (4, .ref a3), (5, .ref a4)] [] r w' Q) : Rn G mX1_read 113 [(0, .ref a1), (2, .ref a2), (4, .ref a3), (5, .ref a4)] [.ref a5] w Q := by
  exact r_callV lkV_X1_106_J6 (C := RJ6) (TT := TJ6) (NN := 3) rfl o1 52 116 rfl rfl (by decide) [] rfl rfl (Nat.le_of_ble_eq_true rfl) (Nat.le_of_ble_eq_true rfl) e2 (fun r w' h => Af.sub [0, 1, 2, 3] rfl (k2 r w' h))
theorem e_X1_read_116 {G : Gm} {κ : Nat → Nat} {φ : Nat → Option Nat} (hS : GS G κ φ) {w : Wd} {Q : Rs → Wd → Prop} {a1 : Nat} {a2 : Nat} {a3 : Nat} {a4 : Nat} {a5 : Nat} (k1 : Rn G mX1_read 118 [(0, .ref a1), (2, .ref a2), (4, .ref a3), (5, .ref a4), (6, .ref a5)] [] w Q) : Rn G mX1_read 116 [(0, .ref a1), (2, .ref a2), (4, .ref a3), (5, .ref a4)] [.ref a5] w Q := by
  refine r_astore (lv' := [(6, .ref a5), (0, .ref a1), (2, .ref a2), (4, .ref a3), (5, .ref a4)]) 53 118 rfl rfl (Nat.le_of_ble_eq_true rfl) rfl ?_
  exact r_sub [1, 2, 3, 4, 0] rfl k1
theorem e_X1_read_118 {G : Gm} {κ : Nat → Nat} {φ : Nat → Option Nat} (hS : GS G κ φ) {w : Wd} {Q : Rs → Wd → Prop} {a1 : Nat} {a2 : Nat} {a3 : Nat} {a4 : Nat} {a5 : Nat} {m6 : Nat} {x7 : Int32} {x8 : Int32} {a9 : Nat} (o1 : Lk G w a5 (.inl (nJ22, [.int (nI m6), .int x7, .int x8, .ref a9]))) {Q2 : Rs → Wd → Prop} (e2 : Ev G mJ22_hasNext [.ref a5] w Q2) (k2 : ∀ r w', Q2 r w' → Af G mX1_read 120 125 [(0, .ref a1), (2, .ref a2), (4, .ref a3), (5, .ref a4), (6, .ref a5)] [] r w' Q) : Rn G mX1_read 118 [(0, .ref a1), (2, .ref a2), (4, .ref a3), (5, .ref a4), (6, .ref a5)] [] w Q := by
  refine r_aload 54 120 4 rfl rfl rfl ?_
  exact r_callF lkF_X1_110_J22 (C := RJ22) (TT := TJ22) (NN := 4) rfl o1 55 125 rfl rfl (by decide) [] rfl rfl (Nat.le_of_ble_eq_true rfl) (Nat.le_of_ble_eq_true rfl) e2 (fun r w' h => Af.sub [0, 1, 2, 3, 4] rfl (k2 r w' h))
theorem e_X1_read_125 {G : Gm} {κ : Nat → Nat} {φ : Nat → Option Nat} (hS : GS G κ φ) {w : Wd} {Q : Rs → Wd → Prop} {a1 : Nat} {a2 : Nat} {a3 : Nat} {a4 : Nat} {a5 : Nat} {x6 : Int32} {m7 : Nat} {x8 : Int32} {x9 : Int32} {a10 : Nat} (k1 : x6 = 0 → Rn G mX1_read 86 [(0, .ref a1), (2, .ref a2), (4, .ref a3)] [] w Q) (o2 : Lk G w a5 (.inl (nJ22, [.int (nI m7), .int x8, .int x9, .ref a10]))) {Q3 : Rs → Wd → Prop} (e3 : ¬ x6 = 0 → Ev G mJ22_next [.ref a5] w Q3) (k3 : ¬ x6 = 0 → ∀ r w', Q3 r w' → Af G mX1_read 130 135 [(0, .ref a1), (2, .ref a2), (4, .ref a3), (5, .ref a4), (6, .ref a5)] [] r w' Q) : Rn G mX1_read 125 [(0, .ref a1), (2, .ref a2), (4, .ref a3), (5, .ref a4), (6, .ref a5)] [.int x6] w Q := by
  refine r_if_eq 56 128 168 rfl rfl rfl (fun c1 => ?_) (fun c1 => ?_)
  · refine r_goto 73 86 rfl rfl ?_
    exact r_sub [0, 1, 2] rfl (k1 c1)
  · refine r_aload 57 130 4 rfl rfl rfl ?_
    exact r_callF lkF_X1_115_J22 (C := RJ22) (TT := TJ22) (NN := 4) rfl o2 58 135 rfl rfl (by decide) [] rfl rfl (Nat.le_of_ble_eq_true rfl) (Nat.le_of_ble_eq_true rfl) (e3 c1) (fun r w' h => Af.sub [0, 1, 2, 3, 4] rfl ((k3 c1) r w' h))
theorem e_X1_read_135 {G : Gm} {κ : Nat → Nat} {φ : Nat → Option Nat} (hS : GS G κ φ) {w : Wd} {Q : Rs → Wd → Prop} {a1 : Nat} {a2 : Nat} {a3 : Nat} {a4 : Nat} {a5 : Nat} {a6 : Nat} {x7 : Int32} (o1 : Lk G w a6 (.inl (nJ20, [.int x7]))) {Q2 : Rs → Wd → Prop} (e2 : Ev G mJ20_valueOf [.int x7] w Q2) (k2 : ∀ r w', Q2 r w' → Af G mX1_read 146 149 [(0, .ref a1), (2, .ref a2), (4, .ref a3), (5, .ref a4), (6, .ref a5)] [.ref a2] r w' Q) : Rn G mX1_read 135 [(0, .ref a1), (2, .ref a2), (4, .ref a3), (5, .ref a4), (6, .ref a5)] [.ref a6] w Q := by
  refine r_castS (C := RJ20) (TT := TJ20) (NN := 1) rfl q1411 59 138 rfl rfl o1 ?_
  refine r_callV lkV_X1_123_J20 (C := RJ20) (TT := TJ20) (NN := 1) rfl o1 60 141 rfl rfl (by decide) [] rfl rfl (Nat.le_of_ble_eq_true rfl) (Nat.le_of_ble_eq_true rfl) (e_J20_intValue hS (o1 := o1) (k2 := ?_)) (fun _ _ h => h)
  show Rn G mX1_read 141 [(0, .ref a1), (2, .ref a2), (4, .ref a3), (5, .ref a4), (6, .ref a5)] [.int x7] w _
  refine r_istore (lv' := [(7, .int x7), (0, .ref a1), (2, .ref a2), (4, .ref a3), (5, .ref a4), (6, .ref a5)]) 61 143 rfl rfl (Nat.le_of_ble_eq_true rfl) rfl ?_
  refine r_aload_n 62 144 2 rfl rfl rfl ?_
  refine r_iload 63 146 0 rfl rfl rfl ?_
  exact r_callS lkS_X1_96 64 149 rfl rfl (by decide) [.int x7] rfl rfl (Nat.le_of_ble_eq_true rfl) (Nat.le_of_ble_eq_true rfl) e2 (fun r w' h => Af.sub [1, 2, 3, 4, 5] rfl (k2 r w' h))
theorem e_X1_read_149 {G : Gm} {κ : Nat → Nat} {φ : Nat → Option Nat} (hS : GS G κ φ) {w : Wd} {Q : Rs → Wd → Prop} {a1 : Nat} {k_a2 : Nat} {a2 : Nat} {a3 : Nat} {a4 : Nat} {a5 : Nat} {p6 : Option Nat} {p7 : Option Nat} {p8 : Option Nat} {m9 : Nat} {x10 : Int32} {p11 : Option Nat} {p12 : Option Nat} {p13 : Option Nat} (o1 : Lk G w k_a2 (.inl (nJ8, [va_rf p6, va_rf p7, .null, va_rf p8, .int (nI m9), .int x10, va_rf p11, va_rf p12, va_rf p13]))) {Q2 : Rs → Wd → Prop} (e2 : Ev G mJ8_containsKey [.ref k_a2, .ref a5] w Q2) (k2 : ∀ r w', Q2 r w' → Af G mX1_read 149 152 [(0, .ref a1), (2, .ref k_a2), (4, .ref a2), (5, .ref a3), (6, .ref a4)] [] r w' Q) : Rn G mX1_read 149 [(0, .ref a1), (2, .ref k_a2), (4, .ref a2), (5, .ref a3), (6, .ref a4)] [.ref a5, .ref k_a2] w Q := by
  exact r_callV lkV_X1_126_J8 (C := RJ8) (TT := TJ8) (NN := 9) rfl o1 65 152 rfl rfl (by decide) [.ref a5] rfl rfl (Nat.le_of_ble_eq_true rfl) (Nat.le_of_ble_eq_true rfl) e2 (fun r w' h => Af.sub [0, 1, 2, 3, 4] rfl (k2 r w' h))
theorem e_X1_read_152 {G : Gm} {κ : Nat → Nat} {φ : Nat → Option Nat} (hS : GS G κ φ) {w : Wd} {Q : Rs → Wd → Prop} {a1 : Nat} {a2 : Nat} {a3 : Nat} {a4 : Nat} {a5 : Nat} {x6 : Int32} {m7 : Nat} {a8 : Nat} {a9 : Nat} (k1 : ¬ x6 = 0 → Rn G mX1_read 118 [(0, .ref a1), (2, .ref a2), (4, .ref a3), (5, .ref a4), (6, .ref a5)] [] w Q) (o2 : Lk G w a4 (.inl (nX7, [.int (nI m7), .ref a8, .ref a9]))) (k3 : x6 = 0 → Q (.inl (some (.int ((-10000 : Int32) - (nI m7))))) w) : Rn G mX1_read 152 [(0, .ref a1), (2, .ref a2), (4, .ref a3), (5, .ref a4), (6, .ref a5)] [.int x6] w Q := by
  refine r_if_ne 66 155 165 rfl rfl rfl (fun c1 => ?_) (fun c1 => ?_)
  · refine r_goto 72 118 rfl rfl ?_
    exact (k1 c1)
  · refine r_sipush 67 158 rfl rfl ds_m10000 ?_
    refine r_aload 68 160 3 rfl rfl rfl ?_
    refine r_get (v := .int (nI m7)) fl_X1_91_X7 69 163 rfl rfl o2 rfl ?_
    refine r_isub 70 164 rfl rfl ?_
    exact r_iret 71 rfl rfl rfl (k3 c1)
theorem e_X1_write {G : Gm} {κ : Nat → Nat} {φ : Nat → Option Nat} (hS : GS G κ φ) {w : Wd} {Q : Rs → Wd → Prop} {a1 : Nat} {a2 : Nat} {a3 : Nat} {a4 : Nat} {a5 : Nat} {p6 : Option Nat} {p7 : Option Nat} {p8 : Option Nat} {m9 : Nat} {x10 : Int32} {p11 : Option Nat} {p12 : Option Nat} {p13 : Option Nat} (hg : 16 ≤ w.2.2) (hg1 : (12 + 16) ≤ w.2.2 - (12 + 4)) (o2 : Lk G w a1 (.inl (nX1, [.ref a2, .ref a3, .ref a4, .ref a5]))) (o3 : Lk G w a4 (.inl (nJ8, [va_rf p6, va_rf p7, .null, va_rf p8, .int (nI m9), .int x10, va_rf p11, va_rf p12, va_rf p13]))) {Q4 : Rs → Wd → Prop} (e4 : Ev G mJ8_entrySet [.ref a4] (wset (wnew (wnew w (.inl (nJ1, [.null, .int 0, .int 0, .int 0])) 4) (arB 16 (fun _ => 0)) 16) w.2.1 (.inl (nJ1, [.ref (w.2.1 + 1), .int 0, .int 0, .int 0]))) Q4) (k4 : ∀ r w', Q4 r w' → Af G mX1_write 12 15 [(0, .ref a1), (1, .ref w.2.1)] [] r w' Q) : Ev G mX1_write [.ref a1] w Q := by
  show Rn G mX1_write 0 [(0, .ref a1)] [] w Q
  refine Rn.wok fun hwk => ?_
  refine r_new (fs := [.null, .int 0, .int 0, .int 0]) (ty := tyJ1) (T := TJ1) (C := RJ1) (N := 4) (ci := nJ1) (n := 4) 0 3 rfl rfl rfl in_J1 tyJ1_ok q113 q114 q62 rfl (by decide) (by show 12 + 4 ≤ w.2.2; omega) ?_
  show Rn G mX1_write 3 [(0, .ref a1)] [.ref w.2.1] (wnew w (.inl (nJ1, [.null, .int 0, .int 0, .int 0])) 4) _
  refine r_dup 1 4 rfl rfl rfl ?_
  refine r_callI lkI_X1_9 2 7 rfl rfl (by decide) [] rfl rfl (Nat.le_of_ble_eq_true rfl) (Nat.le_of_ble_eq_true rfl) (e_J1_init hS (o1 := wnew_s) (hg2 := hg1) (k3 := ?_)) (fun _ _ h => h)
  show Rn G mX1_write 7 [(0, .ref a1)] [.ref w.2.1] (wset (wnew (wnew w (.inl (nJ1, [.null, .int 0, .int 0, .int 0])) 4) (arB 16 (fun _ => 0)) 16) w.2.1 (.inl (nJ1, [.ref (w.2.1 + 1), .int 0, .int 0, .int 0]))) _
  refine r_astore_n (lv' := [(1, .ref w.2.1), (0, .ref a1)]) 3 8 rfl rfl (Nat.le_of_ble_eq_true rfl) rfl ?_
  refine r_aload_n 4 9 1 rfl rfl rfl ?_
  refine r_get (v := .ref a4) fl_X1_26_X1 5 12 rfl rfl (Lk.set_n (Lk.new_n (Lk.new_n o2 (by have := (o2.lt hwk); show a1 < w.2.1; omega)) (by have := (o2.lt hwk); show a1 < (w.2.1 + 1); omega)) (Nat.ne_of_lt (show a1 < w.2.1 from (by have := Lk.lt o2 hwk; omega)))) rfl ?_
  exact r_callV lkV_X1_130_J8 (C := RJ8) (TT := TJ8) (NN := 9) rfl (Lk.set_n (Lk.new_n (Lk.new_n o3 (by have := (o3.lt hwk); show a4 < w.2.1; omega)) (by have := (o3.lt hwk); show a4 < (w.2.1 + 1); omega)) (Nat.ne_of_lt (show a4 < w.2.1 from (by have := Lk.lt o3 hwk; omega)))) 6 15 rfl rfl (by decide) [] rfl rfl (Nat.le_of_ble_eq_true rfl) (Nat.le_of_ble_eq_true rfl) e4 (fun r w' h => Af.sub [1, 0] rfl (k4 r w' h))
theorem e_X1_write_15 {G : Gm} {κ : Nat → Nat} {φ : Nat → Option Nat} (hS : GS G κ φ) {w : Wd} {Q : Rs → Wd → Prop} {a1 : Nat} {a2 : Nat} {a3 : Nat} {a4 : Nat} (o1 : Lk G w a3 (.inl (nJ31, [.ref a4]))) {Q2 : Rs → Wd → Prop} (e2 : Ev G mJ31_iterator [.ref a3] w Q2) (k2 : ∀ r w', Q2 r w' → Af G mX1_write 15 20 [(0, .ref a1), (1, .ref a2)] [] r w' Q) : Rn G mX1_write 15 [(0, .ref a1), (1, .ref a2)] [.ref a3] w Q := by
  exact r_callF lkF_X1_134_J31 (C := RJ31) (TT := TJ31) (NN := 1) rfl o1 7 20 rfl rfl (by decide) [] rfl rfl (Nat.le_of_ble_eq_true rfl) (Nat.le_of_ble_eq_true rfl) e2 (fun r w' h => Af.sub [0, 1] rfl (k2 r w' h))
theorem e_X1_write_20 {G : Gm} {κ : Nat → Nat} {φ : Nat → Option Nat} (hS : GS G κ φ) {w : Wd} {Q : Rs → Wd → Prop} {a1 : Nat} {a2 : Nat} {a3 : Nat} (k1 : Rn G mX1_write 21 [(0, .ref a1), (1, .ref a2), (2, .ref a3)] [] w Q) : Rn G mX1_write 20 [(0, .ref a1), (1, .ref a2)] [.ref a3] w Q := by
  refine r_astore_n (lv' := [(2, .ref a3), (0, .ref a1), (1, .ref a2)]) 8 21 rfl rfl (Nat.le_of_ble_eq_true rfl) rfl ?_
  exact r_sub [1, 2, 0] rfl k1
theorem e_X1_write_21 {G : Gm} {κ : Nat → Nat} {φ : Nat → Option Nat} (hS : GS G κ φ) {w : Wd} {Q : Rs → Wd → Prop} {a1 : Nat} {a2 : Nat} {a3 : Nat} {p4 : Option Nat} {p5 : Option Nat} {x6 : Int32} {a7 : Nat} (o1 : Lk G w a3 (.inl (nJ33, [va_rf p4, va_rf p5, .int x6, .ref a7]))) {Q2 : Rs → Wd → Prop} (e2 : Ev G mJ32_hasNext [.ref a3] w Q2) (k2 : ∀ r w', Q2 r w' → Af G mX1_write 22 27 [(0, .ref a1), (1, .ref a2), (2, .ref a3)] [] r w' Q) : Rn G mX1_write 21 [(0, .ref a1), (1, .ref a2), (2, .ref a3)] [] w Q := by
  refine r_aload_n 9 22 2 rfl rfl rfl ?_
  exact r_callF lkF_X1_110_J33 (C := RJ33) (TT := TJ33) (NN := 4) rfl o1 10 27 rfl rfl (by decide) [] rfl rfl (Nat.le_of_ble_eq_true rfl) (Nat.le_of_ble_eq_true rfl) e2 (fun r w' h => Af.sub [0, 1, 2] rfl (k2 r w' h))
theorem e_X1_write_27 {G : Gm} {κ : Nat → Nat} {φ : Nat → Option Nat} (hS : GS G κ φ) {w : Wd} {Q : Rs → Wd → Prop} {a1 : Nat} {a2 : Nat} {a3 : Nat} {x4 : Int32} {a5 : Nat} {x6 : Int32} {m7 : Nat} {a8 : Nat} {a9 : Nat} {a10 : Nat} {a11 : Nat} {a12 : Nat} {x13 : Int32} {m14 : Nat} {p15 : Option Nat} {p16 : Option Nat} {x17 : Int32} {a18 : Nat} (o1 : Lk G w a2 (.inl (nJ1, [.ref a5, .int 0, .int x6, .int (nI m7)]))) (bd2 : m7 < 2 ^ 31) (o3 : Lk G w a1 (.inl (nX1, [.ref a8, .ref a9, .ref a10, .ref a11]))) (o4 : Lk G w a8 (.inl (nJ1, [.ref a12, .int 0, .int x13, .int (nI m14)]))) {Q5 : Rs → Wd → Prop} (e5 : x4 = 0 → m7 ≤ 1200 → Ev G mJ1_setLength [.ref a8, .int 0] w Q5) (k5 : x4 = 0 → m7 ≤ 1200 → ∀ r w', Q5 r w' → Af G mX1_write 74 77 [(0, .ref a1), (1, .ref a2)] [] r w' Q) (k6 : x4 = 0 → ¬ m7 ≤ 1200 → Q (.inl (some (.int (-2)))) w) (o7 : Lk G w a3 (.inl (nJ33, [va_rf p15, va_rf p16, .int x17, .ref a18]))) {Q8 : Rs → Wd → Prop} (e8 : ¬ x4 = 0 → Ev G mJ33_next [.ref a3] w Q8) (k8 : ¬ x4 = 0 → ∀ r w', Q8 r w' → Af G mX1_write 31 36 [(0, .ref a1), (1, .ref a2), (2, .ref a3)] [] r w' Q) : Rn G mX1_write 27 [(0, .ref a1), (1, .ref a2), (2, .ref a3)] [.int x4] w Q := by
  refine r_if_eq 11 30 56 rfl rfl rfl (fun c1 => ?_) (fun c1 => ?_)
  · refine r_aload_n 22 57 1 rfl rfl rfl ?_
    refine r_callV lkV_X1_42_J1 (C := RJ1) (TT := TJ1) (NN := 4) rfl o1 23 60 rfl rfl (by decide) [] rfl rfl (Nat.le_of_ble_eq_true rfl) (Nat.le_of_ble_eq_true rfl) (e_J1_length hS (m4 := m7) (o1 := o1) (k2 := ?_)) (fun _ _ h => h)
    show Rn G mX1_write 60 [(0, .ref a1), (1, .ref a2), (2, .ref a3)] [.int (nI m7)] w _
    refine r_sipush 24 63 rfl rfl ds_1200 ?_
    refine y_icmp_le (a := m7) (b := 1200) bd2 (by decide) 25 66 69 rfl rfl rfl (fun c2 => ?_) (fun c2 => ?_)
    · refine r_aload_n 28 70 0 rfl rfl rfl ?_
      refine r_get (v := .ref a8) fl_X1_10_X1 29 73 rfl rfl o3 rfl ?_
      refine r_iconst 30 74 rfl rfl di_0 ?_
      exact r_callV lkV_X1_53_J1 (C := RJ1) (TT := TJ1) (NN := 4) rfl o4 31 77 rfl rfl (by decide) [.int 0] rfl rfl (Nat.le_of_ble_eq_true rfl) (Nat.le_of_ble_eq_true rfl) (e5 c1 c2) (fun r w' h => Af.sub [0, 1] rfl ((k5 c1 c2) r w' h))
    · refine r_bipush 26 68 rfl rfl db_m2 ?_
      exact r_iret 27 rfl rfl rfl (k6 c1 c2)
  · refine r_aload_n 12 31 2 rfl rfl rfl ?_
    exact r_callF lkF_X1_115_J33 (C := RJ33) (TT := TJ33) (NN := 4) rfl o7 13 36 rfl rfl (by decide) [] rfl rfl (Nat.le_of_ble_eq_true rfl) (Nat.le_of_ble_eq_true rfl) (e8 c1) (fun r w' h => Af.sub [0, 1, 2] rfl ((k8 c1) r w' h))
theorem e_X1_write_77 {G : Gm} {κ : Nat → Nat} {φ : Nat → Option Nat} (hS : GS G κ φ) {w : Wd} {Q : Rs → Wd → Prop} {a1 : Nat} {a2 : Nat} {a3 : Nat} {a4 : Nat} {a5 : Nat} {a6 : Nat} {a7 : Nat} {x8 : Int32} {m9 : Nat} (o1 : Lk G w a1 (.inl (nX1, [.ref a3, .ref a4, .ref a5, .ref a6]))) (o2 : Lk G w a3 (.inl (nJ1, [.ref a7, .int 0, .int x8, .int (nI m9)]))) {Q3 : Rs → Wd → Prop} (e3 : Ev G mJ1_append_4 [.ref a3, .ref a2] w Q3) (k3 : ∀ r w', Q3 r w' → Af G mX1_write 82 85 [(0, .ref a1)] [] r w' Q) : Rn G mX1_write 77 [(0, .ref a1), (1, .ref a2)] [] w Q := by
  refine r_aload_n 32 78 0 rfl rfl rfl ?_
  refine r_get (v := .ref a3) fl_X1_10_X1 33 81 rfl rfl o1 rfl ?_
  refine r_aload_n 34 82 1 rfl rfl rfl ?_
  exact r_callV lkV_X1_145_J1 (C := RJ1) (TT := TJ1) (NN := 4) rfl o2 35 85 rfl rfl (by decide) [.ref a2] rfl rfl (Nat.le_of_ble_eq_true rfl) (Nat.le_of_ble_eq_true rfl) e3 (fun r w' h => Af.sub [0] rfl (k3 r w' h))
theorem e_X1_write_36 {G : Gm} {κ : Nat → Nat} {φ : Nat → Option Nat} (hS : GS G κ φ) {w : Wd} {Q : Rs → Wd → Prop} {a1 : Nat} {a2 : Nat} {a3 : Nat} {a4 : Nat} {a5 : Nat} {a6 : Nat} {p7 : Option Nat} {p8 : Option Nat} {p9 : Option Nat} {x10 : Int32} {m11 : Nat} {a12 : Nat} {a13 : Nat} (o1 : Lk G w a4 (.inl (nJ29, [.ref a5, .ref a6, va_rf p7, va_rf p8, va_rf p9, .int x10]))) (o2 : Lk G w a6 (.inl (nX7, [.int (nI m11), .ref a12, .ref a13]))) {Q3 : Rs → Wd → Prop} (e3 : Ev G mX7_write [.ref a6, .ref a2] w Q3) (k3 : ∀ r w', Q3 r w' → Af G mX1_write 50 53 [(0, .ref a1), (1, .ref a2), (2, .ref a3)] [] r w' Q) : Rn G mX1_write 36 [(0, .ref a1), (1, .ref a2), (2, .ref a3)] [.ref a4] w Q := by
  refine r_castY (C := RJ29) (TT := TJ29) (NN := 6) rfl q1472 q1477 14 39 rfl rfl o1 ?_
  refine r_astore_n (lv' := [(3, .ref a4), (0, .ref a1), (1, .ref a2), (2, .ref a3)]) 15 40 rfl rfl (Nat.le_of_ble_eq_true rfl) rfl ?_
  refine r_aload_n 16 41 0 rfl rfl rfl ?_
  refine r_callF lkF_X1_139_J29 (C := RJ29) (TT := TJ29) (NN := 6) rfl o1 17 46 rfl rfl (by decide) [] rfl rfl (Nat.le_of_ble_eq_true rfl) (Nat.le_of_ble_eq_true rfl) (e_J29_getValue hS (p6 := p9) (p5 := p8) (p4 := p7) (o1 := o1) (k2 := ?_)) (fun _ _ h => h)
  show Rn G mX1_write 46 [(3, .ref a4), (0, .ref a1), (1, .ref a2), (2, .ref a3)] [.ref a6] w _
  refine r_castS (C := RX7) (TT := TX7) (NN := 3) rfl q1392 18 49 rfl rfl o2 ?_
  refine r_aload_n 19 50 2 rfl rfl rfl ?_
  exact r_callV lkV_X1_142_X7 (C := RX7) (TT := TX7) (NN := 3) rfl o2 20 53 rfl rfl (by decide) [.ref a2] rfl rfl (Nat.le_of_ble_eq_true rfl) (Nat.le_of_ble_eq_true rfl) e3 (fun r w' h => Af.sub [1, 2, 3] rfl (k3 r w' h))
theorem e_X1_write_85 {G : Gm} {κ : Nat → Nat} {φ : Nat → Option Nat} (hS : GS G κ φ) {w : Wd} {Q : Rs → Wd → Prop} {a1 : Nat} {a2 : Nat} {a3 : Nat} {a4 : Nat} {a5 : Nat} {a6 : Nat} {a7 : Nat} {x8 : Int32} {m9 : Nat} (o1 : Lk G w a1 (.inl (nX1, [.ref a3, .ref a4, .ref a5, .ref a6]))) (o2 : Lk G w a3 (.inl (nJ1, [.ref a7, .int 0, .int x8, .int (nI m9)]))) (k3 : Q (.inl (some (.int (nI m9)))) w) : Rn G mX1_write 85 [(0, .ref a1)] [.ref a2] w Q := by
  refine r_pop 36 86 rfl rfl rfl ?_
  refine r_aload_n 37 87 0 rfl rfl rfl ?_
  refine r_get (v := .ref a3) fl_X1_10_X1 38 90 rfl rfl o1 rfl ?_
  refine r_callV lkV_X1_42_J1 (C := RJ1) (TT := TJ1) (NN := 4) rfl o2 39 93 rfl rfl (by decide) [] rfl rfl (Nat.le_of_ble_eq_true rfl) (Nat.le_of_ble_eq_true rfl) (e_J1_length hS (m4 := m9) (o1 := o2) (k2 := ?_)) (fun _ _ h => h)
  show Rn G mX1_write 93 [(0, .ref a1)] [.int (nI m9)] w _
  exact r_iret 40 rfl rfl rfl k3
theorem e_X1_write_53 {G : Gm} {κ : Nat → Nat} {φ : Nat → Option Nat} (hS : GS G κ φ) {w : Wd} {Q : Rs → Wd → Prop} {a1 : Nat} {a2 : Nat} {a3 : Nat} (k1 : Rn G mX1_write 21 [(0, .ref a1), (1, .ref a2), (2, .ref a3)] [] w Q) : Rn G mX1_write 53 [(0, .ref a1), (1, .ref a2), (2, .ref a3)] [] w Q := by
  refine r_goto 21 21 rfl rfl ?_
  exact k1
theorem e_X1_keep {G : Gm} {κ : Nat → Nat} {φ : Nat → Option Nat} (hS : GS G κ φ) {w : Wd} {Q : Rs → Wd → Prop} {a1 : Nat} {a2 : Nat} {a3 : Nat} {a4 : Nat} {a5 : Nat} {p6 : Option Nat} {p7 : Option Nat} {p8 : Option Nat} {m9 : Nat} {x10 : Int32} {p11 : Option Nat} {p12 : Option Nat} {p13 : Option Nat} (hg : 21 ≤ w.2.2) (o1 : w.1 a1 = some (.inl (nX1, [.ref a2, .ref a3, .ref a4, .ref a5]))) (o2 : Lk G w a4 (.inl (nJ8, [va_rf p6, va_rf p7, .null, va_rf p8, .int (nI m9), .int x10, va_rf p11, va_rf p12, va_rf p13]))) {Q3 : Rs → Wd → Prop} (e3 : Ev G mJ8_entrySet [.ref a4] (wset (wset (wnew w (.inl (nJ8, [.null, .null, .null, .null, .int 0, .int 0, .null, .null, .null])) 9) w.2.1 (.inl (nJ8, [.null, .null, .null, .null, .int 0, .int 0, .null, .null, .null]))) a1 (.inl (nX1, [.ref a2, .ref a3, .ref a4, .ref w.2.1]))) Q3) (k3 : ∀ r w', Q3 r w' → Af G mX1_keep 15 18 [(0, .ref a1)] [] r w' Q) : Ev G mX1_keep [.ref a1] w Q := by
  show Rn G mX1_keep 0 [(0, .ref a1)] [] w Q
  refine Rn.wok fun hwk => ?_
  refine r_aload_n 0 1 0 rfl rfl rfl ?_
  refine r_new (fs := [.null, .null, .null, .null, .int 0, .int 0, .null, .null, .null]) (ty := tyJ8) (T := TJ8) (C := RJ8) (N := 9) (ci := nJ8) (n := 9) 1 4 rfl rfl rfl in_J8 tyJ8_ok q175 q176 q69 rfl (by decide) (by show 12 + 9 ≤ w.2.2; omega) ?_
  show Rn G mX1_keep 4 [(0, .ref a1)] [.ref w.2.1, .ref a1] (wnew w (.inl (nJ8, [.null, .null, .null, .null, .int 0, .int 0, .null, .null, .null])) 9) _
  refine r_dup 2 5 rfl rfl rfl ?_
  refine r_callI lkI_X1_25 3 8 rfl rfl (by decide) [] rfl rfl (Nat.le_of_ble_eq_true rfl) (Nat.le_of_ble_eq_true rfl) (e_J8_init hS (o1 := wnew_s) (k2 := ?_)) (fun _ _ h => h)
  show Rn G mX1_keep 8 [(0, .ref a1)] [.ref w.2.1, .ref a1] (wset (wnew w (.inl (nJ8, [.null, .null, .null, .null, .int 0, .int 0, .null, .null, .null])) 9) w.2.1 (.inl (nJ8, [.null, .null, .null, .null, .int 0, .int 0, .null, .null, .null]))) _
  refine r_put (i := 3) fl_X1_30_X1 in_X1 q106 (ty0 := tyX1) tyX1_ok nmX1 4 11 rfl rfl (wset_n (wnew_n o1 (by have := (hwk.1 _ _ o1).2; show a1 < w.2.1; omega)) (Nat.ne_of_lt (show a1 < w.2.1 from (by have := (hwk.1 _ _ o1).2; omega)))) rfl rfl rfl (Nat.le_of_ble_eq_true rfl) ?_
  show Rn G mX1_keep 11 [(0, .ref a1)] [] (wset (wset (wnew w (.inl (nJ8, [.null, .null, .null, .null, .int 0, .int 0, .null, .null, .null])) 9) w.2.1 (.inl (nJ8, [.null, .null, .null, .null, .int 0, .int 0, .null, .null, .null]))) a1 (.inl (nX1, [.ref a2, .ref a3, .ref a4, .ref w.2.1]))) _
  refine r_aload_n 5 12 0 rfl rfl rfl ?_
  refine r_get (v := .ref a4) fl_X1_26_X1 6 15 rfl rfl (Or.inl wset_s) rfl ?_
  exact r_callV lkV_X1_130_J8 (C := RJ8) (TT := TJ8) (NN := 9) rfl (Lk.set_n (Lk.set_n (Lk.new_n o2 (by have := (o2.lt hwk); show a4 < w.2.1; omega)) (Nat.ne_of_lt (show a4 < w.2.1 from (by have := Lk.lt o2 hwk; omega)))) (Lk.ne o2 o1 hwk (by intro h; simp at h))) 7 18 rfl rfl (by decide) [] rfl rfl (Nat.le_of_ble_eq_true rfl) (Nat.le_of_ble_eq_true rfl) e3 (fun r w' h => Af.sub [0] rfl (k3 r w' h))
theorem e_X1_keep_18 {G : Gm} {κ : Nat → Nat} {φ : Nat → Option Nat} (hS : GS G κ φ) {w : Wd} {Q : Rs → Wd → Prop} {a1 : Nat} {a2 : Nat} {a3 : Nat} (o1 : Lk G w a2 (.inl (nJ31, [.ref a3]))) {Q2 : Rs → Wd → Prop} (e2 : Ev G mJ31_iterator [.ref a2] w Q2) (k2 : ∀ r w', Q2 r w' → Af G mX1_keep 18 23 [(0, .ref a1)] [] r w' Q) : Rn G mX1_keep 18 [(0, .ref a1)] [.ref a2] w Q := by
  exact r_callF lkF_X1_134_J31 (C := RJ31) (TT := TJ31) (NN := 1) rfl o1 8 23 rfl rfl (by decide) [] rfl rfl (Nat.le_of_ble_eq_true rfl) (Nat.le_of_ble_eq_true rfl) e2 (fun r w' h => Af.sub [0] rfl (k2 r w' h))
theorem e_X1_keep_23 {G : Gm} {κ : Nat → Nat} {φ : Nat → Option Nat} (hS : GS G κ φ) {w : Wd} {Q : Rs → Wd → Prop} {a1 : Nat} {a2 : Nat} (k1 : Rn G mX1_keep 24 [(0, .ref a1), (1, .ref a2)] [] w Q) : Rn G mX1_keep 23 [(0, .ref a1)] [.ref a2] w Q := by
  refine r_astore_n (lv' := [(1, .ref a2), (0, .ref a1)]) 9 24 rfl rfl (Nat.le_of_ble_eq_true rfl) rfl ?_
  exact r_sub [1, 0] rfl k1
theorem e_X1_keep_24 {G : Gm} {κ : Nat → Nat} {φ : Nat → Option Nat} (hS : GS G κ φ) {w : Wd} {Q : Rs → Wd → Prop} {a1 : Nat} {a2 : Nat} {p3 : Option Nat} {p4 : Option Nat} {x5 : Int32} {a6 : Nat} (o1 : Lk G w a2 (.inl (nJ33, [va_rf p3, va_rf p4, .int x5, .ref a6]))) {Q2 : Rs → Wd → Prop} (e2 : Ev G mJ32_hasNext [.ref a2] w Q2) (k2 : ∀ r w', Q2 r w' → Af G mX1_keep 25 30 [(0, .ref a1), (1, .ref a2)] [] r w' Q) : Rn G mX1_keep 24 [(0, .ref a1), (1, .ref a2)] [] w Q := by
  refine r_aload_n 10 25 1 rfl rfl rfl ?_
  exact r_callF lkF_X1_110_J33 (C := RJ33) (TT := TJ33) (NN := 4) rfl o1 11 30 rfl rfl (by decide) [] rfl rfl (Nat.le_of_ble_eq_true rfl) (Nat.le_of_ble_eq_true rfl) e2 (fun r w' h => Af.sub [0, 1] rfl (k2 r w' h))
theorem e_X1_keep_30 {G : Gm} {κ : Nat → Nat} {φ : Nat → Option Nat} (hS : GS G κ φ) {w : Wd} {Q : Rs → Wd → Prop} {a1 : Nat} {a2 : Nat} {x3 : Int32} {a4 : Nat} {a5 : Nat} {a6 : Nat} {a7 : Nat} {p8 : Option Nat} {p9 : Option Nat} {p10 : Option Nat} {m11 : Nat} {x12 : Int32} {p13 : Option Nat} {p14 : Option Nat} {p15 : Option Nat} {p16 : Option Nat} {p17 : Option Nat} {x18 : Int32} {a19 : Nat} (o1 : Lk G w a1 (.inl (nX1, [.ref a4, .ref a5, .ref a6, .ref a7]))) (o2 : Lk G w a7 (.inl (nJ8, [va_rf p8, va_rf p9, .null, va_rf p10, .int (nI m11), .int x12, va_rf p13, va_rf p14, va_rf p15]))) (k3 : x3 = 0 → Q (.inl (some (.int (nI m11)))) w) (o4 : Lk G w a2 (.inl (nJ33, [va_rf p16, va_rf p17, .int x18, .ref a19]))) {Q5 : Rs → Wd → Prop} (e5 : ¬ x3 = 0 → Ev G mJ33_next [.ref a2] w Q5) (k5 : ¬ x3 = 0 → ∀ r w', Q5 r w' → Af G mX1_keep 34 39 [(0, .ref a1), (1, .ref a2)] [] r w' Q) : Rn G mX1_keep 30 [(0, .ref a1), (1, .ref a2)] [.int x3] w Q := by
  refine r_if_eq 12 33 118 rfl rfl rfl (fun c1 => ?_) (fun c1 => ?_)
  · refine r_aload_n 47 119 0 rfl rfl rfl ?_
    refine r_get (v := .ref a7) fl_X1_30_X1 48 122 rfl rfl o1 rfl ?_
    refine r_callV lkV_X1_129_J8 (C := RJ8) (TT := TJ8) (NN := 9) rfl o2 49 125 rfl rfl (by decide) [] rfl rfl (Nat.le_of_ble_eq_true rfl) (Nat.le_of_ble_eq_true rfl) (e_J8_size hS (p9 := p15) (p8 := p14) (p7 := p13) (m5 := m11) (p4 := p10) (p3 := p9) (p2 := p8) (o1 := o2) (k2 := ?_)) (fun _ _ h => h)
    show Rn G mX1_keep 125 [(0, .ref a1), (1, .ref a2)] [.int (nI m11)] w _
    exact r_iret 50 rfl rfl rfl (k3 c1)
  · refine r_aload_n 13 34 1 rfl rfl rfl ?_
    exact r_callF lkF_X1_115_J33 (C := RJ33) (TT := TJ33) (NN := 4) rfl o4 14 39 rfl rfl (by decide) [] rfl rfl (Nat.le_of_ble_eq_true rfl) (Nat.le_of_ble_eq_true rfl) (e5 c1) (fun r w' h => Af.sub [0, 1] rfl ((k5 c1) r w' h))
theorem e_X1_keep_39 {G : Gm} {κ : Nat → Nat} {φ : Nat → Option Nat} (hS : GS G κ φ) {w : Wd} {Q : Rs → Wd → Prop} {a1 : Nat} {a2 : Nat} {a3 : Nat} {a4 : Nat} {a5 : Nat} {p6 : Option Nat} {p7 : Option Nat} {p8 : Option Nat} {x9 : Int32} {m10 : Nat} {a11 : Nat} {a12 : Nat} (o1 : Lk G w a3 (.inl (nJ29, [.ref a4, .ref a5, va_rf p6, va_rf p7, va_rf p8, .int x9]))) (hg : 30 ≤ w.2.2) (o2 : Lk G w a5 (.inl (nX7, [.int (nI m10), .ref a11, .ref a12]))) {Q3 : Rs → Wd → Prop} (e3 : Ev G mJ6_addAll [.ref (w.2.1 + 1), .ref a12] (wset (wset (wnew (wnew w (.inl (nX7, [.int 0, .null, .null])) 3) (.inl (nJ6, [.int 0, .null, .int 0])) 3) (w.2.1 + 1) (.inl (nJ6, [.int 0, .ref (κ 1), .int 0]))) w.2.1 (.inl (nX7, [.int (nI m10), .ref a11, .ref (w.2.1 + 1)]))) Q3) (k3 : ∀ r w', Q3 r w' → Af G mX1_keep 91 94 [(0, .ref a1), (1, .ref a2), (3, .ref w.2.1)] [] r w' Q) : Rn G mX1_keep 39 [(0, .ref a1), (1, .ref a2)] [.ref a3] w Q := by
  refine Rn.wok fun hwk => ?_
  refine r_castY (C := RJ29) (TT := TJ29) (NN := 6) rfl q1472 q1477 15 42 rfl rfl o1 ?_
  refine r_astore_n (lv' := [(2, .ref a3), (0, .ref a1), (1, .ref a2)]) 16 43 rfl rfl (Nat.le_of_ble_eq_true rfl) rfl ?_
  refine r_new (fs := [.int 0, .null, .null]) (ty := tyX7) (T := TX7) (C := RX7) (N := 3) (ci := nX7) (n := 3) 17 46 rfl rfl rfl in_X7 tyX7_ok q1392 q1187 q97 rfl (by decide) (by show 12 + 3 ≤ w.2.2; omega) ?_
  show Rn G mX1_keep 46 [(2, .ref a3), (0, .ref a1), (1, .ref a2)] [.ref w.2.1] (wnew w (.inl (nX7, [.int 0, .null, .null])) 3) _
  refine r_dup 18 47 rfl rfl rfl ?_
  refine r_aload_n 19 48 0 rfl rfl rfl ?_
  refine r_callF lkF_X1_139_J29 (C := RJ29) (TT := TJ29) (NN := 6) rfl (Lk.new_n o1 (by have := (o1.lt hwk); show a3 < w.2.1; omega)) 20 53 rfl rfl (by decide) [] rfl rfl (Nat.le_of_ble_eq_true rfl) (Nat.le_of_ble_eq_true rfl) (e_J29_getValue hS (p6 := p8) (p5 := p7) (p4 := p6) (o1 := (Lk.new_n o1 (by have := (o1.lt hwk); show a3 < w.2.1; omega))) (k2 := ?_)) (fun _ _ h => h)
  show Rn G mX1_keep 53 [(2, .ref a3), (0, .ref a1), (1, .ref a2)] [.ref a5, .ref w.2.1, .ref w.2.1] (wnew w (.inl (nX7, [.int 0, .null, .null])) 3) _
  refine r_castS (C := RX7) (TT := TX7) (NN := 3) rfl q1392 21 56 rfl rfl (Lk.new_n o2 (by have := (o2.lt hwk); show a5 < w.2.1; omega)) ?_
  refine r_get (v := .int (nI m10)) fl_X1_91_X7 22 59 rfl rfl (Lk.new_n o2 (by have := (o2.lt hwk); show a5 < w.2.1; omega)) rfl ?_
  refine r_aload_n 23 60 0 rfl rfl rfl ?_
  refine r_callF lkF_X1_139_J29 (C := RJ29) (TT := TJ29) (NN := 6) rfl (Lk.new_n o1 (by have := (o1.lt hwk); show a3 < w.2.1; omega)) 24 65 rfl rfl (by decide) [] rfl rfl (Nat.le_of_ble_eq_true rfl) (Nat.le_of_ble_eq_true rfl) (e_J29_getValue hS (p6 := p8) (p5 := p7) (p4 := p6) (o1 := (Lk.new_n o1 (by have := (o1.lt hwk); show a3 < w.2.1; omega))) (k2 := ?_)) (fun _ _ h => h)
  show Rn G mX1_keep 65 [(2, .ref a3), (0, .ref a1), (1, .ref a2)] [.ref a5, .int (nI m10), .ref w.2.1, .ref w.2.1] (wnew w (.inl (nX7, [.int 0, .null, .null])) 3) _
  refine r_castS (C := RX7) (TT := TX7) (NN := 3) rfl q1392 25 68 rfl rfl (Lk.new_n o2 (by have := (o2.lt hwk); show a5 < w.2.1; omega)) ?_
  refine r_get (v := .ref a11) fl_X1_148_X7 26 71 rfl rfl (Lk.new_n o2 (by have := (o2.lt hwk); show a5 < w.2.1; omega)) rfl ?_
  refine r_callI lkI_X1_152 27 74 rfl rfl (by decide) [.int (nI m10), .ref a11] rfl rfl (Nat.le_of_ble_eq_true rfl) (Nat.le_of_ble_eq_true rfl) (e_X7_init hS (m2 := m10) (hg := by show 15 ≤ w.2.2 - (12 + 3); omega) (o1 := wnew_s) (k2 := ?_)) (fun _ _ h => h)
  show Rn G mX1_keep 74 [(2, .ref a3), (0, .ref a1), (1, .ref a2)] [.ref w.2.1] (wset (wset (wnew (wnew w (.inl (nX7, [.int 0, .null, .null])) 3) (.inl (nJ6, [.int 0, .null, .int 0])) 3) (w.2.1 + 1) (.inl (nJ6, [.int 0, .ref (κ 1), .int 0]))) w.2.1 (.inl (nX7, [.int (nI m10), .ref a11, .ref (w.2.1 + 1)]))) _
  refine r_astore_n (lv' := [(3, .ref w.2.1), (2, .ref a3), (0, .ref a1), (1, .ref a2)]) 28 75 rfl rfl (Nat.le_of_ble_eq_true rfl) rfl ?_
  refine r_aload_n 29 76 0 rfl rfl rfl ?_
  refine r_get (v := .ref (w.2.1 + 1)) fl_X1_155_X7 30 79 rfl rfl (Or.inl wset_s) rfl ?_
  refine r_aload_n 31 80 1 rfl rfl rfl ?_
  refine r_callF lkF_X1_139_J29 (C := RJ29) (TT := TJ29) (NN := 6) rfl (Lk.set_n (Lk.set_n (Lk.new_n (Lk.new_n o1 (by have := (o1.lt hwk); show a3 < w.2.1; omega)) (by have := (o1.lt hwk); show a3 < (w.2.1 + 1); omega)) (Nat.ne_of_lt (show a3 < (w.2.1 + 1) from (by have := Lk.lt o1 hwk; omega)))) (Nat.ne_of_lt (show a3 < w.2.1 from (by have := Lk.lt o1 hwk; omega)))) 32 85 rfl rfl (by decide) [] rfl rfl (Nat.le_of_ble_eq_true rfl) (Nat.le_of_ble_eq_true rfl) (e_J29_getValue hS (p6 := p8) (p5 := p7) (p4 := p6) (o1 := (Lk.set_n (Lk.set_n (Lk.new_n (Lk.new_n o1 (by have := (o1.lt hwk); show a3 < w.2.1; omega)) (by have := (o1.lt hwk); show a3 < (w.2.1 + 1); omega)) (Nat.ne_of_lt (show a3 < (w.2.1 + 1) from (by have := Lk.lt o1 hwk; omega)))) (Nat.ne_of_lt (show a3 < w.2.1 from (by have := Lk.lt o1 hwk; omega))))) (k2 := ?_)) (fun _ _ h => h)
  show Rn G mX1_keep 85 [(3, .ref w.2.1), (2, .ref a3), (0, .ref a1), (1, .ref a2)] [.ref a5, .ref (w.2.1 + 1)] (wset (wset (wnew (wnew w (.inl (nX7, [.int 0, .null, .null])) 3) (.inl (nJ6, [.int 0, .null, .int 0])) 3) (w.2.1 + 1) (.inl (nJ6, [.int 0, .ref (κ 1), .int 0]))) w.2.1 (.inl (nX7, [.int (nI m10), .ref a11, .ref (w.2.1 + 1)]))) _
  refine r_castS (C := RX7) (TT := TX7) (NN := 3) rfl q1392 33 88 rfl rfl (Lk.set_n (Lk.set_n (Lk.new_n (Lk.new_n o2 (by have := (o2.lt hwk); show a5 < w.2.1; omega)) (by have := (o2.lt hwk); show a5 < (w.2.1 + 1); omega)) (Nat.ne_of_lt (show a5 < (w.2.1 + 1) from (by have := Lk.lt o2 hwk; omega)))) (Nat.ne_of_lt (show a5 < w.2.1 from (by have := Lk.lt o2 hwk; omega)))) ?_
  refine r_get (v := .ref a12) fl_X1_155_X7 34 91 rfl rfl (Lk.set_n (Lk.set_n (Lk.new_n (Lk.new_n o2 (by have := (o2.lt hwk); show a5 < w.2.1; omega)) (by have := (o2.lt hwk); show a5 < (w.2.1 + 1); omega)) (Nat.ne_of_lt (show a5 < (w.2.1 + 1) from (by have := Lk.lt o2 hwk; omega)))) (Nat.ne_of_lt (show a5 < w.2.1 from (by have := Lk.lt o2 hwk; omega)))) rfl ?_
  exact r_callV lkV_X1_158_J6 (C := RJ6) (TT := TJ6) (NN := 3) rfl (Or.inl (wset_n wset_s (by omega))) 35 94 rfl rfl (by decide) [.ref a12] rfl rfl (Nat.le_of_ble_eq_true rfl) (Nat.le_of_ble_eq_true rfl) e3 (fun r w' h => Af.sub [2, 3, 0] rfl (k3 r w' h))
theorem e_X1_keep_94 {G : Gm} {κ : Nat → Nat} {φ : Nat → Option Nat} (hS : GS G κ φ) {w : Wd} {Q : Rs → Wd → Prop} {a1 : Nat} {a2 : Nat} {a3 : Nat} {x4 : Int32} {a5 : Nat} {a6 : Nat} {a7 : Nat} {a8 : Nat} {m9 : Nat} {a10 : Nat} {a11 : Nat} (o1 : Lk G w a1 (.inl (nX1, [.ref a5, .ref a6, .ref a7, .ref a8]))) (o2 : Lk G w a3 (.inl (nX7, [.int (nI m9), .ref a10, .ref a11]))) {Q3 : Rs → Wd → Prop} (e3 : Ev G mJ20_valueOf [.int (nI m9)] w Q3) (k3 : ∀ r w', Q3 r w' → Af G mX1_keep 103 106 [(0, .ref a1), (1, .ref a2), (3, .ref a3)] [.ref a8] r w' Q) : Rn G mX1_keep 94 [(0, .ref a1), (1, .ref a2), (3, .ref a3)] [.int x4] w Q := by
  refine r_pop 36 95 rfl rfl rfl ?_
  refine r_aload_n 37 96 0 rfl rfl rfl ?_
  refine r_get (v := .ref a8) fl_X1_30_X1 38 99 rfl rfl o1 rfl ?_
  refine r_aload_n 39 100 2 rfl rfl rfl ?_
  refine r_get (v := .int (nI m9)) fl_X1_91_X7 40 103 rfl rfl o2 rfl ?_
  exact r_callS lkS_X1_96 41 106 rfl rfl (by decide) [.int (nI m9)] rfl rfl (Nat.le_of_ble_eq_true rfl) (Nat.le_of_ble_eq_true rfl) e3 (fun r w' h => Af.sub [0, 1, 2] rfl (k3 r w' h))
theorem e_X1_keep_106 {G : Gm} {κ : Nat → Nat} {φ : Nat → Option Nat} (hS : GS G κ φ) {w : Wd} {Q : Rs → Wd → Prop} {a1 : Nat} {a2 : Nat} {a3 : Nat} {a4 : Nat} {a5 : Nat} {p6 : Option Nat} {p7 : Option Nat} {p8 : Option Nat} {m9 : Nat} {x10 : Int32} {p11 : Option Nat} {p12 : Option Nat} {p13 : Option Nat} (o1 : Lk G w a5 (.inl (nJ8, [va_rf p6, va_rf p7, .null, va_rf p8, .int (nI m9), .int x10, va_rf p11, va_rf p12, va_rf p13]))) {Q2 : Rs → Wd → Prop} (e2 : Ev G mJ8_put [.ref a5, .ref a4, .ref a3] w Q2) (k2 : ∀ r w', Q2 r w' → Af G mX1_keep 107 110 [(0, .ref a1), (1, .ref a2)] [] r w' Q) : Rn G mX1_keep 106 [(0, .ref a1), (1, .ref a2), (3, .ref a3)] [.ref a4, .ref a5] w Q := by
  refine r_aload_n 42 107 2 rfl rfl rfl ?_
  exact r_callV lkV_X1_102_J8 (C := RJ8) (TT := TJ8) (NN := 9) rfl o1 43 110 rfl rfl (by decide) [.ref a4, .ref a3] rfl rfl (Nat.le_of_ble_eq_true rfl) (Nat.le_of_ble_eq_true rfl) e2 (fun r w' h => Af.sub [0, 1] rfl (k2 r w' h))
theorem e_X1_keep_110 {G : Gm} {κ : Nat → Nat} {φ : Nat → Option Nat} (hS : GS G κ φ) {w : Wd} {Q : Rs → Wd → Prop} {a1 : Nat} {a2 : Nat} {p3 : Option Nat} {m5 : Nat} {a6 : Nat} {a7 : Nat} (k1 : p3 = none → Rn G mX1_keep 24 [(0, .ref a1), (1, .ref a2)] [] w Q) (o2 : ∀ pa4 : Nat, p3 = some pa4 → Lk G w pa4 (.inl (nX7, [.int (nI m5), .ref a6, .ref a7]))) (k3 : ∀ pa4 : Nat, p3 = some pa4 → Rn G mX1_keep 24 [(0, .ref a1), (1, .ref a2)] [] w Q) : Rn G mX1_keep 110 [(0, .ref a1), (1, .ref a2)] [va_rf p3] w Q := by
  cases p3 with
  | none =>
    refine r_castN 44 113 rfl rfl ?_
    refine r_astoreN (lv' := [(4, .null), (0, .ref a1), (1, .ref a2)]) 45 115 rfl rfl (Nat.le_of_ble_eq_true rfl) rfl ?_
    refine r_goto 46 24 rfl rfl ?_
    exact r_sub [1, 2] rfl (k1 rfl)
  | some pa4 =>
    refine r_castS (C := RX7) (TT := TX7) (NN := 3) rfl q1392 44 113 rfl rfl (o2 pa4 rfl) ?_
    refine r_astore (lv' := [(4, .ref pa4), (0, .ref a1), (1, .ref a2)]) 45 115 rfl rfl (Nat.le_of_ble_eq_true rfl) rfl ?_
    refine r_goto 46 24 rfl rfl ?_
    exact r_sub [1, 2] rfl (k3 pa4 rfl)
theorem e_X1_lineOf {G : Gm} {κ : Nat → Nat} {φ : Nat → Option Nat} (hS : GS G κ φ) {w : Wd} {Q : Rs → Wd → Prop} {a1 : Nat} {x2 : Int32} {a3 : Nat} {a4 : Nat} {a5 : Nat} {a6 : Nat} (o1 : Lk G w a1 (.inl (nX1, [.ref a3, .ref a4, .ref a5, .ref a6]))) {Q2 : Rs → Wd → Prop} (e2 : Ev G mJ20_valueOf [.int x2] w Q2) (k2 : ∀ r w', Q2 r w' → Af G mX1_lineOf 5 8 [] [.ref a5] r w' Q) : Ev G mX1_lineOf [.ref a1, .int x2] w Q := by
  show Rn G mX1_lineOf 0 [(0, .ref a1), (1, .int x2)] [] w Q
  refine r_aload_n 0 1 0 rfl rfl rfl ?_
  refine r_get (v := .ref a5) fl_X1_26_X1 1 4 rfl rfl o1 rfl ?_
  refine r_iload_n 2 5 1 rfl rfl rfl ?_
  exact r_callS lkS_X1_96 3 8 rfl rfl (by decide) [.int x2] rfl rfl (Nat.le_of_ble_eq_true rfl) (Nat.le_of_ble_eq_true rfl) e2 (fun r w' h => Af.sub [] rfl (k2 r w' h))
theorem e_X1_lineOf_8 {G : Gm} {κ : Nat → Nat} {φ : Nat → Option Nat} (hS : GS G κ φ) {w : Wd} {Q : Rs → Wd → Prop} {a1 : Nat} {a2 : Nat} {p3 : Option Nat} {p4 : Option Nat} {p5 : Option Nat} {m6 : Nat} {x7 : Int32} {p8 : Option Nat} {p9 : Option Nat} {p10 : Option Nat} (o1 : Lk G w a2 (.inl (nJ8, [va_rf p3, va_rf p4, .null, va_rf p5, .int (nI m6), .int x7, va_rf p8, va_rf p9, va_rf p10]))) {Q2 : Rs → Wd → Prop} (e2 : Ev G mJ8_get [.ref a2, .ref a1] w Q2) (k2 : ∀ r w', Q2 r w' → Af G mX1_lineOf 8 11 [] [] r w' Q) : Rn G mX1_lineOf 8 [] [.ref a1, .ref a2] w Q := by
  exact r_callV lkV_X1_162_J8 (C := RJ8) (TT := TJ8) (NN := 9) rfl o1 4 11 rfl rfl (by decide) [.ref a1] rfl rfl (Nat.le_of_ble_eq_true rfl) (Nat.le_of_ble_eq_true rfl) e2 (fun r w' h => Af.sub [] rfl (k2 r w' h))
theorem e_X1_lineOf_11 {G : Gm} {κ : Nat → Nat} {φ : Nat → Option Nat} (hS : GS G κ φ) {w : Wd} {Q : Rs → Wd → Prop} {p1 : Option Nat} {m3 : Nat} {a4 : Nat} {a5 : Nat} (hg : 18 ≤ w.2.2) (k1 : p1 = none → Q (.inr w.2.1) (wnew w (.inl (nJ12, [.null])) 6)) (o2 : ∀ pa2 : Nat, p1 = some pa2 → Lk G w pa2 (.inl (nX7, [.int (nI m3), .ref a4, .ref a5]))) (k3 : ∀ pa2 : Nat, p1 = some pa2 → Q (.inl (some (.ref pa2))) w) : Rn G mX1_lineOf 11 [] [va_rf p1] w Q := by
  cases p1 with
  | none =>
    refine r_castN 5 14 rfl rfl ?_
    refine r_astoreN_n (lv' := [(2, .null)]) 6 15 rfl rfl (Nat.le_of_ble_eq_true rfl) rfl ?_
    refine r_aloadN_n 7 16 0 rfl rfl rfl ?_
    refine r_ifnullN 8 23 rfl rfl ?_
    refine r_iconst 11 24 rfl rfl di_0 ?_
    refine r_callS lkS_X1_38 12 27 rfl rfl (by decide) [.int 0] rfl rfl (Nat.le_of_ble_eq_true rfl) (Nat.le_of_ble_eq_true rfl) (e_X1_need hS (hg := by show 18 ≤ w.2.2; omega) (k1 := fun z0 => absurd z0 (by decide)) (k2 := fun z1_0 => ?_)) (fun _ _ h => h)
    show Th G mX1_lineOf 24 [(2, .null)] [] w.2.1 (wnew w (.inl (nJ12, [.null])) 6) _
    exact th_out rfl (k1 rfl)
  | some pa2 =>
    refine r_castS (C := RX7) (TT := TX7) (NN := 3) rfl q1392 5 14 rfl rfl (o2 pa2 rfl) ?_
    refine r_astore_n (lv' := [(2, .ref pa2)]) 6 15 rfl rfl (Nat.le_of_ble_eq_true rfl) rfl ?_
    refine r_aload_n 7 16 0 rfl rfl rfl ?_
    refine r_ifnull 8 19 rfl rfl ?_
    refine r_iconst 9 20 rfl rfl di_1 ?_
    refine r_goto 10 24 rfl rfl ?_
    refine r_callS lkS_X1_38 12 27 rfl rfl (by decide) [.int 1] rfl rfl (Nat.le_of_ble_eq_true rfl) (Nat.le_of_ble_eq_true rfl) (e_X1_need hS (hg := by show 18 ≤ w.2.2; omega) (k2 := fun z0 => absurd z0 (by decide)) (k1 := fun z1_0 => ?_)) (fun _ _ h => h)
    show Rn G mX1_lineOf 27 [(2, .ref pa2)] [] w _
    refine r_aload_n 13 28 0 rfl rfl rfl ?_
    exact r_aret 14 rfl rfl (Or.inl ⟨_, rfl⟩) (Or.inr ⟨_, rfl⟩) (k3 pa2 rfl)
theorem e_X1_argumentOf {G : Gm} {κ : Nat → Nat} {φ : Nat → Option Nat} (hS : GS G κ φ) {w : Wd} {Q : Rs → Wd → Prop} {a1 : Nat} {x2 : Int32} {x3 : Int32} {a4 : Nat} {a5 : Nat} {a6 : Nat} {a7 : Nat} (o1 : Lk G w a1 (.inl (nX1, [.ref a4, .ref a5, .ref a6, .ref a7]))) {Q2 : Rs → Wd → Prop} (e2 : Ev G mX1_lineOf [.ref a1, .int x2] w Q2) (k2 : ∀ r w', Q2 r w' → Af G mX1_argumentOf 2 5 [(2, .int x3)] [] r w' Q) : Ev G mX1_argumentOf [.ref a1, .int x2, .int x3] w Q := by
  show Rn G mX1_argumentOf 0 [(0, .ref a1), (1, .int x2), (2, .int x3)] [] w Q
  refine r_aload_n 0 1 0 rfl rfl rfl ?_
  refine r_iload_n 1 2 1 rfl rfl rfl ?_
  exact r_callV lkV_X1_166_X1 (C := RX1) (TT := TX1) (NN := 4) rfl o1 2 5 rfl rfl (by decide) [.int x2] rfl rfl (Nat.le_of_ble_eq_true rfl) (Nat.le_of_ble_eq_true rfl) e2 (fun r w' h => Af.sub [2] rfl (k2 r w' h))
theorem e_X1_argumentOf_5 {G : Gm} {κ : Nat → Nat} {φ : Nat → Option Nat} (hS : GS G κ φ) {w : Wd} {Q : Rs → Wd → Prop} {x1 : Int32} {a2 : Nat} {m3 : Nat} {a4 : Nat} {a5 : Nat} {x6 : Int32} {a7 : Nat} {m8 : Nat} (hg : 18 ≤ w.2.2) (k1 : x1 < 0 → Q (.inr w.2.1) (wnew w (.inl (nJ12, [.null])) 6)) (o2 : Lk G w a2 (.inl (nX7, [.int (nI m3), .ref a4, .ref a5]))) (o3 : Lk G w a5 (.inl (nJ6, [.int x6, .ref a7, .int (nI m8)]))) (k4 : ¬ x1 < 0 → (nI m8) ≤ x1 → Q (.inr w.2.1) (wnew w (.inl (nJ12, [.null])) 6)) (k5 : ¬ x1 < 0 → ¬ (nI m8) ≤ x1 → Rn G mX1_argumentOf 29 [(2, .int x1), (3, .ref a2)] [] w Q) : Rn G mX1_argumentOf 5 [(2, .int x1)] [.ref a2] w Q := by
  refine r_astore_n (lv' := [(3, .ref a2), (2, .int x1)]) 3 6 rfl rfl (Nat.le_of_ble_eq_true rfl) rfl ?_
  refine r_iload_n 4 7 1 rfl rfl rfl ?_
  refine r_if_lt 5 10 25 rfl rfl rfl (fun c1 => ?_) (fun c1 => ?_)
  · refine r_iconst 13 26 rfl rfl di_0 ?_
    refine r_callS lkS_X1_38 14 29 rfl rfl (by decide) [.int 0] rfl rfl (Nat.le_of_ble_eq_true rfl) (Nat.le_of_ble_eq_true rfl) (e_X1_need hS (hg := by show 18 ≤ w.2.2; omega) (k1 := fun z0 => absurd z0 (by decide)) (k2 := fun z1_0 => ?_)) (fun _ _ h => h)
    show Th G mX1_argumentOf 26 [(3, .ref a2), (2, .int x1)] [] w.2.1 (wnew w (.inl (nJ12, [.null])) 6) _
    exact th_out rfl (k1 c1)
  · refine r_iload_n 6 11 1 rfl rfl rfl ?_
    refine r_aload_n 7 12 0 rfl rfl rfl ?_
    refine r_get (v := .ref a5) fl_X1_155_X7 8 15 rfl rfl o2 rfl ?_
    refine r_callV lkV_X1_84_J6 (C := RJ6) (TT := TJ6) (NN := 3) rfl o3 9 18 rfl rfl (by decide) [] rfl rfl (Nat.le_of_ble_eq_true rfl) (Nat.le_of_ble_eq_true rfl) (e_J6_size hS (m4 := m8) (o1 := o3) (k2 := ?_)) (fun _ _ h => h)
    show Rn G mX1_argumentOf 18 [(3, .ref a2), (2, .int x1)] [.int (nI m8), .int x1] w _
    refine r_icmp_ge 10 21 25 rfl rfl rfl (fun c2 => ?_) (fun c2 => ?_)
    · refine r_iconst 13 26 rfl rfl di_0 ?_
      refine r_callS lkS_X1_38 14 29 rfl rfl (by decide) [.int 0] rfl rfl (Nat.le_of_ble_eq_true rfl) (Nat.le_of_ble_eq_true rfl) (e_X1_need hS (hg := by show 18 ≤ w.2.2; omega) (k1 := fun z0 => absurd z0 (by decide)) (k2 := fun z2_0 => ?_)) (fun _ _ h => h)
      show Th G mX1_argumentOf 26 [(3, .ref a2), (2, .int x1)] [] w.2.1 (wnew w (.inl (nJ12, [.null])) 6) _
      exact th_out rfl (k4 c1 c2)
    · refine r_iconst 11 22 rfl rfl di_1 ?_
      refine r_goto 12 26 rfl rfl ?_
      refine r_callS lkS_X1_38 14 29 rfl rfl (by decide) [.int 1] rfl rfl (Nat.le_of_ble_eq_true rfl) (Nat.le_of_ble_eq_true rfl) (e_X1_need hS (hg := by show 18 ≤ w.2.2; omega) (k2 := fun z0 => absurd z0 (by decide)) (k1 := fun z2_0 => ?_)) (fun _ _ h => h)
      show Rn G mX1_argumentOf 29 [(3, .ref a2), (2, .int x1)] [] w _
      exact r_sub [1, 0] rfl (k5 c1 c2)
theorem e_X1_argumentOf_29 {G : Gm} {κ : Nat → Nat} {φ : Nat → Option Nat} (hS : GS G κ φ) {w : Wd} {Q : Rs → Wd → Prop} {m1 : Nat} {a2 : Nat} {m3 : Nat} {a4 : Nat} {a5 : Nat} {x6 : Int32} {a7 : Nat} {m8 : Nat} {n9 : Nat} {g10 : Nat → Option Nat} {a11 : Nat} {a12 : Nat} {a13 : Nat} {a14 : Nat} (o1 : Lk G w a2 (.inl (nX7, [.int (nI m3), .ref a4, .ref a5]))) (o2 : Lk G w a5 (.inl (nJ6, [.int x6, .ref a7, .int (nI m8)]))) (o3 : Lk G w a7 (arR "java/lang/Object" n9 g10)) (b4 : m1 < 2 ^ 31) (b5 : m8 < 2 ^ 31) (f6 : m1 < m8) (b7 : m1 < n9) (b8 : n9 < 2 ^ 31) (q9 : (g10 m1) = some a11) (o10 : Lk G w a11 (.inl (nX8, [.ref a12, .ref a13, .ref a14]))) (k11 : Q (.inl (some (.ref a11))) w) : Rn G mX1_argumentOf 29 [(2, .int (nI m1)), (3, .ref a2)] [] w Q := by
  refine r_aload_n 15 30 1 rfl rfl rfl ?_
  refine r_get (v := .ref a5) fl_X1_155_X7 16 33 rfl rfl o1 rfl ?_
  refine r_iload_n 17 34 0 rfl rfl rfl ?_
  refine r_callV lkV_X1_170_J6 (C := RJ6) (TT := TJ6) (NN := 3) rfl o2 18 37 rfl rfl (by decide) [.int (nI m1)] rfl rfl (Nat.le_of_ble_eq_true rfl) (Nat.le_of_ble_eq_true rfl) (e_J6_get hS (a8 := a11) (m5 := m8) (m2 := m1) (o1 := o2) (b2 := b4) (b3 := b5) (f4 := f6) (o5 := o3) (b6 := b7) (b7 := b8) (q8 := q9) (k9 := ?_)) (fun _ _ h => h)
  show Rn G mX1_argumentOf 37 [(2, .int (nI m1)), (3, .ref a2)] [.ref a11] w _
  refine r_castS (C := RX8) (TT := TX8) (NN := 3) rfl q1690 19 40 rfl rfl o10 ?_
  exact r_aret 20 rfl rfl (Or.inl ⟨_, rfl⟩) (Or.inr ⟨_, rfl⟩) k11
theorem e_X1_line {G : Gm} {κ : Nat → Nat} {φ : Nat → Option Nat} (hS : GS G κ φ) {w : Wd} {Q : Rs → Wd → Prop} {a1 : Nat} {x2 : Int32} {a3 : Nat} {a4 : Nat} {a5 : Nat} {a6 : Nat} {p7 : Option Nat} {p8 : Option Nat} {p9 : Option Nat} {m10 : Nat} {x11 : Int32} {p12 : Option Nat} {p13 : Option Nat} {p14 : Option Nat} (hg : 18 ≤ w.2.2) (k1 : x2 < 0 → Q (.inr w.2.1) (wnew w (.inl (nJ12, [.null])) 6)) (o2 : Lk G w a1 (.inl (nX1, [.ref a3, .ref a4, .ref a5, .ref a6]))) (o3 : Lk G w a5 (.inl (nJ8, [va_rf p7, va_rf p8, .null, va_rf p9, .int (nI m10), .int x11, va_rf p12, va_rf p13, va_rf p14]))) {Q4 : Rs → Wd → Prop} (e4 : ¬ x2 < 0 → Ev G mJ8_entrySet [.ref a5] w Q4) (k4 : ¬ x2 < 0 → ∀ r w', Q4 r w' → Af G mX1_line 18 21 [(2, .int x2)] [] r w' Q) : Ev G mX1_line [.ref a1, .int x2] w Q := by
  show Rn G mX1_line 0 [(0, .ref a1), (1, .int x2)] [] w Q
  refine r_iload_n 0 1 1 rfl rfl rfl ?_
  refine r_if_lt 1 4 8 rfl rfl rfl (fun c1 => ?_) (fun c1 => ?_)
  · refine r_iconst 4 9 rfl rfl di_0 ?_
    refine r_callS lkS_X1_38 5 12 rfl rfl (by decide) [.int 0] rfl rfl (Nat.le_of_ble_eq_true rfl) (Nat.le_of_ble_eq_true rfl) (e_X1_need hS (hg := by show 18 ≤ w.2.2; omega) (k1 := fun z0 => absurd z0 (by decide)) (k2 := fun z1_0 => ?_)) (fun _ _ h => h)
    show Th G mX1_line 9 [(0, .ref a1), (1, .int x2)] [] w.2.1 (wnew w (.inl (nJ12, [.null])) 6) _
    exact th_out rfl (k1 c1)
  · refine r_iconst 2 5 rfl rfl di_1 ?_
    refine r_goto 3 9 rfl rfl ?_
    refine r_callS lkS_X1_38 5 12 rfl rfl (by decide) [.int 1] rfl rfl (Nat.le_of_ble_eq_true rfl) (Nat.le_of_ble_eq_true rfl) (e_X1_need hS (hg := by show 18 ≤ w.2.2; omega) (k2 := fun z0 => absurd z0 (by decide)) (k1 := fun z1_0 => ?_)) (fun _ _ h => h)
    show Rn G mX1_line 12 [(0, .ref a1), (1, .int x2)] [] w _
    refine r_iload_n 6 13 1 rfl rfl rfl ?_
    refine r_istore_n (lv' := [(2, .int x2), (0, .ref a1), (1, .int x2)]) 7 14 rfl rfl (Nat.le_of_ble_eq_true rfl) rfl ?_
    refine r_aload_n 8 15 1 rfl rfl rfl ?_
    refine r_get (v := .ref a5) fl_X1_26_X1 9 18 rfl rfl o2 rfl ?_
    exact r_callV lkV_X1_130_J8 (C := RJ8) (TT := TJ8) (NN := 9) rfl o3 10 21 rfl rfl (by decide) [] rfl rfl (Nat.le_of_ble_eq_true rfl) (Nat.le_of_ble_eq_true rfl) (e4 c1) (fun r w' h => Af.sub [0] rfl ((k4 c1) r w' h))
theorem e_X1_line_21 {G : Gm} {κ : Nat → Nat} {φ : Nat → Option Nat} (hS : GS G κ φ) {w : Wd} {Q : Rs → Wd → Prop} {x1 : Int32} {a2 : Nat} {a3 : Nat} (o1 : Lk G w a2 (.inl (nJ31, [.ref a3]))) {Q2 : Rs → Wd → Prop} (e2 : Ev G mJ31_iterator [.ref a2] w Q2) (k2 : ∀ r w', Q2 r w' → Af G mX1_line 21 26 [(2, .int x1)] [] r w' Q) : Rn G mX1_line 21 [(2, .int x1)] [.ref a2] w Q := by
  exact r_callF lkF_X1_134_J31 (C := RJ31) (TT := TJ31) (NN := 1) rfl o1 11 26 rfl rfl (by decide) [] rfl rfl (Nat.le_of_ble_eq_true rfl) (Nat.le_of_ble_eq_true rfl) e2 (fun r w' h => Af.sub [0] rfl (k2 r w' h))
theorem e_X1_line_26 {G : Gm} {κ : Nat → Nat} {φ : Nat → Option Nat} (hS : GS G κ φ) {w : Wd} {Q : Rs → Wd → Prop} {x1 : Int32} {a2 : Nat} (k1 : Rn G mX1_line 27 [(2, .int x1), (3, .ref a2)] [] w Q) : Rn G mX1_line 26 [(2, .int x1)] [.ref a2] w Q := by
  refine r_astore_n (lv' := [(3, .ref a2), (2, .int x1)]) 12 27 rfl rfl (Nat.le_of_ble_eq_true rfl) rfl ?_
  exact r_sub [1, 0] rfl k1
theorem e_X1_line_27 {G : Gm} {κ : Nat → Nat} {φ : Nat → Option Nat} (hS : GS G κ φ) {w : Wd} {Q : Rs → Wd → Prop} {x1 : Int32} {a2 : Nat} {p3 : Option Nat} {p4 : Option Nat} {x5 : Int32} {a6 : Nat} (o1 : Lk G w a2 (.inl (nJ33, [va_rf p3, va_rf p4, .int x5, .ref a6]))) {Q2 : Rs → Wd → Prop} (e2 : Ev G mJ32_hasNext [.ref a2] w Q2) (k2 : ∀ r w', Q2 r w' → Af G mX1_line 28 33 [(2, .int x1), (3, .ref a2)] [] r w' Q) : Rn G mX1_line 27 [(2, .int x1), (3, .ref a2)] [] w Q := by
  refine r_aload_n 13 28 1 rfl rfl rfl ?_
  exact r_callF lkF_X1_110_J33 (C := RJ33) (TT := TJ33) (NN := 4) rfl o1 14 33 rfl rfl (by decide) [] rfl rfl (Nat.le_of_ble_eq_true rfl) (Nat.le_of_ble_eq_true rfl) e2 (fun r w' h => Af.sub [0, 1] rfl (k2 r w' h))
theorem e_X1_line_33 {G : Gm} {κ : Nat → Nat} {φ : Nat → Option Nat} (hS : GS G κ φ) {w : Wd} {Q : Rs → Wd → Prop} {x1 : Int32} {a2 : Nat} {x3 : Int32} {p4 : Option Nat} {p5 : Option Nat} {x6 : Int32} {a7 : Nat} (k1 : x3 = 0 → Q (.inl (some (.int (-1)))) w) (o2 : Lk G w a2 (.inl (nJ33, [va_rf p4, va_rf p5, .int x6, .ref a7]))) {Q3 : Rs → Wd → Prop} (e3 : ¬ x3 = 0 → Ev G mJ33_next [.ref a2] w Q3) (k3 : ¬ x3 = 0 → ∀ r w', Q3 r w' → Af G mX1_line 37 42 [(2, .int x1), (3, .ref a2)] [] r w' Q) : Rn G mX1_line 33 [(2, .int x1), (3, .ref a2)] [.int x3] w Q := by
  refine r_if_eq 15 36 71 rfl rfl rfl (fun c1 => ?_) (fun c1 => ?_)
  · refine r_iconst 29 72 rfl rfl di_m1 ?_
    exact r_iret 30 rfl rfl rfl (k1 c1)
  · refine r_aload_n 16 37 1 rfl rfl rfl ?_
    exact r_callF lkF_X1_115_J33 (C := RJ33) (TT := TJ33) (NN := 4) rfl o2 17 42 rfl rfl (by decide) [] rfl rfl (Nat.le_of_ble_eq_true rfl) (Nat.le_of_ble_eq_true rfl) (e3 c1) (fun r w' h => Af.sub [0, 1] rfl ((k3 c1) r w' h))
theorem e_X1_line_42 {G : Gm} {κ : Nat → Nat} {φ : Nat → Option Nat} (hS : GS G κ φ) {w : Wd} {Q : Rs → Wd → Prop} {x1 : Int32} {a2 : Nat} {a3 : Nat} {a4 : Nat} {a5 : Nat} {p6 : Option Nat} {p7 : Option Nat} {p8 : Option Nat} {x9 : Int32} {x10 : Int32} (o1 : Lk G w a3 (.inl (nJ29, [.ref a4, .ref a5, va_rf p6, va_rf p7, va_rf p8, .int x9]))) (k2 : ¬ x1 = 0 → Rn G mX1_line 27 [(2, .int (x1 + (-1))), (3, .ref a2)] [] w Q) (o3 : Lk G w a4 (.inl (nJ20, [.int x10]))) (k4 : x1 = 0 → Q (.inl (some (.int x10))) w) : Rn G mX1_line 42 [(2, .int x1), (3, .ref a2)] [.ref a3] w Q := by
  refine r_castY (C := RJ29) (TT := TJ29) (NN := 6) rfl q1472 q1477 18 45 rfl rfl o1 ?_
  refine r_astore (lv' := [(4, .ref a3), (2, .int x1), (3, .ref a2)]) 19 47 rfl rfl (Nat.le_of_ble_eq_true rfl) rfl ?_
  refine r_iload_n 20 48 1 rfl rfl rfl ?_
  refine r_if_ne 21 51 65 rfl rfl rfl (fun c1 => ?_) (fun c1 => ?_)
  · refine r_iinc (v := (x1 + (-1))) (lv' := [(2, .int (x1 + (-1))), (4, .ref a3), (3, .ref a2)]) 27 68 1 rfl rfl rfl (congrArg (fun z => x1 + z) di_m1) (Nat.le_of_ble_eq_true rfl) rfl ?_
    refine r_goto 28 27 rfl rfl ?_
    exact r_sub [0, 2] rfl (k2 c1)
  · refine r_aload 22 53 0 rfl rfl rfl ?_
    refine r_callF lkF_X1_175_J29 (C := RJ29) (TT := TJ29) (NN := 6) rfl o1 23 58 rfl rfl (by decide) [] rfl rfl (Nat.le_of_ble_eq_true rfl) (Nat.le_of_ble_eq_true rfl) (e_J29_getKey hS (p6 := p8) (p5 := p7) (p4 := p6) (o1 := o1) (k2 := ?_)) (fun _ _ h => h)
    show Rn G mX1_line 58 [(4, .ref a3), (2, .int x1), (3, .ref a2)] [.ref a4] w _
    refine r_castS (C := RJ20) (TT := TJ20) (NN := 1) rfl q1411 24 61 rfl rfl o3 ?_
    refine r_callV lkV_X1_123_J20 (C := RJ20) (TT := TJ20) (NN := 1) rfl o3 25 64 rfl rfl (by decide) [] rfl rfl (Nat.le_of_ble_eq_true rfl) (Nat.le_of_ble_eq_true rfl) (e_J20_intValue hS (o1 := o3) (k2 := ?_)) (fun _ _ h => h)
    show Rn G mX1_line 64 [(4, .ref a3), (2, .int x1), (3, .ref a2)] [.int x10] w _
    exact r_iret 26 rfl rfl rfl (k4 c1)
theorem e_X1_kindOf {G : Gm} {κ : Nat → Nat} {φ : Nat → Option Nat} (hS : GS G κ φ) {w : Wd} {Q : Rs → Wd → Prop} {a1 : Nat} {a2 : Nat} (k1 : Rn G mX1_kindOf 2 [(0, .ref a1), (1, .ref a2), (2, .int 0)] [] w Q) : Ev G mX1_kindOf [.ref a1, .ref a2] w Q := by
  show Rn G mX1_kindOf 0 [(0, .ref a1), (1, .ref a2)] [] w Q
  refine r_iconst 0 1 rfl rfl di_0 ?_
  refine r_istore_n (lv' := [(2, .int 0), (0, .ref a1), (1, .ref a2)]) 1 2 rfl rfl (Nat.le_of_ble_eq_true rfl) rfl ?_
  exact r_sub [1, 2, 0] rfl k1
theorem e_X1_kindOf_2 {G : Gm} {κ : Nat → Nat} {φ : Nat → Option Nat} (hS : GS G κ φ) {w : Wd} {Q : Rs → Wd → Prop} {a1 : Nat} {a2 : Nat} {m3 : Nat} {a4 : Nat} {a5 : Nat} {a6 : Nat} {a7 : Nat} {x8 : Int32} {a9 : Nat} {m10 : Nat} {n11 : Nat} {g12 : Nat → Option Nat} {a13 : Nat} {a14 : Nat} {a15 : Nat} {a16 : Nat} {m17 : Nat} {a18 : Nat} {a19 : Nat} {a20 : Nat} {x21 : Int32} {x22 : Int32} (o1 : Lk G w a1 (.inl (nX1, [.ref a4, .ref a5, .ref a6, .ref a7]))) (o2 : Lk G w a5 (.inl (nJ6, [.int x8, .ref a9, .int (nI m10)]))) (bd3 : m3 < 2 ^ 31) (bd4 : m10 < 2 ^ 31) (k5 : m10 ≤ m3 → Q (.inl (some (.int (-1)))) w) (o6 : Lk G w a9 (arR "java/lang/Object" n11 g12)) (b7 : ¬ m10 ≤ m3 → m3 < n11) (b8 : ¬ m10 ≤ m3 → n11 < 2 ^ 31) (q9 : ¬ m10 ≤ m3 → (g12 m3) = some a13) (o10 : Lk G w a13 (.inl (nX4, [.ref a14, .ref a15, .ref a16]))) (o11 : Lk G w a2 (.inl (nX7, [.int (nI m17), .ref a18, .ref a19]))) (o12 : Lk G w a14 (.inl (nJ2, [.ref a20, .int 0, .int x21, .int x22]))) {Q13 : Rs → Wd → Prop} (e13 : ¬ m10 ≤ m3 → Ev G mJ2_equals [.ref a14, .ref a18] w Q13) (k13 : ¬ m10 ≤ m3 → ∀ r w', Q13 r w' → Af G mX1_kindOf 31 34 [(0, .ref a1), (1, .ref a2), (2, .int (nI m3))] [] r w' Q) : Rn G mX1_kindOf 2 [(0, .ref a1), (1, .ref a2), (2, .int (nI m3))] [] w Q := by
  refine r_iload_n 2 3 2 rfl rfl rfl ?_
  refine r_aload_n 3 4 0 rfl rfl rfl ?_
  refine r_get (v := .ref a5) fl_X1_19_X1 4 7 rfl rfl o1 rfl ?_
  refine r_callV lkV_X1_84_J6 (C := RJ6) (TT := TJ6) (NN := 3) rfl o2 5 10 rfl rfl (by decide) [] rfl rfl (Nat.le_of_ble_eq_true rfl) (Nat.le_of_ble_eq_true rfl) (e_J6_size hS (m4 := m10) (o1 := o2) (k2 := ?_)) (fun _ _ h => h)
  show Rn G mX1_kindOf 10 [(0, .ref a1), (1, .ref a2), (2, .int (nI m3))] [.int (nI m10), .int (nI m3)] w _
  refine y_icmp_ge (a := m3) (b := m10) bd3 bd4 6 13 45 rfl rfl rfl (fun c1 => ?_) (fun c1 => ?_)
  · refine r_iconst 21 46 rfl rfl di_m1 ?_
    exact r_iret 22 rfl rfl rfl (k5 c1)
  · refine r_aload_n 7 14 0 rfl rfl rfl ?_
    refine r_get (v := .ref a5) fl_X1_19_X1 8 17 rfl rfl o1 rfl ?_
    refine r_iload_n 9 18 2 rfl rfl rfl ?_
    refine r_callV lkV_X1_170_J6 (C := RJ6) (TT := TJ6) (NN := 3) rfl o2 10 21 rfl rfl (by decide) [.int (nI m3)] rfl rfl (Nat.le_of_ble_eq_true rfl) (Nat.le_of_ble_eq_true rfl) (e_J6_get hS (a8 := a13) (m5 := m10) (m2 := m3) (o1 := o2) (b2 := (by omega)) (b3 := (by omega)) (f4 := (by omega)) (o5 := o6) (b6 := (b7 c1)) (b7 := (b8 c1)) (q8 := (q9 c1)) (k9 := ?_)) (fun _ _ h => h)
    show Rn G mX1_kindOf 21 [(0, .ref a1), (1, .ref a2), (2, .int (nI m3))] [.ref a13] w _
    refine r_castS (C := RX4) (TT := TX4) (NN := 3) rfl q1784 11 24 rfl rfl o10 ?_
    refine r_get (v := .ref a14) fl_X1_180_X4 12 27 rfl rfl o10 rfl ?_
    refine r_aload_n 13 28 1 rfl rfl rfl ?_
    refine r_get (v := .ref a18) fl_X1_148_X7 14 31 rfl rfl o11 rfl ?_
    exact r_callV lkV_X1_181_J2 (C := RJ2) (TT := TJ2) (NN := 4) rfl o12 15 34 rfl rfl (by decide) [.ref a18] rfl rfl (Nat.le_of_ble_eq_true rfl) (Nat.le_of_ble_eq_true rfl) (e13 c1) (fun r w' h => Af.sub [0, 1, 2] rfl ((k13 c1) r w' h))
theorem e_X1_kindOf_34 {G : Gm} {κ : Nat → Nat} {φ : Nat → Option Nat} (hS : GS G κ φ) {w : Wd} {Q : Rs → Wd → Prop} {a1 : Nat} {a2 : Nat} {m3 : Nat} {x4 : Int32} (k1 : x4 = 0 → Rn G mX1_kindOf 2 [(0, .ref a1), (1, .ref a2), (2, .int (nI (m3 + 1)))] [] w Q) (k2 : ¬ x4 = 0 → Q (.inl (some (.int (nI m3)))) w) : Rn G mX1_kindOf 34 [(0, .ref a1), (1, .ref a2), (2, .int (nI m3))] [.int x4] w Q := by
  refine r_if_eq 16 37 39 rfl rfl rfl (fun c1 => ?_) (fun c1 => ?_)
  · refine r_iinc (v := (nI (m3 + 1))) (lv' := [(2, .int (nI (m3 + 1))), (0, .ref a1), (1, .ref a2)]) 19 42 2 rfl rfl rfl (by rw [di_1]; exact nI_add _ _) (Nat.le_of_ble_eq_true rfl) rfl ?_
    refine r_goto 20 2 rfl rfl ?_
    exact r_sub [1, 2, 0] rfl (k1 c1)
  · refine r_iload_n 17 38 2 rfl rfl rfl ?_
    exact r_iret 18 rfl rfl rfl (k2 c1)
theorem e_X1_depths {G : Gm} {κ : Nat → Nat} {φ : Nat → Option Nat} (hS : GS G κ φ) {w : Wd} {Q : Rs → Wd → Prop} {a1 : Nat} (hg : 1012 ≤ w.2.2) (k1 : Rn G mX1_depths 8 [(0, .ref a1), (1, .ref w.2.1), (2, .int 0)] [] (wnew w (arI .int 1000 (fun _ => 0)) 1000) Q) : Ev G mX1_depths [.ref a1] w Q := by
  show Rn G mX1_depths 0 [(0, .ref a1)] [] w Q
  refine r_sipush 0 3 rfl rfl ds_1000 ?_
  refine y_newI (n := 1000) 1 5 rfl rfl (by decide) (by show 12 + 1000 ≤ w.2.2; omega) ?_
  show Rn G mX1_depths 5 [(0, .ref a1)] [.ref w.2.1] (wnew w (arI .int 1000 (fun _ => 0)) 1000) _
  refine r_astore_n (lv' := [(1, .ref w.2.1), (0, .ref a1)]) 2 6 rfl rfl (Nat.le_of_ble_eq_true rfl) rfl ?_
  refine r_iconst 3 7 rfl rfl di_0 ?_
  refine r_istore_n (lv' := [(2, .int 0), (1, .ref w.2.1), (0, .ref a1)]) 4 8 rfl rfl (Nat.le_of_ble_eq_true rfl) rfl ?_
  exact r_sub [2, 1, 0] rfl k1
theorem e_X1_depths_8 {G : Gm} {κ : Nat → Nat} {φ : Nat → Option Nat} (hS : GS G κ φ) {w : Wd} {Q : Rs → Wd → Prop} {a1 : Nat} {a2 : Nat} {x3 : Int32} {n4 : Nat} {g5 : Nat → Int32} (k1 : (1000 : Int32) ≤ x3 → Rn G mX1_depths 27 [(0, .ref a1), (1, .ref a2), (2, .int 1)] [] w Q) (o2 : w.1 a2 = some (arI .int n4 g5)) (b3 : ¬ (1000 : Int32) ≤ x3 → vp_in x3 n4) (k4 : ¬ (1000 : Int32) ≤ x3 → Rn G mX1_depths 8 [(0, .ref a1), (1, .ref a2), (2, .int (x3 + 1))] [] (wset w a2 (arI .int n4 (upF g5 ((x3 : Int32).toNatClampNeg) (-1)))) Q) : Rn G mX1_depths 8 [(0, .ref a1), (1, .ref a2), (2, .int x3)] [] w Q := by
  refine r_iload_n 5 9 2 rfl rfl rfl ?_
  refine r_sipush 6 12 rfl rfl ds_1000 ?_
  refine r_icmp_ge 7 15 25 rfl rfl rfl (fun c1 => ?_) (fun c1 => ?_)
  · refine r_iconst 14 26 rfl rfl di_1 ?_
    refine r_istore_n (lv' := [(2, .int 1), (0, .ref a1), (1, .ref a2)]) 15 27 rfl rfl (Nat.le_of_ble_eq_true rfl) rfl ?_
    exact r_sub [1, 2, 0] rfl (k1 c1)
  · refine r_aload_n 8 16 1 rfl rfl rfl ?_
    refine r_iload_n 9 17 2 rfl rfl rfl ?_
    refine r_iconst 10 18 rfl rfl di_m1 ?_
    refine x_iast 11 19 rfl rfl o2 (b3 c1) ?_
    show Rn G mX1_depths 19 [(0, .ref a1), (1, .ref a2), (2, .int x3)] [] (wset w a2 (arI .int n4 (upF g5 ((x3 : Int32).toNatClampNeg) (-1)))) _
    refine r_iinc (v := (x3 + 1)) (lv' := [(2, .int (x3 + 1)), (0, .ref a1), (1, .ref a2)]) 12 22 2 rfl rfl rfl (congrArg (fun z => x3 + z) di_1) (Nat.le_of_ble_eq_true rfl) rfl ?_
    refine r_goto 13 8 rfl rfl ?_
    exact r_sub [1, 2, 0] rfl (k4 c1)
theorem e_X1_depths_27 {G : Gm} {κ : Nat → Nat} {φ : Nat → Option Nat} (hS : GS G κ φ) {w : Wd} {Q : Rs → Wd → Prop} {a1 : Nat} {a2 : Nat} {x3 : Int32} {a4 : Nat} {a5 : Nat} {a6 : Nat} {a7 : Nat} {p8 : Option Nat} {p9 : Option Nat} {p10 : Option Nat} {m11 : Nat} {x12 : Int32} {p13 : Option Nat} {p14 : Option Nat} {p15 : Option Nat} (k1 : x3 = 0 → Q (.inl (some (.ref a2))) w) (o2 : Lk G w a1 (.inl (nX1, [.ref a4, .ref a5, .ref a6, .ref a7]))) (o3 : Lk G w a6 (.inl (nJ8, [va_rf p8, va_rf p9, .null, va_rf p10, .int (nI m11), .int x12, va_rf p13, va_rf p14, va_rf p15]))) {Q4 : Rs → Wd → Prop} (e4 : ¬ x3 = 0 → Ev G mJ8_entrySet [.ref a6] w Q4) (k4 : ¬ x3 = 0 → ∀ r w', Q4 r w' → Af G mX1_depths 37 40 [(0, .ref a1), (1, .ref a2), (2, .int 0)] [] r w' Q) : Rn G mX1_depths 27 [(0, .ref a1), (1, .ref a2), (2, .int x3)] [] w Q := by
  refine r_iload_n 16 28 2 rfl rfl rfl ?_
  refine r_if_eq 17 31 138 rfl rfl rfl (fun c1 => ?_) (fun c1 => ?_)
  · refine r_aload_n 64 139 1 rfl rfl rfl ?_
    exact r_aret 65 rfl rfl (Or.inr ⟨_, rfl⟩) (Or.inr ⟨_, rfl⟩) (k1 c1)
  · refine r_iconst 18 32 rfl rfl di_0 ?_
    refine r_istore_n (lv' := [(2, .int 0), (0, .ref a1), (1, .ref a2)]) 19 33 rfl rfl (Nat.le_of_ble_eq_true rfl) rfl ?_
    refine r_aload_n 20 34 1 rfl rfl rfl ?_
    refine r_get (v := .ref a6) fl_X1_26_X1 21 37 rfl rfl o2 rfl ?_
    exact r_callV lkV_X1_130_J8 (C := RJ8) (TT := TJ8) (NN := 9) rfl o3 22 40 rfl rfl (by decide) [] rfl rfl (Nat.le_of_ble_eq_true rfl) (Nat.le_of_ble_eq_true rfl) (e4 c1) (fun r w' h => Af.sub [1, 2, 0] rfl ((k4 c1) r w' h))
theorem e_X1_depths_40 {G : Gm} {κ : Nat → Nat} {φ : Nat → Option Nat} (hS : GS G κ φ) {w : Wd} {Q : Rs → Wd → Prop} {a1 : Nat} {a2 : Nat} {x3 : Int32} {a4 : Nat} {a5 : Nat} (o1 : Lk G w a4 (.inl (nJ31, [.ref a5]))) {Q2 : Rs → Wd → Prop} (e2 : Ev G mJ31_iterator [.ref a4] w Q2) (k2 : ∀ r w', Q2 r w' → Af G mX1_depths 40 45 [(0, .ref a1), (1, .ref a2), (2, .int x3)] [] r w' Q) : Rn G mX1_depths 40 [(0, .ref a1), (1, .ref a2), (2, .int x3)] [.ref a4] w Q := by
  exact r_callF lkF_X1_134_J31 (C := RJ31) (TT := TJ31) (NN := 1) rfl o1 23 45 rfl rfl (by decide) [] rfl rfl (Nat.le_of_ble_eq_true rfl) (Nat.le_of_ble_eq_true rfl) e2 (fun r w' h => Af.sub [0, 1, 2] rfl (k2 r w' h))
theorem e_X1_depths_45 {G : Gm} {κ : Nat → Nat} {φ : Nat → Option Nat} (hS : GS G κ φ) {w : Wd} {Q : Rs → Wd → Prop} {a1 : Nat} {a2 : Nat} {x3 : Int32} {a4 : Nat} (k1 : Rn G mX1_depths 46 [(0, .ref a1), (1, .ref a2), (2, .int x3), (3, .ref a4)] [] w Q) : Rn G mX1_depths 45 [(0, .ref a1), (1, .ref a2), (2, .int x3)] [.ref a4] w Q := by
  refine r_astore_n (lv' := [(3, .ref a4), (0, .ref a1), (1, .ref a2), (2, .int x3)]) 24 46 rfl rfl (Nat.le_of_ble_eq_true rfl) rfl ?_
  exact r_sub [1, 2, 3, 0] rfl k1
theorem e_X1_depths_46 {G : Gm} {κ : Nat → Nat} {φ : Nat → Option Nat} (hS : GS G κ φ) {w : Wd} {Q : Rs → Wd → Prop} {a1 : Nat} {a2 : Nat} {x3 : Int32} {a4 : Nat} {p5 : Option Nat} {p6 : Option Nat} {x7 : Int32} {a8 : Nat} (o1 : Lk G w a4 (.inl (nJ33, [va_rf p5, va_rf p6, .int x7, .ref a8]))) {Q2 : Rs → Wd → Prop} (e2 : Ev G mJ32_hasNext [.ref a4] w Q2) (k2 : ∀ r w', Q2 r w' → Af G mX1_depths 47 52 [(0, .ref a1), (1, .ref a2), (2, .int x3), (3, .ref a4)] [] r w' Q) : Rn G mX1_depths 46 [(0, .ref a1), (1, .ref a2), (2, .int x3), (3, .ref a4)] [] w Q := by
  refine r_aload_n 25 47 3 rfl rfl rfl ?_
  exact r_callF lkF_X1_110_J33 (C := RJ33) (TT := TJ33) (NN := 4) rfl o1 26 52 rfl rfl (by decide) [] rfl rfl (Nat.le_of_ble_eq_true rfl) (Nat.le_of_ble_eq_true rfl) e2 (fun r w' h => Af.sub [0, 1, 2, 3] rfl (k2 r w' h))
theorem e_X1_depths_52 {G : Gm} {κ : Nat → Nat} {φ : Nat → Option Nat} (hS : GS G κ φ) {w : Wd} {Q : Rs → Wd → Prop} {a1 : Nat} {a2 : Nat} {x3 : Int32} {a4 : Nat} {x5 : Int32} {p6 : Option Nat} {p7 : Option Nat} {x8 : Int32} {a9 : Nat} (k1 : x5 = 0 → Rn G mX1_depths 27 [(0, .ref a1), (1, .ref a2), (2, .int x3)] [] w Q) (o2 : Lk G w a4 (.inl (nJ33, [va_rf p6, va_rf p7, .int x8, .ref a9]))) {Q3 : Rs → Wd → Prop} (e3 : ¬ x5 = 0 → Ev G mJ33_next [.ref a4] w Q3) (k3 : ¬ x5 = 0 → ∀ r w', Q3 r w' → Af G mX1_depths 56 61 [(0, .ref a1), (1, .ref a2), (2, .int x3), (3, .ref a4)] [] r w' Q) : Rn G mX1_depths 52 [(0, .ref a1), (1, .ref a2), (2, .int x3), (3, .ref a4)] [.int x5] w Q := by
  refine r_if_eq 27 55 135 rfl rfl rfl (fun c1 => ?_) (fun c1 => ?_)
  · refine r_goto 63 27 rfl rfl ?_
    exact r_sub [0, 1, 2] rfl (k1 c1)
  · refine r_aload_n 28 56 3 rfl rfl rfl ?_
    exact r_callF lkF_X1_115_J33 (C := RJ33) (TT := TJ33) (NN := 4) rfl o2 29 61 rfl rfl (by decide) [] rfl rfl (Nat.le_of_ble_eq_true rfl) (Nat.le_of_ble_eq_true rfl) (e3 c1) (fun r w' h => Af.sub [0, 1, 2, 3] rfl ((k3 c1) r w' h))
theorem e_X1_depths_61 {G : Gm} {κ : Nat → Nat} {φ : Nat → Option Nat} (hS : GS G κ φ) {w : Wd} {Q : Rs → Wd → Prop} {a1 : Nat} {a2 : Nat} {x3 : Int32} {a4 : Nat} {a5 : Nat} {a6 : Nat} {a7 : Nat} {p8 : Option Nat} {p9 : Option Nat} {p10 : Option Nat} {x11 : Int32} {x12 : Int32} {m13 : Nat} {n14 : Nat} {g15 : Nat → Int32} {m16 : Nat} {a17 : Nat} {a18 : Nat} (o1 : Lk G w a5 (.inl (nJ29, [.ref a6, .ref a7, va_rf p8, va_rf p9, va_rf p10, .int x11]))) (o2 : Lk G w a6 (.inl (nJ20, [.int x12]))) (q3 : x12 = nI m13) (o4 : Lk G w a2 (arI .int n14 g15)) (b5 : m13 < n14) (bd6 : n14 < 2 ^ 31) (k7 : ¬ (g15 m13) = (-1) → Rn G mX1_depths 46 [(0, .ref a1), (1, .ref a2), (2, .int x3), (3, .ref a4)] [] w Q) (o8 : Lk G w a7 (.inl (nX7, [.int (nI m16), .ref a17, .ref a18]))) {Q9 : Rs → Wd → Prop} (e9 : (g15 m13) = (-1) → Ev G mX1_over [.ref a7, .ref a2] w Q9) (k9 : (g15 m13) = (-1) → ∀ r w', Q9 r w' → Af G mX1_depths 96 99 [(0, .ref a1), (1, .ref a2), (2, .int x3), (3, .ref a4), (4, .ref a5)] [] r w' Q) : Rn G mX1_depths 61 [(0, .ref a1), (1, .ref a2), (2, .int x3), (3, .ref a4)] [.ref a5] w Q := by
  refine r_castY (C := RJ29) (TT := TJ29) (NN := 6) rfl q1472 q1477 30 64 rfl rfl o1 ?_
  refine r_astore (lv' := [(4, .ref a5), (0, .ref a1), (1, .ref a2), (2, .int x3), (3, .ref a4)]) 31 66 rfl rfl (Nat.le_of_ble_eq_true rfl) rfl ?_
  refine r_aload_n 32 67 2 rfl rfl rfl ?_
  refine r_aload 33 69 0 rfl rfl rfl ?_
  refine r_callF lkF_X1_175_J29 (C := RJ29) (TT := TJ29) (NN := 6) rfl o1 34 74 rfl rfl (by decide) [] rfl rfl (Nat.le_of_ble_eq_true rfl) (Nat.le_of_ble_eq_true rfl) (e_J29_getKey hS (p6 := p10) (p5 := p9) (p4 := p8) (o1 := o1) (k2 := ?_)) (fun _ _ h => h)
  show Rn G mX1_depths 74 [(4, .ref a5), (0, .ref a1), (1, .ref a2), (2, .int x3), (3, .ref a4)] [.ref a6, .ref a2] w _
  refine r_castS (C := RJ20) (TT := TJ20) (NN := 1) rfl q1411 35 77 rfl rfl o2 ?_
  refine r_callV lkV_X1_123_J20 (C := RJ20) (TT := TJ20) (NN := 1) rfl o2 36 80 rfl rfl (by decide) [] rfl rfl (Nat.le_of_ble_eq_true rfl) (Nat.le_of_ble_eq_true rfl) (e_J20_intValue hS (o1 := o2) (k2 := ?_)) (fun _ _ h => h)
  show Rn G mX1_depths 80 [(4, .ref a5), (0, .ref a1), (1, .ref a2), (2, .int x3), (3, .ref a4)] [.int x12, .ref a2] w _
  refine x_eq q3 ?_
  refine y_iald (i := m13) 37 81 rfl rfl o4 b5 bd6 ?_
  refine r_iconst 38 82 rfl rfl di_m1 ?_
  refine r_icmp_ne 39 85 132 rfl rfl rfl (fun c1 => ?_) (fun c1 => ?_)
  · refine r_goto 62 46 rfl rfl ?_
    exact r_sub [1, 2, 3, 4] rfl (k7 c1)
  · refine r_aload 40 87 0 rfl rfl rfl ?_
    refine r_callF lkF_X1_139_J29 (C := RJ29) (TT := TJ29) (NN := 6) rfl o1 41 92 rfl rfl (by decide) [] rfl rfl (Nat.le_of_ble_eq_true rfl) (Nat.le_of_ble_eq_true rfl) (e_J29_getValue hS (p6 := p10) (p5 := p9) (p4 := p8) (o1 := o1) (k2 := ?_)) (fun _ _ h => h)
    show Rn G mX1_depths 92 [(4, .ref a5), (0, .ref a1), (1, .ref a2), (2, .int x3), (3, .ref a4)] [.ref a7] w _
    refine r_castS (C := RX7) (TT := TX7) (NN := 3) rfl q1392 42 95 rfl rfl o8 ?_
    refine r_aload_n 43 96 2 rfl rfl rfl ?_
    exact r_callS lkS_X1_186 44 99 rfl rfl (by decide) [.ref a7, .ref a2] rfl rfl (Nat.le_of_ble_eq_true rfl) (Nat.le_of_ble_eq_true rfl) (e9 c1) (fun r w' h => Af.sub [1, 2, 3, 4, 0] rfl ((k9 c1) r w' h))
theorem e_X1_depths_99 {G : Gm} {κ : Nat → Nat} {φ : Nat → Option Nat} (hS : GS G κ φ) {w : Wd} {Q : Rs → Wd → Prop} {a1 : Nat} {a2 : Nat} {x3 : Int32} {a4 : Nat} {a5 : Nat} {x6 : Int32} {a7 : Nat} {a8 : Nat} {p9 : Option Nat} {p10 : Option Nat} {p11 : Option Nat} {x12 : Int32} {x13 : Int32} {m14 : Nat} {n15 : Nat} {g16 : Nat → Int32} (o1 : Lk G w a5 (.inl (nJ29, [.ref a7, .ref a8, va_rf p9, va_rf p10, va_rf p11, .int x12]))) (o2 : Lk G w a7 (.inl (nJ20, [.int x13]))) (q3 : x13 = nI m14) (o4 : w.1 a2 = some (arI .int n15 g16)) (b5 : m14 < n15) (bd6 : n15 < 2 ^ 31) (k7 : x6 = (-1) → Rn G mX1_depths 46 [(0, .ref a1), (1, .ref a2), (2, .int x3), (3, .ref a4)] [] (wset w a2 (arI .int n15 (upF g16 m14 x6))) Q) (k8 : ¬ x6 = (-1) → Rn G mX1_depths 46 [(0, .ref a1), (1, .ref a2), (2, .int (x3 ||| (1 : Int32))), (3, .ref a4)] [] (wset w a2 (arI .int n15 (upF g16 m14 x6))) Q) : Rn G mX1_depths 99 [(0, .ref a1), (1, .ref a2), (2, .int x3), (3, .ref a4), (4, .ref a5)] [.int x6] w Q := by
  refine r_istore (lv' := [(5, .int x6), (0, .ref a1), (1, .ref a2), (2, .int x3), (3, .ref a4), (4, .ref a5)]) 45 101 rfl rfl (Nat.le_of_ble_eq_true rfl) rfl ?_
  refine r_aload_n 46 102 2 rfl rfl rfl ?_
  refine r_aload 47 104 5 rfl rfl rfl ?_
  refine r_callF lkF_X1_175_J29 (C := RJ29) (TT := TJ29) (NN := 6) rfl o1 48 109 rfl rfl (by decide) [] rfl rfl (Nat.le_of_ble_eq_true rfl) (Nat.le_of_ble_eq_true rfl) (e_J29_getKey hS (p6 := p11) (p5 := p10) (p4 := p9) (o1 := o1) (k2 := ?_)) (fun _ _ h => h)
  show Rn G mX1_depths 109 [(5, .int x6), (0, .ref a1), (1, .ref a2), (2, .int x3), (3, .ref a4), (4, .ref a5)] [.ref a7, .ref a2] w _
  refine r_castS (C := RJ20) (TT := TJ20) (NN := 1) rfl q1411 49 112 rfl rfl o2 ?_
  refine r_callV lkV_X1_123_J20 (C := RJ20) (TT := TJ20) (NN := 1) rfl o2 50 115 rfl rfl (by decide) [] rfl rfl (Nat.le_of_ble_eq_true rfl) (Nat.le_of_ble_eq_true rfl) (e_J20_intValue hS (o1 := o2) (k2 := ?_)) (fun _ _ h => h)
  show Rn G mX1_depths 115 [(5, .int x6), (0, .ref a1), (1, .ref a2), (2, .int x3), (3, .ref a4), (4, .ref a5)] [.int x13, .ref a2] w _
  refine x_eq q3 ?_
  refine r_iload 51 117 0 rfl rfl rfl ?_
  refine y_iast (i := m14) 52 118 rfl rfl o4 b5 bd6 ?_
  show Rn G mX1_depths 118 [(5, .int x6), (0, .ref a1), (1, .ref a2), (2, .int x3), (3, .ref a4), (4, .ref a5)] [] (wset w a2 (arI .int n15 (upF g16 m14 x6))) _
  refine r_iload_n 53 119 3 rfl rfl rfl ?_
  refine r_iload 54 121 0 rfl rfl rfl ?_
  refine r_iconst 55 122 rfl rfl di_m1 ?_
  refine r_icmp_eq 56 125 129 rfl rfl rfl (fun c1 => ?_) (fun c1 => ?_)
  · refine r_iconst 59 130 rfl rfl di_0 ?_
    refine r_ior 60 131 rfl rfl ?_
    refine x_eq (show ((x3 ||| (0 : Int32)) : Int32) = x3 by simp) ?_
    refine r_istore_n (lv' := [(2, .int x3), (5, .int x6), (0, .ref a1), (1, .ref a2), (3, .ref a4), (4, .ref a5)]) 61 132 rfl rfl (Nat.le_of_ble_eq_true rfl) rfl ?_
    refine r_goto 62 46 rfl rfl ?_
    exact r_sub [2, 3, 0, 4] rfl (k7 c1)
  · refine r_iconst 57 126 rfl rfl di_1 ?_
    refine r_goto 58 130 rfl rfl ?_
    refine r_ior 60 131 rfl rfl ?_
    refine r_istore_n (lv' := [(2, .int (x3 ||| (1 : Int32))), (5, .int x6), (0, .ref a1), (1, .ref a2), (3, .ref a4), (4, .ref a5)]) 61 132 rfl rfl (Nat.le_of_ble_eq_true rfl) rfl ?_
    refine r_goto 62 46 rfl rfl ?_
    exact r_sub [2, 3, 0, 4] rfl (k8 c1)
theorem e_X1_over {G : Gm} {κ : Nat → Nat} {φ : Nat → Option Nat} (hS : GS G κ φ) {w : Wd} {Q : Rs → Wd → Prop} {a1 : Nat} {a2 : Nat} {m3 : Nat} {a4 : Nat} {a5 : Nat} {x6 : Int32} {a7 : Nat} {m8 : Nat} (o1 : Lk G w a1 (.inl (nX7, [.int (nI m3), .ref a4, .ref a5]))) (o2 : Lk G w a5 (.inl (nJ6, [.int x6, .ref a7, .int (nI m8)]))) {Q3 : Rs → Wd → Prop} (e3 : Ev G mJ6_iterator [.ref a5] w Q3) (k3 : ∀ r w', Q3 r w' → Af G mX1_over 6 9 [(1, .ref a2), (2, .int 0)] [] r w' Q) : Ev G mX1_over [.ref a1, .ref a2] w Q := by
  show Rn G mX1_over 0 [(0, .ref a1), (1, .ref a2)] [] w Q
  refine r_iconst 0 1 rfl rfl di_0 ?_
  refine r_istore_n (lv' := [(2, .int 0), (0, .ref a1), (1, .ref a2)]) 1 2 rfl rfl (Nat.le_of_ble_eq_true rfl) rfl ?_
  refine r_aload_n 2 3 1 rfl rfl rfl ?_
  refine r_get (v := .ref a5) fl_X1_155_X7 3 6 rfl rfl o1 rfl ?_
  exact r_callV lkV_X1_106_J6 (C := RJ6) (TT := TJ6) (NN := 3) rfl o2 4 9 rfl rfl (by decide) [] rfl rfl (Nat.le_of_ble_eq_true rfl) (Nat.le_of_ble_eq_true rfl) e3 (fun r w' h => Af.sub [2, 0] rfl (k3 r w' h))
theorem e_X1_over_9 {G : Gm} {κ : Nat → Nat} {φ : Nat → Option Nat} (hS : GS G κ φ) {w : Wd} {Q : Rs → Wd → Prop} {a1 : Nat} {x2 : Int32} {a3 : Nat} (k1 : Rn G mX1_over 10 [(1, .ref a1), (2, .int x2), (3, .ref a3)] [] w Q) : Rn G mX1_over 9 [(1, .ref a1), (2, .int x2)] [.ref a3] w Q := by
  refine r_astore_n (lv' := [(3, .ref a3), (1, .ref a1), (2, .int x2)]) 5 10 rfl rfl (Nat.le_of_ble_eq_true rfl) rfl ?_
  exact r_sub [1, 2, 0] rfl k1
theorem e_X1_over_10 {G : Gm} {κ : Nat → Nat} {φ : Nat → Option Nat} (hS : GS G κ φ) {w : Wd} {Q : Rs → Wd → Prop} {a1 : Nat} {x2 : Int32} {a3 : Nat} {m4 : Nat} {x5 : Int32} {x6 : Int32} {a7 : Nat} (o1 : Lk G w a3 (.inl (nJ22, [.int (nI m4), .int x5, .int x6, .ref a7]))) {Q2 : Rs → Wd → Prop} (e2 : Ev G mJ22_hasNext [.ref a3] w Q2) (k2 : ∀ r w', Q2 r w' → Af G mX1_over 11 16 [(1, .ref a1), (2, .int x2), (3, .ref a3)] [] r w' Q) : Rn G mX1_over 10 [(1, .ref a1), (2, .int x2), (3, .ref a3)] [] w Q := by
  refine r_aload_n 6 11 2 rfl rfl rfl ?_
  exact r_callF lkF_X1_110_J22 (C := RJ22) (TT := TJ22) (NN := 4) rfl o1 7 16 rfl rfl (by decide) [] rfl rfl (Nat.le_of_ble_eq_true rfl) (Nat.le_of_ble_eq_true rfl) e2 (fun r w' h => Af.sub [0, 1, 2] rfl (k2 r w' h))
theorem e_X1_over_16 {G : Gm} {κ : Nat → Nat} {φ : Nat → Option Nat} (hS : GS G κ φ) {w : Wd} {Q : Rs → Wd → Prop} {a1 : Nat} {x2 : Int32} {a3 : Nat} {x4 : Int32} {m5 : Nat} {x6 : Int32} {x7 : Int32} {a8 : Nat} (k1 : x4 = 0 → Q (.inl (some (.int x2))) w) (o2 : Lk G w a3 (.inl (nJ22, [.int (nI m5), .int x6, .int x7, .ref a8]))) {Q3 : Rs → Wd → Prop} (e3 : ¬ x4 = 0 → Ev G mJ22_next [.ref a3] w Q3) (k3 : ¬ x4 = 0 → ∀ r w', Q3 r w' → Af G mX1_over 20 25 [(1, .ref a1), (2, .int x2), (3, .ref a3)] [] r w' Q) : Rn G mX1_over 16 [(1, .ref a1), (2, .int x2), (3, .ref a3)] [.int x4] w Q := by
  refine r_if_eq 8 19 94 rfl rfl rfl (fun c1 => ?_) (fun c1 => ?_)
  · refine r_iload_n 47 95 1 rfl rfl rfl ?_
    exact r_iret 48 rfl rfl rfl (k1 c1)
  · refine r_aload_n 9 20 2 rfl rfl rfl ?_
    exact r_callF lkF_X1_115_J22 (C := RJ22) (TT := TJ22) (NN := 4) rfl o2 10 25 rfl rfl (by decide) [] rfl rfl (Nat.le_of_ble_eq_true rfl) (Nat.le_of_ble_eq_true rfl) (e3 c1) (fun r w' h => Af.sub [0, 1, 2] rfl ((k3 c1) r w' h))
theorem e_X1_over_25 {G : Gm} {κ : Nat → Nat} {φ : Nat → Option Nat} (hS : GS G κ φ) {w : Wd} {Q : Rs → Wd → Prop} {a1 : Nat} {x2 : Int32} {a3 : Nat} {a4 : Nat} {a5 : Nat} {a6 : Nat} {a7 : Nat} (o1 : Lk G w a4 (.inl (nX8, [.ref a5, .ref a6, .ref a7]))) (k2 : Rn G mX1_over 33 [(1, .ref a1), (2, .int x2), (3, .ref a3), (4, .ref a4), (5, .int 0)] [] w Q) : Rn G mX1_over 25 [(1, .ref a1), (2, .int x2), (3, .ref a3)] [.ref a4] w Q := by
  refine r_castS (C := RX8) (TT := TX8) (NN := 3) rfl q1690 11 28 rfl rfl o1 ?_
  refine r_astore (lv' := [(4, .ref a4), (1, .ref a1), (2, .int x2), (3, .ref a3)]) 12 30 rfl rfl (Nat.le_of_ble_eq_true rfl) rfl ?_
  refine r_iconst 13 31 rfl rfl di_0 ?_
  refine r_istore (lv' := [(5, .int 0), (4, .ref a4), (1, .ref a1), (2, .int x2), (3, .ref a3)]) 14 33 rfl rfl (Nat.le_of_ble_eq_true rfl) rfl ?_
  exact r_sub [2, 3, 4, 1, 0] rfl k2
theorem e_X1_over_33 {G : Gm} {κ : Nat → Nat} {φ : Nat → Option Nat} (hS : GS G κ φ) {w : Wd} {Q : Rs → Wd → Prop} {a1 : Nat} {x2 : Int32} {a3 : Nat} {a4 : Nat} {m5 : Nat} {a6 : Nat} {a7 : Nat} {a8 : Nat} {n9 : Nat} {g10 : Nat → Int32} {m11 : Nat} {n12 : Nat} {g13 : Nat → Int32} {m14 : Nat} {m15 : Nat} {m16 : Nat} (o1 : Lk G w a4 (.inl (nX8, [.ref a6, .ref a7, .ref a8]))) (o2 : Lk G w a8 (arI .int n9 g10)) (bd3 : m5 < 2 ^ 31) (bd4 : n9 < 2 ^ 31) (k5 : a6 = (κ 12) → n9 ≤ m5 → Rn G mX1_over 10 [(1, .ref a1), (2, .int x2), (3, .ref a3)] [] w Q) (b6 : a6 = (κ 12) → ¬ n9 ≤ m5 → m5 < n9) (q7 : a6 = (κ 12) → ¬ n9 ≤ m5 → (g10 m5) = nI m11) (o8 : Lk G w a1 (arI .int n12 g13)) (b9 : a6 = (κ 12) → ¬ n9 ≤ m5 → m11 < n12) (bd10 : n12 < 2 ^ 31) (q11 : a6 = (κ 12) → ¬ n9 ≤ m5 → ¬ (g13 m11) = (-1) → (g10 m5) = nI m14) (b12 : a6 = (κ 12) → ¬ n9 ≤ m5 → ¬ (g13 m11) = (-1) → m14 < n12) {Q13 : Rs → Wd → Prop} (e13 : a6 = (κ 12) → ¬ n9 ≤ m5 → ¬ (g13 m11) = (-1) → Ev G mJ15_max [.int x2, .int ((g13 m14) + (1 : Int32))] w Q13) (k13 : a6 = (κ 12) → ¬ n9 ≤ m5 → ¬ (g13 m11) = (-1) → ∀ r w', Q13 r w' → Af G mX1_over 81 84 [(1, .ref a1), (3, .ref a3), (4, .ref a4), (5, .int (nI m5))] [] r w' Q) (k14 : a6 = (κ 12) → ¬ n9 ≤ m5 → (g13 m11) = (-1) → Q (.inl (some (.int (-1)))) w) (k15 : ¬ a6 = (κ 12) → ¬ a6 = (κ 14) → Rn G mX1_over 10 [(1, .ref a1), (2, .int x2), (3, .ref a3)] [] w Q) (k16 : ¬ a6 = (κ 12) → a6 = (κ 14) → n9 ≤ m5 → Rn G mX1_over 10 [(1, .ref a1), (2, .int x2), (3, .ref a3)] [] w Q) (b17 : ¬ a6 = (κ 12) → a6 = (κ 14) → ¬ n9 ≤ m5 → m5 < n9) (q18 : ¬ a6 = (κ 12) → a6 = (κ 14) → ¬ n9 ≤ m5 → (g10 m5) = nI m15) (b19 : ¬ a6 = (κ 12) → a6 = (κ 14) → ¬ n9 ≤ m5 → m15 < n12) (q20 : ¬ a6 = (κ 12) → a6 = (κ 14) → ¬ n9 ≤ m5 → ¬ (g13 m15) = (-1) → (g10 m5) = nI m16) (b21 : ¬ a6 = (κ 12) → a6 = (κ 14) → ¬ n9 ≤ m5 → ¬ (g13 m15) = (-1) → m16 < n12) {Q22 : Rs → Wd → Prop} (e22 : ¬ a6 = (κ 12) → a6 = (κ 14) → ¬ n9 ≤ m5 → ¬ (g13 m15) = (-1) → Ev G mJ15_max [.int x2, .int ((g13 m16) + (1 : Int32))] w Q22) (k22 : ¬ a6 = (κ 12) → a6 = (κ 14) → ¬ n9 ≤ m5 → ¬ (g13 m15) = (-1) → ∀ r w', Q22 r w' → Af G mX1_over 81 84 [(1, .ref a1), (3, .ref a3), (4, .ref a4), (5, .int (nI m5))] [] r w' Q) (k23 : ¬ a6 = (κ 12) → a6 = (κ 14) → ¬ n9 ≤ m5 → (g13 m15) = (-1) → Q (.inl (some (.int (-1)))) w) : Rn G mX1_over 33 [(1, .ref a1), (2, .int x2), (3, .ref a3), (4, .ref a4), (5, .int (nI m5))] [] w Q := by
  refine r_aload 15 35 3 rfl rfl rfl ?_
  refine r_callV lkV_X1_190_X8 (C := RX8) (TT := TX8) (NN := 3) rfl o1 16 38 rfl rfl (by decide) [] rfl rfl (Nat.le_of_ble_eq_true rfl) (Nat.le_of_ble_eq_true rfl) (e_X8_refers hS (o1 := o1) (k2 := fun z0_0 => ?_) (k3 := fun z0_0 => fun z0_1 => ?_) (k4 := fun z0_0 => fun z0_1 => ?_)) (fun _ _ h => h)
  · show Rn G mX1_over 38 [(1, .ref a1), (2, .int x2), (3, .ref a3), (4, .ref a4), (5, .int (nI m5))] [.int 1] w _
    refine r_if_eq 17 41 91 rfl rfl rfl (fun c => absurd c (by decide)) (fun _ => ?_)
    refine r_iload 18 43 4 rfl rfl rfl ?_
    refine r_aload 19 45 3 rfl rfl rfl ?_
    refine r_getN (i := 2) (host := "ExchangeText") (T := TX8) (C := RX8) (NN := 3) rfl (by decide) q1255 20 48 rfl rfl o1 rfl ?_
    refine r_alen 21 49 rfl rfl o2 ?_
    refine y_icmp_ge (a := m5) (b := n9) bd3 bd4 22 52 91 rfl rfl rfl (fun c2 => ?_) (fun c2 => ?_)
    · refine r_goto 46 10 rfl rfl ?_
      exact r_sub [0, 1, 2] rfl (k5 z0_0 c2)
    · refine r_aload_n 23 53 0 rfl rfl rfl ?_
      refine r_aload 24 55 3 rfl rfl rfl ?_
      refine r_getN (i := 2) (host := "ExchangeText") (T := TX8) (C := RX8) (NN := 3) rfl (by decide) q1255 25 58 rfl rfl o1 rfl ?_
      refine r_iload 26 60 4 rfl rfl rfl ?_
      refine y_iald (i := m5) 27 61 rfl rfl o2 (b6 z0_0 c2) (by omega) ?_
      refine x_eq (q7 z0_0 c2) ?_
      refine y_iald (i := m11) 28 62 rfl rfl o8 (b9 z0_0 c2) bd10 ?_
      refine r_iconst 29 63 rfl rfl di_m1 ?_
      refine r_icmp_ne 30 66 68 rfl rfl rfl (fun c3 => ?_) (fun c3 => ?_)
      · refine r_iload_n 33 69 1 rfl rfl rfl ?_
        refine r_aload_n 34 70 0 rfl rfl rfl ?_
        refine r_aload 35 72 3 rfl rfl rfl ?_
        refine r_getN (i := 2) (host := "ExchangeText") (T := TX8) (C := RX8) (NN := 3) rfl (by decide) q1255 36 75 rfl rfl o1 rfl ?_
        refine r_iload 37 77 4 rfl rfl rfl ?_
        refine y_iald (i := m5) 38 78 rfl rfl o2 (b6 z0_0 c2) (by omega) ?_
        refine x_eq (q11 z0_0 c2 c3) ?_
        refine y_iald (i := m14) 39 79 rfl rfl o8 (b12 z0_0 c2 c3) (by omega) ?_
        refine r_iconst 40 80 rfl rfl di_1 ?_
        refine r_iadd 41 81 rfl rfl ?_
        exact r_callS lkS_X1_197 42 84 rfl rfl (by decide) [.int x2, .int ((g13 m14) + (1 : Int32))] rfl rfl (Nat.le_of_ble_eq_true rfl) (Nat.le_of_ble_eq_true rfl) (e13 z0_0 c2 c3) (fun r w' h => Af.sub [0, 2, 3, 4] rfl ((k13 z0_0 c2 c3) r w' h))
      · refine r_iconst 31 67 rfl rfl di_m1 ?_
        exact r_iret 32 rfl rfl rfl (k14 z0_0 c2 c3)
  · show Rn G mX1_over 38 [(1, .ref a1), (2, .int x2), (3, .ref a3), (4, .ref a4), (5, .int (nI m5))] [.int 0] w _
    refine r_if_eq 17 41 91 rfl rfl rfl (fun _ => ?_) (fun c => absurd c (by decide))
    refine r_goto 46 10 rfl rfl ?_
    exact r_sub [0, 1, 2] rfl (k15 z0_0 z0_1)
  · show Rn G mX1_over 38 [(1, .ref a1), (2, .int x2), (3, .ref a3), (4, .ref a4), (5, .int (nI m5))] [.int 1] w _
    refine r_if_eq 17 41 91 rfl rfl rfl (fun c => absurd c (by decide)) (fun _ => ?_)
    refine r_iload 18 43 4 rfl rfl rfl ?_
    refine r_aload 19 45 3 rfl rfl rfl ?_
    refine r_getN (i := 2) (host := "ExchangeText") (T := TX8) (C := RX8) (NN := 3) rfl (by decide) q1255 20 48 rfl rfl o1 rfl ?_
    refine r_alen 21 49 rfl rfl o2 ?_
    refine y_icmp_ge (a := m5) (b := n9) (by omega) (by omega) 22 52 91 rfl rfl rfl (fun c3 => ?_) (fun c3 => ?_)
    · refine r_goto 46 10 rfl rfl ?_
      exact r_sub [0, 1, 2] rfl (k16 z0_0 z0_1 c3)
    · refine r_aload_n 23 53 0 rfl rfl rfl ?_
      refine r_aload 24 55 3 rfl rfl rfl ?_
      refine r_getN (i := 2) (host := "ExchangeText") (T := TX8) (C := RX8) (NN := 3) rfl (by decide) q1255 25 58 rfl rfl o1 rfl ?_
      refine r_iload 26 60 4 rfl rfl rfl ?_
      refine y_iald (i := m5) 27 61 rfl rfl o2 (b17 z0_0 z0_1 c3) (by omega) ?_
      refine x_eq (q18 z0_0 z0_1 c3) ?_
      refine y_iald (i := m15) 28 62 rfl rfl o8 (b19 z0_0 z0_1 c3) (by omega) ?_
      refine r_iconst 29 63 rfl rfl di_m1 ?_
      refine r_icmp_ne 30 66 68 rfl rfl rfl (fun c4 => ?_) (fun c4 => ?_)
      · refine r_iload_n 33 69 1 rfl rfl rfl ?_
        refine r_aload_n 34 70 0 rfl rfl rfl ?_
        refine r_aload 35 72 3 rfl rfl rfl ?_
        refine r_getN (i := 2) (host := "ExchangeText") (T := TX8) (C := RX8) (NN := 3) rfl (by decide) q1255 36 75 rfl rfl o1 rfl ?_
        refine r_iload 37 77 4 rfl rfl rfl ?_
        refine y_iald (i := m5) 38 78 rfl rfl o2 (b17 z0_0 z0_1 c3) (by omega) ?_
        refine x_eq (q20 z0_0 z0_1 c3 c4) ?_
        refine y_iald (i := m16) 39 79 rfl rfl o8 (b21 z0_0 z0_1 c3 c4) (by omega) ?_
        refine r_iconst 40 80 rfl rfl di_1 ?_
        refine r_iadd 41 81 rfl rfl ?_
        exact r_callS lkS_X1_197 42 84 rfl rfl (by decide) [.int x2, .int ((g13 m16) + (1 : Int32))] rfl rfl (Nat.le_of_ble_eq_true rfl) (Nat.le_of_ble_eq_true rfl) (e22 z0_0 z0_1 c3 c4) (fun r w' h => Af.sub [0, 2, 3, 4] rfl ((k22 z0_0 z0_1 c3 c4) r w' h))
      · refine r_iconst 31 67 rfl rfl di_m1 ?_
        exact r_iret 32 rfl rfl rfl (k23 z0_0 z0_1 c3 c4)
theorem e_X1_over_84 {G : Gm} {κ : Nat → Nat} {φ : Nat → Option Nat} (hS : GS G κ φ) {w : Wd} {Q : Rs → Wd → Prop} {a1 : Nat} {a2 : Nat} {a3 : Nat} {m4 : Nat} {x5 : Int32} (k1 : Rn G mX1_over 33 [(1, .ref a1), (2, .int x5), (3, .ref a2), (4, .ref a3), (5, .int (nI (m4 + 1)))] [] w Q) : Rn G mX1_over 84 [(1, .ref a1), (3, .ref a2), (4, .ref a3), (5, .int (nI m4))] [.int x5] w Q := by
  refine r_istore_n (lv' := [(2, .int x5), (1, .ref a1), (3, .ref a2), (4, .ref a3), (5, .int (nI m4))]) 43 85 rfl rfl (Nat.le_of_ble_eq_true rfl) rfl ?_
  refine r_iinc (v := (nI (m4 + 1))) (lv' := [(5, .int (nI (m4 + 1))), (2, .int x5), (1, .ref a1), (3, .ref a2), (4, .ref a3)]) 44 88 4 rfl rfl rfl (by rw [di_1]; exact nI_add _ _) (Nat.le_of_ble_eq_true rfl) rfl ?_
  refine r_goto 45 33 rfl rfl ?_
  exact r_sub [2, 1, 3, 4, 0] rfl k1
theorem e_X1_told {G : Gm} {κ : Nat → Nat} {φ : Nat → Option Nat} (hS : GS G κ φ) {w : Wd} {Q : Rs → Wd → Prop} {a1 : Nat} {x2 : Int32} {x3 : Int32} {a4 : Nat} {a5 : Nat} {a6 : Nat} {a7 : Nat} (o1 : Lk G w a1 (.inl (nX1, [.ref a4, .ref a5, .ref a6, .ref a7]))) {Q2 : Rs → Wd → Prop} (e2 : Ev G mX1_lineOf [.ref a1, .int x2] w Q2) (k2 : ∀ r w', Q2 r w' → Af G mX1_told 2 5 [(0, .ref a1), (1, .int x2), (2, .int x3)] [] r w' Q) : Ev G mX1_told [.ref a1, .int x2, .int x3] w Q := by
  show Rn G mX1_told 0 [(0, .ref a1), (1, .int x2), (2, .int x3)] [] w Q
  refine r_aload_n 0 1 0 rfl rfl rfl ?_
  refine r_iload_n 1 2 1 rfl rfl rfl ?_
  exact r_callV lkV_X1_166_X1 (C := RX1) (TT := TX1) (NN := 4) rfl o1 2 5 rfl rfl (by decide) [.int x2] rfl rfl (Nat.le_of_ble_eq_true rfl) (Nat.le_of_ble_eq_true rfl) e2 (fun r w' h => Af.sub [0, 1, 2] rfl (k2 r w' h))
theorem e_X1_told_5 {G : Gm} {κ : Nat → Nat} {φ : Nat → Option Nat} (hS : GS G κ φ) {w : Wd} {Q : Rs → Wd → Prop} {a1 : Nat} {x2 : Int32} {x3 : Int32} {a4 : Nat} {a5 : Nat} {a6 : Nat} {a7 : Nat} {a8 : Nat} {m9 : Nat} {a10 : Nat} {a11 : Nat} {x12 : Int32} {a13 : Nat} {m14 : Nat} (hg : 18 ≤ w.2.2) (k1 : x3 < 0 → Q (.inr w.2.1) (wnew w (.inl (nJ12, [.null])) 6)) (k2 : ¬ x3 < 0 → (3 : Int32) < x3 → Q (.inr w.2.1) (wnew w (.inl (nJ12, [.null])) 6)) (o3 : Lk G w a1 (.inl (nX1, [.ref a5, .ref a6, .ref a7, .ref a8]))) {Q4 : Rs → Wd → Prop} (e4 : ¬ x3 < 0 → ¬ (3 : Int32) < x3 → x3 = 0 → Ev G mX1_kindOf [.ref a1, .ref a4] w Q4) (k4 : ¬ x3 < 0 → ¬ (3 : Int32) < x3 → x3 = 0 → ∀ r w', Q4 r w' → Af G mX1_told 54 57 [] [] r w' Q) (o5 : Lk G w a4 (.inl (nX7, [.int (nI m9), .ref a10, .ref a11]))) (o6 : Lk G w a11 (.inl (nJ6, [.int x12, .ref a13, .int (nI m14)]))) (k7 : ¬ x3 < 0 → ¬ (3 : Int32) < x3 → ¬ x3 = 0 → x3 = 1 → Q (.inl (some (.int (nI m14)))) w) {Q8 : Rs → Wd → Prop} (e8 : ¬ x3 < 0 → ¬ (3 : Int32) < x3 → ¬ x3 = 0 → ¬ x3 = 1 → x3 = 2 → Ev G mX7_references [.ref a4] w Q8) (k8 : ¬ x3 < 0 → ¬ (3 : Int32) < x3 → ¬ x3 = 0 → ¬ x3 = 1 → x3 = 2 → ∀ r w', Q8 r w' → Af G mX1_told 67 70 [] [] r w' Q) {Q9 : Rs → Wd → Prop} (e9 : ¬ x3 < 0 → ¬ (3 : Int32) < x3 → ¬ x3 = 0 → ¬ x3 = 1 → ¬ x3 = 2 → Ev G mX1_depths [.ref a1] w Q9) (k9 : ¬ x3 < 0 → ¬ (3 : Int32) < x3 → ¬ x3 = 0 → ¬ x3 = 1 → ¬ x3 = 2 → ∀ r w', Q9 r w' → Af G mX1_told 75 78 [(1, .int x2)] [] r w' Q) : Rn G mX1_told 5 [(0, .ref a1), (1, .int x2), (2, .int x3)] [.ref a4] w Q := by
  refine r_astore_n (lv' := [(3, .ref a4), (0, .ref a1), (1, .int x2), (2, .int x3)]) 3 6 rfl rfl (Nat.le_of_ble_eq_true rfl) rfl ?_
  refine r_iload_n 4 7 3 rfl rfl rfl ?_
  refine r_if_lt 5 10 19 rfl rfl rfl (fun c1 => ?_) (fun c1 => ?_)
  · refine r_iconst 11 20 rfl rfl di_0 ?_
    refine r_callS lkS_X1_38 12 23 rfl rfl (by decide) [.int 0] rfl rfl (Nat.le_of_ble_eq_true rfl) (Nat.le_of_ble_eq_true rfl) (e_X1_need hS (hg := by show 18 ≤ w.2.2; omega) (k1 := fun z0 => absurd z0 (by decide)) (k2 := fun z1_0 => ?_)) (fun _ _ h => h)
    show Th G mX1_told 20 [(3, .ref a4), (0, .ref a1), (1, .int x2), (2, .int x3)] [] w.2.1 (wnew w (.inl (nJ12, [.null])) 6) _
    exact th_out rfl (k1 c1)
  · refine r_iload_n 6 11 3 rfl rfl rfl ?_
    refine r_iconst 7 12 rfl rfl di_3 ?_
    refine r_icmp_gt 8 15 19 rfl rfl rfl (fun c2 => ?_) (fun c2 => ?_)
    · refine r_iconst 11 20 rfl rfl di_0 ?_
      refine r_callS lkS_X1_38 12 23 rfl rfl (by decide) [.int 0] rfl rfl (Nat.le_of_ble_eq_true rfl) (Nat.le_of_ble_eq_true rfl) (e_X1_need hS (hg := by show 18 ≤ w.2.2; omega) (k1 := fun z0 => absurd z0 (by decide)) (k2 := fun z2_0 => ?_)) (fun _ _ h => h)
      show Th G mX1_told 20 [(3, .ref a4), (0, .ref a1), (1, .int x2), (2, .int x3)] [] w.2.1 (wnew w (.inl (nJ12, [.null])) 6) _
      exact th_out rfl (k2 c1 c2)
    · refine r_iconst 9 16 rfl rfl di_1 ?_
      refine r_goto 10 20 rfl rfl ?_
      refine r_callS lkS_X1_38 12 23 rfl rfl (by decide) [.int 1] rfl rfl (Nat.le_of_ble_eq_true rfl) (Nat.le_of_ble_eq_true rfl) (e_X1_need hS (hg := by show 18 ≤ w.2.2; omega) (k2 := fun z0 => absurd z0 (by decide)) (k1 := fun z2_0 => ?_)) (fun _ _ h => h)
      show Rn G mX1_told 23 [(3, .ref a4), (0, .ref a1), (1, .int x2), (2, .int x3)] [] w _
      refine r_iload_n 13 24 3 rfl rfl rfl ?_
      by_cases c3 : x3 = 0
      · refine r_tabIn (off := 28) 14 52 rfl (by rw [c3]; decide) (by rw [c3]; decide) (by rw [c3]; decide) rfl ?_
        refine r_aload_n 15 53 1 rfl rfl rfl ?_
        refine r_aload_n 16 54 0 rfl rfl rfl ?_
        exact r_callV lkV_X1_203_X1 (C := RX1) (TT := TX1) (NN := 4) rfl o3 17 57 rfl rfl (by decide) [.ref a4] rfl rfl (Nat.le_of_ble_eq_true rfl) (Nat.le_of_ble_eq_true rfl) (e4 c1 c2 c3) (fun r w' h => Af.sub [] rfl ((k4 c1 c2 c3) r w' h))
      by_cases c4 : x3 = 1
      · refine r_tabIn (off := 34) 14 58 rfl (by rw [c4]; decide) (by rw [c4]; decide) (by rw [c4]; decide) rfl ?_
        refine r_aload_n 19 59 0 rfl rfl rfl ?_
        refine r_get (v := .ref a11) fl_X1_155_X7 20 62 rfl rfl o5 rfl ?_
        refine r_callV lkV_X1_84_J6 (C := RJ6) (TT := TJ6) (NN := 3) rfl o6 21 65 rfl rfl (by decide) [] rfl rfl (Nat.le_of_ble_eq_true rfl) (Nat.le_of_ble_eq_true rfl) (e_J6_size hS (m4 := m14) (o1 := o6) (k2 := ?_)) (fun _ _ h => h)
        show Rn G mX1_told 65 [(3, .ref a4), (0, .ref a1), (1, .int x2), (2, .int x3)] [.int (nI m14)] w _
        exact r_iret 22 rfl rfl rfl (k7 c1 c2 c3 c4)
      by_cases c5 : x3 = 2
      · refine r_tabIn (off := 42) 14 66 rfl (by rw [c5]; decide) (by rw [c5]; decide) (by rw [c5]; decide) rfl ?_
        refine r_aload_n 23 67 0 rfl rfl rfl ?_
        exact r_callV lkV_X1_119_X7 (C := RX7) (TT := TX7) (NN := 3) rfl o5 24 70 rfl rfl (by decide) [] rfl rfl (Nat.le_of_ble_eq_true rfl) (Nat.le_of_ble_eq_true rfl) (e8 c1 c2 c3 c4 c5) (fun r w' h => Af.sub [] rfl ((k8 c1 c2 c3 c4 c5) r w' h))
      refine sw_X1_told_24 c3 c4 c5 ?_
      refine r_aload_n 27 75 1 rfl rfl rfl ?_
      exact r_callV lkV_X1_207_X1 (C := RX1) (TT := TX1) (NN := 4) rfl o3 28 78 rfl rfl (by decide) [] rfl rfl (Nat.le_of_ble_eq_true rfl) (Nat.le_of_ble_eq_true rfl) (e9 c1 c2 c3 c4 c5) (fun r w' h => Af.sub [2] rfl ((k9 c1 c2 c3 c4 c5) r w' h))
theorem e_X1_told_57 {G : Gm} {κ : Nat → Nat} {φ : Nat → Option Nat} (hS : GS G κ φ) {w : Wd} {Q : Rs → Wd → Prop} {x1 : Int32} (k1 : Q (.inl (some (.int x1))) w) : Rn G mX1_told 57 [] [.int x1] w Q := by
  exact r_iret 18 rfl rfl rfl k1
theorem e_X1_told_70 {G : Gm} {κ : Nat → Nat} {φ : Nat → Option Nat} (hS : GS G κ φ) {w : Wd} {Q : Rs → Wd → Prop} {a1 : Nat} {x2 : Int32} {a3 : Nat} {m4 : Nat} (o1 : Lk G w a1 (.inl (nJ6, [.int x2, .ref a3, .int (nI m4)]))) (k2 : Q (.inl (some (.int (nI m4)))) w) : Rn G mX1_told 70 [] [.ref a1] w Q := by
  refine r_callV lkV_X1_84_J6 (C := RJ6) (TT := TJ6) (NN := 3) rfl o1 25 73 rfl rfl (by decide) [] rfl rfl (Nat.le_of_ble_eq_true rfl) (Nat.le_of_ble_eq_true rfl) (e_J6_size hS (m4 := m4) (o1 := o1) (k2 := ?_)) (fun _ _ h => h)
  show Rn G mX1_told 73 [] [.int (nI m4)] w _
  exact r_iret 26 rfl rfl rfl k2
theorem e_X1_told_78 {G : Gm} {κ : Nat → Nat} {φ : Nat → Option Nat} (hS : GS G κ φ) {w : Wd} {Q : Rs → Wd → Prop} {x1 : Int32} {a2 : Nat} {m3 : Nat} {n4 : Nat} {g5 : Nat → Int32} (q1 : x1 = nI m3) (o2 : Lk G w a2 (arI .int n4 g5)) (b3 : m3 < n4) (bd4 : n4 < 2 ^ 31) (k5 : Q (.inl (some (.int (g5 m3)))) w) : Rn G mX1_told 78 [(1, .int x1)] [.ref a2] w Q := by
  refine r_iload_n 29 79 0 rfl rfl rfl ?_
  refine x_eq q1 ?_
  refine y_iald (i := m3) 30 80 rfl rfl o2 b3 bd4 ?_
  exact r_iret 31 rfl rfl rfl k5
theorem e_X1_argument {G : Gm} {κ : Nat → Nat} {φ : Nat → Option Nat} (hS : GS G κ φ) {w : Wd} {Q : Rs → Wd → Prop} {a1 : Nat} {x2 : Int32} {x3 : Int32} {x4 : Int32} {a5 : Nat} {a6 : Nat} {a7 : Nat} {a8 : Nat} (o1 : Lk G w a1 (.inl (nX1, [.ref a5, .ref a6, .ref a7, .ref a8]))) {Q2 : Rs → Wd → Prop} (e2 : Ev G mX1_argumentOf [.ref a1, .int x2, .int x3] w Q2) (k2 : ∀ r w', Q2 r w' → Af G mX1_argument 3 6 [(3, .int x4)] [] r w' Q) : Ev G mX1_argument [.ref a1, .int x2, .int x3, .int x4] w Q := by
  show Rn G mX1_argument 0 [(0, .ref a1), (1, .int x2), (2, .int x3), (3, .int x4)] [] w Q
  refine r_aload_n 0 1 0 rfl rfl rfl ?_
  refine r_iload_n 1 2 1 rfl rfl rfl ?_
  refine r_iload_n 2 3 2 rfl rfl rfl ?_
  exact r_callV lkV_X1_211_X1 (C := RX1) (TT := TX1) (NN := 4) rfl o1 3 6 rfl rfl (by decide) [.int x2, .int x3] rfl rfl (Nat.le_of_ble_eq_true rfl) (Nat.le_of_ble_eq_true rfl) e2 (fun r w' h => Af.sub [3] rfl (k2 r w' h))
theorem e_X1_argument_6 {G : Gm} {κ : Nat → Nat} {φ : Nat → Option Nat} (hS : GS G κ φ) {w : Wd} {Q : Rs → Wd → Prop} {x1 : Int32} {a2 : Nat} {a3 : Nat} {a4 : Nat} {a5 : Nat} {m6 : Nat} {n7 : Nat} {g8 : Nat → Int32} {a9 : Nat} {x10 : Int32} {x11 : Int32} {n12 : Nat} {g13 : Nat → Nat} (hg : 18 ≤ w.2.2) (o1 : Lk G w a2 (.inl (nX8, [.ref a3, .ref a4, .ref a5]))) (o2 : Lk G w a3 (.inl (nX6, [.int (nI m6)]))) (k3 : x1 = 0 → Q (.inl (some (.int (nI m6)))) w) (k4 : ¬ x1 = 0 → ¬ x1 = 1 → Q (.inr w.2.1) (wnew w (.inl (nJ12, [.null])) 6)) (o5 : Lk G w a5 (arI .int n7 g8)) (b6 : ¬ x1 = 0 → x1 = 1 → a3 = (κ 10) → 0 < n7) (bd7 : n7 < 2 ^ 31) (k8 : ¬ x1 = 0 → x1 = 1 → a3 = (κ 10) → Q (.inl (some (.int (g8 0)))) w) (o9 : Lk G w a4 (.inl (nJ2, [.ref a9, .int 0, .int x10, .int x11]))) (o10 : Lk G w a9 (arB n12 g13)) (k11 : ¬ x1 = 0 → x1 = 1 → ¬ a3 = (κ 10) → ¬ a3 = (κ 12) → a3 = (κ 11) → Q (.inl (some (.int (nI n12)))) w) (k12 : ¬ x1 = 0 → x1 = 1 → ¬ a3 = (κ 10) → ¬ a3 = (κ 12) → ¬ a3 = (κ 11) → ¬ a3 = (κ 15) → Q (.inl (some (.int (nI n7)))) w) (k13 : ¬ x1 = 0 → x1 = 1 → ¬ a3 = (κ 10) → ¬ a3 = (κ 12) → ¬ a3 = (κ 11) → a3 = (κ 15) → Q (.inl (some (.int (nI n12)))) w) (b14 : ¬ x1 = 0 → x1 = 1 → ¬ a3 = (κ 10) → a3 = (κ 12) → 0 < n7) (k15 : ¬ x1 = 0 → x1 = 1 → ¬ a3 = (κ 10) → a3 = (κ 12) → Q (.inl (some (.int (g8 0)))) w) : Rn G mX1_argument 6 [(3, .int x1)] [.ref a2] w Q := by
  refine r_astore (lv' := [(4, .ref a2), (3, .int x1)]) 4 8 rfl rfl (Nat.le_of_ble_eq_true rfl) rfl ?_
  refine r_iload_n 5 9 1 rfl rfl rfl ?_
  refine r_if_eq 6 12 17 rfl rfl rfl (fun c1 => ?_) (fun c1 => ?_)
  · refine r_iconst 10 18 rfl rfl di_1 ?_
    refine r_goto 11 22 rfl rfl ?_
    refine r_callS lkS_X1_38 13 25 rfl rfl (by decide) [.int 1] rfl rfl (Nat.le_of_ble_eq_true rfl) (Nat.le_of_ble_eq_true rfl) (e_X1_need hS (hg := by show 18 ≤ w.2.2; omega) (k2 := fun z0 => absurd z0 (by decide)) (k1 := fun z1_0 => ?_)) (fun _ _ h => h)
    show Rn G mX1_argument 25 [(4, .ref a2), (3, .int x1)] [] w _
    refine r_iload_n 14 26 1 rfl rfl rfl ?_
    refine r_if_ne 15 29 38 rfl rfl rfl (fun c => absurd c1 c) (fun _ => ?_)
    refine r_aload 16 31 0 rfl rfl rfl ?_
    refine r_getN (i := 0) (host := "ExchangeText") (T := TX8) (C := RX8) (NN := 3) rfl (by decide) q1250 17 34 rfl rfl o1 rfl ?_
    refine r_callU lkU_X1_219_X6 (C := RX6) (TT := TX6) (NN := 1) rfl o2 18 37 rfl rfl (by decide) [] rfl rfl (Nat.le_of_ble_eq_true rfl) (Nat.le_of_ble_eq_true rfl) (e_J24_ordinal hS (m2 := m6) (o1 := o2) (k2 := ?_)) (fun _ _ h => h)
    show Rn G mX1_argument 37 [(4, .ref a2), (3, .int x1)] [.int (nI m6)] w _
    exact r_iret 19 rfl rfl rfl (k3 c1)
  · refine r_iload_n 7 13 1 rfl rfl rfl ?_
    refine r_iconst 8 14 rfl rfl di_1 ?_
    refine r_icmp_ne 9 17 21 rfl rfl rfl (fun c2 => ?_) (fun c2 => ?_)
    · refine r_iconst 12 22 rfl rfl di_0 ?_
      refine r_callS lkS_X1_38 13 25 rfl rfl (by decide) [.int 0] rfl rfl (Nat.le_of_ble_eq_true rfl) (Nat.le_of_ble_eq_true rfl) (e_X1_need hS (hg := by show 18 ≤ w.2.2; omega) (k1 := fun z0 => absurd z0 (by decide)) (k2 := fun z2_0 => ?_)) (fun _ _ h => h)
      show Th G mX1_argument 22 [(4, .ref a2), (3, .int x1)] [] w.2.1 (wnew w (.inl (nJ12, [.null])) 6) _
      exact th_out rfl (k4 c1 c2)
    · refine r_iconst 10 18 rfl rfl di_1 ?_
      refine r_goto 11 22 rfl rfl ?_
      refine r_callS lkS_X1_38 13 25 rfl rfl (by decide) [.int 1] rfl rfl (Nat.le_of_ble_eq_true rfl) (Nat.le_of_ble_eq_true rfl) (e_X1_need hS (hg := by show 18 ≤ w.2.2; omega) (k2 := fun z0 => absurd z0 (by decide)) (k1 := fun z2_0 => ?_)) (fun _ _ h => h)
      show Rn G mX1_argument 25 [(4, .ref a2), (3, .int x1)] [] w _
      refine r_iload_n 14 26 1 rfl rfl rfl ?_
      refine r_if_ne 15 29 38 rfl rfl rfl (fun _ => ?_) (fun c => absurd c c1)
      refine r_aload 20 40 0 rfl rfl rfl ?_
      refine r_getN (i := 0) (host := "ExchangeText") (T := TX8) (C := RX8) (NN := 3) rfl (by decide) q1250 21 43 rfl rfl o1 rfl ?_
      refine r_gets (v := .ref (κ 10)) (hS 10).1 q1797 22 46 rfl rfl ?_
      refine r_acmp_eq (rx := (some a3)) (ry := (some (κ 10))) 23 49 60 rfl rfl rfl rfl rfl (fun c3 => ?_) (fun c3 => ?_)
      · refine r_aload 28 62 0 rfl rfl rfl ?_
        refine r_getN (i := 2) (host := "ExchangeText") (T := TX8) (C := RX8) (NN := 3) rfl (by decide) q1255 29 65 rfl rfl o1 rfl ?_
        refine r_iconst 30 66 rfl rfl di_0 ?_
        refine y_iald (i := 0) 31 67 rfl rfl o5 (b6 c1 c2 (Option.some.inj c3)) bd7 ?_
        refine r_goto 32 75 rfl rfl ?_
        exact r_iret 35 rfl rfl rfl (k8 c1 c2 (Option.some.inj c3))
      · refine r_aload 24 51 0 rfl rfl rfl ?_
        refine r_getN (i := 0) (host := "ExchangeText") (T := TX8) (C := RX8) (NN := 3) rfl (by decide) q1250 25 54 rfl rfl o1 rfl ?_
        refine r_gets (v := .ref (κ 12)) (hS 12).1 q1798 26 57 rfl rfl ?_
        refine r_acmp_ne (rx := (some a3)) (ry := (some (κ 12))) 27 60 70 rfl rfl rfl rfl rfl (fun c4 => ?_) (fun c4 => ?_)
        · refine r_aload 33 72 0 rfl rfl rfl ?_
          refine r_callV lkV_X1_230_X8 (C := RX8) (TT := TX8) (NN := 3) rfl o1 34 75 rfl rfl (by decide) [] rfl rfl (Nat.le_of_ble_eq_true rfl) (Nat.le_of_ble_eq_true rfl) (e_X8_size hS (o1 := o1) (o2 := o9) (o3 := o10) (o5 := o5) (k4 := fun z4_0 => ?_) (k6 := fun z4_0 => fun z4_1 => ?_) (k7 := fun z4_0 => fun z4_1 => ?_)) (fun _ _ h => h)
          · show Rn G mX1_argument 75 [(4, .ref a2), (3, .int x1)] [.int (nI n12)] w _
            exact r_iret 35 rfl rfl rfl (k11 c1 c2 (fun h => c3 (congrArg some h)) (fun h => c4 (congrArg some h)) z4_0)
          · show Rn G mX1_argument 75 [(4, .ref a2), (3, .int x1)] [.int (nI n7)] w _
            exact r_iret 35 rfl rfl rfl (k12 c1 c2 (fun h => c3 (congrArg some h)) (fun h => c4 (congrArg some h)) z4_0 z4_1)
          · show Rn G mX1_argument 75 [(4, .ref a2), (3, .int x1)] [.int (nI n12)] w _
            exact r_iret 35 rfl rfl rfl (k13 c1 c2 (fun h => c3 (congrArg some h)) (fun h => c4 (congrArg some h)) z4_0 z4_1)
        · refine r_aload 28 62 0 rfl rfl rfl ?_
          refine r_getN (i := 2) (host := "ExchangeText") (T := TX8) (C := RX8) (NN := 3) rfl (by decide) q1255 29 65 rfl rfl o1 rfl ?_
          refine r_iconst 30 66 rfl rfl di_0 ?_
          refine y_iald (i := 0) 31 67 rfl rfl o5 (b14 c1 c2 (fun h => c3 (congrArg some h)) (Option.some.inj c4)) (by omega) ?_
          refine r_goto 32 75 rfl rfl ?_
          exact r_iret 35 rfl rfl rfl (k15 c1 c2 (fun h => c3 (congrArg some h)) (Option.some.inj c4))
theorem e_X1_item {G : Gm} {κ : Nat → Nat} {φ : Nat → Option Nat} (hS : GS G κ φ) {w : Wd} {Q : Rs → Wd → Prop} {a1 : Nat} {x2 : Int32} {x3 : Int32} {x4 : Int32} {a5 : Nat} {a6 : Nat} {a7 : Nat} {a8 : Nat} (o1 : Lk G w a1 (.inl (nX1, [.ref a5, .ref a6, .ref a7, .ref a8]))) {Q2 : Rs → Wd → Prop} (e2 : Ev G mX1_argumentOf [.ref a1, .int x2, .int x3] w Q2) (k2 : ∀ r w', Q2 r w' → Af G mX1_item 3 6 [(3, .int x4)] [] r w' Q) : Ev G mX1_item [.ref a1, .int x2, .int x3, .int x4] w Q := by
  show Rn G mX1_item 0 [(0, .ref a1), (1, .int x2), (2, .int x3), (3, .int x4)] [] w Q
  refine r_aload_n 0 1 0 rfl rfl rfl ?_
  refine r_iload_n 1 2 1 rfl rfl rfl ?_
  refine r_iload_n 2 3 2 rfl rfl rfl ?_
  exact r_callV lkV_X1_211_X1 (C := RX1) (TT := TX1) (NN := 4) rfl o1 3 6 rfl rfl (by decide) [.int x2, .int x3] rfl rfl (Nat.le_of_ble_eq_true rfl) (Nat.le_of_ble_eq_true rfl) e2 (fun r w' h => Af.sub [3] rfl (k2 r w' h))
theorem e_X1_item_6 {G : Gm} {κ : Nat → Nat} {φ : Nat → Option Nat} (hS : GS G κ φ) {w : Wd} {Q : Rs → Wd → Prop} {x1 : Int32} {a2 : Nat} {a3 : Nat} {a4 : Nat} {a5 : Nat} {a6 : Nat} {x7 : Int32} {x8 : Int32} {n9 : Nat} {g10 : Nat → Nat} {n11 : Nat} {g12 : Nat → Int32} (o1 : Lk G w a2 (.inl (nX8, [.ref a3, .ref a4, .ref a5]))) (hg : 18 ≤ w.2.2) (k2 : a3 = (κ 10) → Q (.inr w.2.1) (wnew w (.inl (nJ12, [.null])) 6)) (k3 : ¬ a3 = (κ 10) → a3 = (κ 12) → Q (.inr w.2.1) (wnew w (.inl (nJ12, [.null])) 6)) (k4 : ¬ a3 = (κ 10) → ¬ a3 = (κ 12) → x1 < 0 → Q (.inr w.2.1) (wnew w (.inl (nJ12, [.null])) 6)) (o5 : Lk G w a4 (.inl (nJ2, [.ref a6, .int 0, .int x7, .int x8]))) (o6 : Lk G w a6 (arB n9 g10)) (o7 : Lk G w a5 (arI .int n11 g12)) (k8 : ¬ a3 = (κ 10) → ¬ a3 = (κ 12) → ¬ x1 < 0 → a3 = (κ 11) → (nI n9) ≤ x1 → Q (.inr w.2.1) (wnew w (.inl (nJ12, [.null])) 6)) (k9 : ¬ a3 = (κ 10) → ¬ a3 = (κ 12) → ¬ x1 < 0 → a3 = (κ 11) → ¬ (nI n9) ≤ x1 → Rn G mX1_item 51 [(3, .int x1), (4, .ref a2)] [] w Q) (k10 : ¬ a3 = (κ 10) → ¬ a3 = (κ 12) → ¬ x1 < 0 → ¬ a3 = (κ 11) → ¬ a3 = (κ 15) → (nI n11) ≤ x1 → Q (.inr w.2.1) (wnew w (.inl (nJ12, [.null])) 6)) (k11 : ¬ a3 = (κ 10) → ¬ a3 = (κ 12) → ¬ x1 < 0 → ¬ a3 = (κ 11) → ¬ a3 = (κ 15) → ¬ (nI n11) ≤ x1 → Rn G mX1_item 51 [(3, .int x1), (4, .ref a2)] [] w Q) (k12 : ¬ a3 = (κ 10) → ¬ a3 = (κ 12) → ¬ x1 < 0 → ¬ a3 = (κ 11) → a3 = (κ 15) → (nI n9) ≤ x1 → Q (.inr w.2.1) (wnew w (.inl (nJ12, [.null])) 6)) (k13 : ¬ a3 = (κ 10) → ¬ a3 = (κ 12) → ¬ x1 < 0 → ¬ a3 = (κ 11) → a3 = (κ 15) → ¬ (nI n9) ≤ x1 → Rn G mX1_item 51 [(3, .int x1), (4, .ref a2)] [] w Q) : Rn G mX1_item 6 [(3, .int x1)] [.ref a2] w Q := by
  refine r_astore (lv' := [(4, .ref a2), (3, .int x1)]) 4 8 rfl rfl (Nat.le_of_ble_eq_true rfl) rfl ?_
  refine r_aload 5 10 0 rfl rfl rfl ?_
  refine r_getN (i := 0) (host := "ExchangeText") (T := TX8) (C := RX8) (NN := 3) rfl (by decide) q1250 6 13 rfl rfl o1 rfl ?_
  refine r_gets (v := .ref (κ 10)) (hS 10).1 q1797 7 16 rfl rfl ?_
  refine r_acmp_eq (rx := (some a3)) (ry := (some (κ 10))) 8 19 47 rfl rfl rfl rfl rfl (fun c1 => ?_) (fun c1 => ?_)
  · refine r_iconst 21 48 rfl rfl di_0 ?_
    refine r_callS lkS_X1_38 22 51 rfl rfl (by decide) [.int 0] rfl rfl (Nat.le_of_ble_eq_true rfl) (Nat.le_of_ble_eq_true rfl) (e_X1_need hS (hg := by show 18 ≤ w.2.2; omega) (k1 := fun z0 => absurd z0 (by decide)) (k2 := fun z1_0 => ?_)) (fun _ _ h => h)
    show Th G mX1_item 48 [(4, .ref a2), (3, .int x1)] [] w.2.1 (wnew w (.inl (nJ12, [.null])) 6) _
    exact th_out rfl (k2 (Option.some.inj c1))
  · refine r_aload 9 21 0 rfl rfl rfl ?_
    refine r_getN (i := 0) (host := "ExchangeText") (T := TX8) (C := RX8) (NN := 3) rfl (by decide) q1250 10 24 rfl rfl o1 rfl ?_
    refine r_gets (v := .ref (κ 12)) (hS 12).1 q1798 11 27 rfl rfl ?_
    refine r_acmp_eq (rx := (some a3)) (ry := (some (κ 12))) 12 30 47 rfl rfl rfl rfl rfl (fun c2 => ?_) (fun c2 => ?_)
    · refine r_iconst 21 48 rfl rfl di_0 ?_
      refine r_callS lkS_X1_38 22 51 rfl rfl (by decide) [.int 0] rfl rfl (Nat.le_of_ble_eq_true rfl) (Nat.le_of_ble_eq_true rfl) (e_X1_need hS (hg := by show 18 ≤ w.2.2; omega) (k1 := fun z0 => absurd z0 (by decide)) (k2 := fun z2_0 => ?_)) (fun _ _ h => h)
      show Th G mX1_item 48 [(4, .ref a2), (3, .int x1)] [] w.2.1 (wnew w (.inl (nJ12, [.null])) 6) _
      exact th_out rfl (k3 (fun h => c1 (congrArg some h)) (Option.some.inj c2))
    · refine r_iload_n 13 31 1 rfl rfl rfl ?_
      refine r_if_lt 14 34 47 rfl rfl rfl (fun c3 => ?_) (fun c3 => ?_)
      · refine r_iconst 21 48 rfl rfl di_0 ?_
        refine r_callS lkS_X1_38 22 51 rfl rfl (by decide) [.int 0] rfl rfl (Nat.le_of_ble_eq_true rfl) (Nat.le_of_ble_eq_true rfl) (e_X1_need hS (hg := by show 18 ≤ w.2.2; omega) (k1 := fun z0 => absurd z0 (by decide)) (k2 := fun z3_0 => ?_)) (fun _ _ h => h)
        show Th G mX1_item 48 [(4, .ref a2), (3, .int x1)] [] w.2.1 (wnew w (.inl (nJ12, [.null])) 6) _
        exact th_out rfl (k4 (fun h => c1 (congrArg some h)) (fun h => c2 (congrArg some h)) c3)
      · refine r_iload_n 15 35 1 rfl rfl rfl ?_
        refine r_aload 16 37 0 rfl rfl rfl ?_
        refine r_callV lkV_X1_230_X8 (C := RX8) (TT := TX8) (NN := 3) rfl o1 17 40 rfl rfl (by decide) [] rfl rfl (Nat.le_of_ble_eq_true rfl) (Nat.le_of_ble_eq_true rfl) (e_X8_size hS (o1 := o1) (o2 := o5) (o3 := o6) (o5 := o7) (k4 := fun z3_0 => ?_) (k6 := fun z3_0 => fun z3_1 => ?_) (k7 := fun z3_0 => fun z3_1 => ?_)) (fun _ _ h => h)
        · show Rn G mX1_item 40 [(4, .ref a2), (3, .int x1)] [.int (nI n9), .int x1] w _
          refine r_icmp_ge 18 43 47 rfl rfl rfl (fun c5 => ?_) (fun c5 => ?_)
          · refine r_iconst 21 48 rfl rfl di_0 ?_
            refine r_callS lkS_X1_38 22 51 rfl rfl (by decide) [.int 0] rfl rfl (Nat.le_of_ble_eq_true rfl) (Nat.le_of_ble_eq_true rfl) (e_X1_need hS (hg := by show 18 ≤ w.2.2; omega) (k1 := fun z0 => absurd z0 (by decide)) (k2 := fun z5_0 => ?_)) (fun _ _ h => h)
            show Th G mX1_item 48 [(4, .ref a2), (3, .int x1)] [] w.2.1 (wnew w (.inl (nJ12, [.null])) 6) _
            exact th_out rfl (k8 (fun h => c1 (congrArg some h)) (fun h => c2 (congrArg some h)) c3 z3_0 c5)
          · refine r_iconst 19 44 rfl rfl di_1 ?_
            refine r_goto 20 48 rfl rfl ?_
            refine r_callS lkS_X1_38 22 51 rfl rfl (by decide) [.int 1] rfl rfl (Nat.le_of_ble_eq_true rfl) (Nat.le_of_ble_eq_true rfl) (e_X1_need hS (hg := by show 18 ≤ w.2.2; omega) (k2 := fun z0 => absurd z0 (by decide)) (k1 := fun z5_0 => ?_)) (fun _ _ h => h)
            show Rn G mX1_item 51 [(4, .ref a2), (3, .int x1)] [] w _
            exact r_sub [1, 0] rfl (k9 (fun h => c1 (congrArg some h)) (fun h => c2 (congrArg some h)) c3 z3_0 c5)
        · show Rn G mX1_item 40 [(4, .ref a2), (3, .int x1)] [.int (nI n11), .int x1] w _
          refine r_icmp_ge 18 43 47 rfl rfl rfl (fun c6 => ?_) (fun c6 => ?_)
          · refine r_iconst 21 48 rfl rfl di_0 ?_
            refine r_callS lkS_X1_38 22 51 rfl rfl (by decide) [.int 0] rfl rfl (Nat.le_of_ble_eq_true rfl) (Nat.le_of_ble_eq_true rfl) (e_X1_need hS (hg := by show 18 ≤ w.2.2; omega) (k1 := fun z0 => absurd z0 (by decide)) (k2 := fun z6_0 => ?_)) (fun _ _ h => h)
            show Th G mX1_item 48 [(4, .ref a2), (3, .int x1)] [] w.2.1 (wnew w (.inl (nJ12, [.null])) 6) _
            exact th_out rfl (k10 (fun h => c1 (congrArg some h)) (fun h => c2 (congrArg some h)) c3 z3_0 z3_1 c6)
          · refine r_iconst 19 44 rfl rfl di_1 ?_
            refine r_goto 20 48 rfl rfl ?_
            refine r_callS lkS_X1_38 22 51 rfl rfl (by decide) [.int 1] rfl rfl (Nat.le_of_ble_eq_true rfl) (Nat.le_of_ble_eq_true rfl) (e_X1_need hS (hg := by show 18 ≤ w.2.2; omega) (k2 := fun z0 => absurd z0 (by decide)) (k1 := fun z6_0 => ?_)) (fun _ _ h => h)
            show Rn G mX1_item 51 [(4, .ref a2), (3, .int x1)] [] w _
            exact r_sub [1, 0] rfl (k11 (fun h => c1 (congrArg some h)) (fun h => c2 (congrArg some h)) c3 z3_0 z3_1 c6)
        · show Rn G mX1_item 40 [(4, .ref a2), (3, .int x1)] [.int (nI n9), .int x1] w _
          refine r_icmp_ge 18 43 47 rfl rfl rfl (fun c6 => ?_) (fun c6 => ?_)
          · refine r_iconst 21 48 rfl rfl di_0 ?_
            refine r_callS lkS_X1_38 22 51 rfl rfl (by decide) [.int 0] rfl rfl (Nat.le_of_ble_eq_true rfl) (Nat.le_of_ble_eq_true rfl) (e_X1_need hS (hg := by show 18 ≤ w.2.2; omega) (k1 := fun z0 => absurd z0 (by decide)) (k2 := fun z6_0 => ?_)) (fun _ _ h => h)
            show Th G mX1_item 48 [(4, .ref a2), (3, .int x1)] [] w.2.1 (wnew w (.inl (nJ12, [.null])) 6) _
            exact th_out rfl (k12 (fun h => c1 (congrArg some h)) (fun h => c2 (congrArg some h)) c3 z3_0 z3_1 c6)
          · refine r_iconst 19 44 rfl rfl di_1 ?_
            refine r_goto 20 48 rfl rfl ?_
            refine r_callS lkS_X1_38 22 51 rfl rfl (by decide) [.int 1] rfl rfl (Nat.le_of_ble_eq_true rfl) (Nat.le_of_ble_eq_true rfl) (e_X1_need hS (hg := by show 18 ≤ w.2.2; omega) (k2 := fun z0 => absurd z0 (by decide)) (k1 := fun z6_0 => ?_)) (fun _ _ h => h)
            show Rn G mX1_item 51 [(4, .ref a2), (3, .int x1)] [] w _
            exact r_sub [1, 0] rfl (k13 (fun h => c1 (congrArg some h)) (fun h => c2 (congrArg some h)) c3 z3_0 z3_1 c6)
theorem e_X1_item_51 {G : Gm} {κ : Nat → Nat} {φ : Nat → Option Nat} (hS : GS G κ φ) {w : Wd} {Q : Rs → Wd → Prop} {m1 : Nat} {a2 : Nat} {a3 : Nat} {a4 : Nat} {a5 : Nat} {a6 : Nat} {x7 : Int32} {x8 : Int32} {n9 : Nat} {g10 : Nat → Nat} {n11 : Nat} {g12 : Nat → Int32} (o1 : Lk G w a2 (.inl (nX8, [.ref a3, .ref a4, .ref a5]))) (o2 : Lk G w a4 (.inl (nJ2, [.ref a6, .int 0, .int x7, .int x8]))) (o3 : Lk G w a6 (arB n9 g10)) (o4 : Lk G w a5 (arI .int n11 g12)) (b5 : a3 = (κ 11) → m1 < 2 ^ 31) (b6 : a3 = (κ 11) → n9 < 2 ^ 31) (f7 : a3 = (κ 11) → m1 < n9) (q8 : a3 = (κ 11) → (g10 m1) < 128) (b9 : ¬ a3 = (κ 11) → ¬ a3 = (κ 15) → m1 < n11) (b10 : n11 < 2 ^ 31) (b11 : ¬ a3 = (κ 11) → a3 = (κ 15) → m1 < 2 ^ 31) (b12 : ¬ a3 = (κ 11) → a3 = (κ 15) → n9 < 2 ^ 31) (f13 : ¬ a3 = (κ 11) → a3 = (κ 15) → m1 < n9) (q14 : ¬ a3 = (κ 11) → a3 = (κ 15) → (g10 m1) < 128) (k15 : a3 = (κ 11) → Q (.inl (some (.int (nI (g10 m1))))) w) (k16 : ¬ a3 = (κ 11) → ¬ a3 = (κ 15) → Q (.inl (some (.int (g12 m1)))) w) (k17 : ¬ a3 = (κ 11) → a3 = (κ 15) → Q (.inl (some (.int (nI (g10 m1))))) w) : Rn G mX1_item 51 [(3, .int (nI m1)), (4, .ref a2)] [] w Q := by
  refine r_aload 23 53 1 rfl rfl rfl ?_
  refine r_iload_n 24 54 0 rfl rfl rfl ?_
  refine r_callV lkV_X1_231_X8 (C := RX8) (TT := TX8) (NN := 3) rfl o1 25 57 rfl rfl (by decide) [.int (nI m1)] rfl rfl (Nat.le_of_ble_eq_true rfl) (Nat.le_of_ble_eq_true rfl) (e_X8_item hS (m2 := m1) (o1 := o1) (o2 := o2) (o3 := o3) (b4 := b5) (b5 := b6) (f6 := f7) (q7 := q8) (o9 := o4) (b10 := b9) (bd11 := b10) (b13 := b11) (b14 := b12) (f15 := f13) (q16 := q14) (k8 := fun z0_0 => ?_) (k12 := fun z0_0 => fun z0_1 => ?_) (k17 := fun z0_0 => fun z0_1 => ?_)) (fun _ _ h => h)
  · show Rn G mX1_item 57 [(3, .int (nI m1)), (4, .ref a2)] [.int (nI (g10 m1))] w _
    exact r_iret 26 rfl rfl rfl (k15 z0_0)
  · show Rn G mX1_item 57 [(3, .int (nI m1)), (4, .ref a2)] [.int (g12 m1)] w _
    exact r_iret 26 rfl rfl rfl (k16 z0_0 z0_1)
  · show Rn G mX1_item 57 [(3, .int (nI m1)), (4, .ref a2)] [.int (nI (g10 m1))] w _
    exact r_iret 26 rfl rfl rfl (k17 z0_0 z0_1)
theorem e_X1_set {G : Gm} {κ : Nat → Nat} {φ : Nat → Option Nat} (hS : GS G κ φ) {w : Wd} {Q : Rs → Wd → Prop} {a1 : Nat} {x2 : Int32} {x3 : Int32} {x4 : Int32} {a5 : Nat} {a6 : Nat} {a7 : Nat} {a8 : Nat} (o1 : Lk G w a1 (.inl (nX1, [.ref a5, .ref a6, .ref a7, .ref a8]))) {Q2 : Rs → Wd → Prop} (e2 : Ev G mX1_argumentOf [.ref a1, .int x2, .int x3] w Q2) (k2 : ∀ r w', Q2 r w' → Af G mX1_set 3 6 [(0, .ref a1), (1, .int x2), (2, .int x3), (3, .int x4)] [] r w' Q) : Ev G mX1_set [.ref a1, .int x2, .int x3, .int x4] w Q := by
  show Rn G mX1_set 0 [(0, .ref a1), (1, .int x2), (2, .int x3), (3, .int x4)] [] w Q
  refine r_aload_n 0 1 0 rfl rfl rfl ?_
  refine r_iload_n 1 2 1 rfl rfl rfl ?_
  refine r_iload_n 2 3 2 rfl rfl rfl ?_
  exact r_callV lkV_X1_211_X1 (C := RX1) (TT := TX1) (NN := 4) rfl o1 3 6 rfl rfl (by decide) [.int x2, .int x3] rfl rfl (Nat.le_of_ble_eq_true rfl) (Nat.le_of_ble_eq_true rfl) e2 (fun r w' h => Af.sub [0, 1, 2, 3] rfl (k2 r w' h))
theorem e_X1_set_6 {G : Gm} {κ : Nat → Nat} {φ : Nat → Option Nat} (hS : GS G κ φ) {w : Wd} {Q : Rs → Wd → Prop} {a1 : Nat} {x2 : Int32} {x3 : Int32} {x4 : Int32} {a5 : Nat} {a6 : Nat} {a7 : Nat} {a8 : Nat} (o1 : Lk G w a5 (.inl (nX8, [.ref a6, .ref a7, .ref a8]))) (hg : 18 ≤ w.2.2) (k2 : ¬ a6 = (κ 10) → Q (.inr w.2.1) (wnew w (.inl (nJ12, [.null])) 6)) (k3 : a6 = (κ 10) → x4 < (-999999999) → Q (.inr w.2.1) (wnew w (.inl (nJ12, [.null])) 6)) (k4 : a6 = (κ 10) → ¬ x4 < (-999999999) → (999999999 : Int32) < x4 → Q (.inr w.2.1) (wnew w (.inl (nJ12, [.null])) 6)) (k5 : a6 = (κ 10) → ¬ x4 < (-999999999) → ¬ (999999999 : Int32) < x4 → Rn G mX1_set 39 [(0, .ref a1), (1, .int x2), (2, .int x3), (3, .int x4)] [] w Q) : Rn G mX1_set 6 [(0, .ref a1), (1, .int x2), (2, .int x3), (3, .int x4)] [.ref a5] w Q := by
  refine r_astore (lv' := [(4, .ref a5), (0, .ref a1), (1, .int x2), (2, .int x3), (3, .int x4)]) 4 8 rfl rfl (Nat.le_of_ble_eq_true rfl) rfl ?_
  refine r_aload 5 10 0 rfl rfl rfl ?_
  refine r_getN (i := 0) (host := "ExchangeText") (T := TX8) (C := RX8) (NN := 3) rfl (by decide) q1250 6 13 rfl rfl o1 rfl ?_
  refine r_gets (v := .ref (κ 10)) (hS 10).1 q1797 7 16 rfl rfl ?_
  refine r_acmp_ne (rx := (some a6)) (ry := (some (κ 10))) 8 19 35 rfl rfl rfl rfl rfl (fun c1 => ?_) (fun c1 => ?_)
  · refine r_iconst 17 36 rfl rfl di_0 ?_
    refine r_callS lkS_X1_38 18 39 rfl rfl (by decide) [.int 0] rfl rfl (Nat.le_of_ble_eq_true rfl) (Nat.le_of_ble_eq_true rfl) (e_X1_need hS (hg := by show 18 ≤ w.2.2; omega) (k1 := fun z0 => absurd z0 (by decide)) (k2 := fun z1_0 => ?_)) (fun _ _ h => h)
    show Th G mX1_set 36 [(4, .ref a5), (0, .ref a1), (1, .int x2), (2, .int x3), (3, .int x4)] [] w.2.1 (wnew w (.inl (nJ12, [.null])) 6) _
    exact th_out rfl (k2 (fun h => c1 (congrArg some h)))
  · refine r_iload_n 9 20 4 rfl rfl rfl ?_
    refine r_ldc q1827 10 22 rfl rfl ?_
    refine r_icmp_lt 11 25 35 rfl rfl rfl (fun c2 => ?_) (fun c2 => ?_)
    · refine r_iconst 17 36 rfl rfl di_0 ?_
      refine r_callS lkS_X1_38 18 39 rfl rfl (by decide) [.int 0] rfl rfl (Nat.le_of_ble_eq_true rfl) (Nat.le_of_ble_eq_true rfl) (e_X1_need hS (hg := by show 18 ≤ w.2.2; omega) (k1 := fun z0 => absurd z0 (by decide)) (k2 := fun z2_0 => ?_)) (fun _ _ h => h)
      show Th G mX1_set 36 [(4, .ref a5), (0, .ref a1), (1, .int x2), (2, .int x3), (3, .int x4)] [] w.2.1 (wnew w (.inl (nJ12, [.null])) 6) _
      exact th_out rfl (k3 (Option.some.inj c1) c2)
    · refine r_iload_n 12 26 4 rfl rfl rfl ?_
      refine r_ldc q1828 13 28 rfl rfl ?_
      refine r_icmp_gt 14 31 35 rfl rfl rfl (fun c3 => ?_) (fun c3 => ?_)
      · refine r_iconst 17 36 rfl rfl di_0 ?_
        refine r_callS lkS_X1_38 18 39 rfl rfl (by decide) [.int 0] rfl rfl (Nat.le_of_ble_eq_true rfl) (Nat.le_of_ble_eq_true rfl) (e_X1_need hS (hg := by show 18 ≤ w.2.2; omega) (k1 := fun z0 => absurd z0 (by decide)) (k2 := fun z3_0 => ?_)) (fun _ _ h => h)
        show Th G mX1_set 36 [(4, .ref a5), (0, .ref a1), (1, .int x2), (2, .int x3), (3, .int x4)] [] w.2.1 (wnew w (.inl (nJ12, [.null])) 6) _
        exact th_out rfl (k4 (Option.some.inj c1) c2 c3)
      · refine r_iconst 15 32 rfl rfl di_1 ?_
        refine r_goto 16 36 rfl rfl ?_
        refine r_callS lkS_X1_38 18 39 rfl rfl (by decide) [.int 1] rfl rfl (Nat.le_of_ble_eq_true rfl) (Nat.le_of_ble_eq_true rfl) (e_X1_need hS (hg := by show 18 ≤ w.2.2; omega) (k2 := fun z0 => absurd z0 (by decide)) (k1 := fun z3_0 => ?_)) (fun _ _ h => h)
        show Rn G mX1_set 39 [(4, .ref a5), (0, .ref a1), (1, .int x2), (2, .int x3), (3, .int x4)] [] w _
        exact r_sub [1, 2, 3, 4] rfl (k5 (Option.some.inj c1) c2 c3)
theorem e_X1_set_39 {G : Gm} {κ : Nat → Nat} {φ : Nat → Option Nat} (hS : GS G κ φ) {w : Wd} {Q : Rs → Wd → Prop} {a1 : Nat} {x2 : Int32} {m3 : Nat} {x4 : Int32} {a5 : Nat} {a6 : Nat} {a7 : Nat} {a8 : Nat} (o1 : Lk G w a1 (.inl (nX1, [.ref a5, .ref a6, .ref a7, .ref a8]))) {Q2 : Rs → Wd → Prop} (e2 : Ev G mJ20_valueOf [.int x2] w Q2) (k2 : ∀ r w', Q2 r w' → Af G mX1_set 44 47 [(2, .int (nI m3)), (3, .int x4)] [.ref a7] r w' Q) : Rn G mX1_set 39 [(0, .ref a1), (1, .int x2), (2, .int (nI m3)), (3, .int x4)] [] w Q := by
  refine r_aload_n 19 40 0 rfl rfl rfl ?_
  refine r_get (v := .ref a7) fl_X1_26_X1 20 43 rfl rfl o1 rfl ?_
  refine r_iload_n 21 44 1 rfl rfl rfl ?_
  exact r_callS lkS_X1_96 22 47 rfl rfl (by decide) [.int x2] rfl rfl (Nat.le_of_ble_eq_true rfl) (Nat.le_of_ble_eq_true rfl) e2 (fun r w' h => Af.sub [2, 3] rfl (k2 r w' h))
theorem e_X1_set_47 {G : Gm} {κ : Nat → Nat} {φ : Nat → Option Nat} (hS : GS G κ φ) {w : Wd} {Q : Rs → Wd → Prop} {m1 : Nat} {x2 : Int32} {a3 : Nat} {a4 : Nat} {p5 : Option Nat} {p6 : Option Nat} {p7 : Option Nat} {m8 : Nat} {x9 : Int32} {p10 : Option Nat} {p11 : Option Nat} {p12 : Option Nat} (o1 : Lk G w a4 (.inl (nJ8, [va_rf p5, va_rf p6, .null, va_rf p7, .int (nI m8), .int x9, va_rf p10, va_rf p11, va_rf p12]))) {Q2 : Rs → Wd → Prop} (e2 : Ev G mJ8_get [.ref a4, .ref a3] w Q2) (k2 : ∀ r w', Q2 r w' → Af G mX1_set 47 50 [(2, .int (nI m1)), (3, .int x2)] [] r w' Q) : Rn G mX1_set 47 [(2, .int (nI m1)), (3, .int x2)] [.ref a3, .ref a4] w Q := by
  exact r_callV lkV_X1_162_J8 (C := RJ8) (TT := TJ8) (NN := 9) rfl o1 23 50 rfl rfl (by decide) [.ref a3] rfl rfl (Nat.le_of_ble_eq_true rfl) (Nat.le_of_ble_eq_true rfl) e2 (fun r w' h => Af.sub [0, 1] rfl (k2 r w' h))
theorem e_X1_set_50 {G : Gm} {κ : Nat → Nat} {φ : Nat → Option Nat} (hS : GS G κ φ) {w : Wd} {Q : Rs → Wd → Prop} {m1 : Nat} {x2 : Int32} {p3 : Option Nat} {m5 : Nat} {a6 : Nat} {a7 : Nat} {x8 : Int32} {a9 : Nat} {m10 : Nat} {n11 : Nat} {g12 : Nat → Option Nat} {a13 : Nat} {a14 : Nat} {a15 : Nat} {a16 : Nat} {n17 : Nat} {g18 : Nat → Int32} (f1 : ¬ p3 = none) (o2 : ∀ pa4 : Nat, p3 = some pa4 → Lk G w pa4 (.inl (nX7, [.int (nI m5), .ref a6, .ref a7]))) (hg : 28 ≤ w.2.2) (o3 : Lk G w a7 (.inl (nJ6, [.int x8, .ref a9, .int (nI m10)]))) (o4 : w.1 a9 = some (arR "java/lang/Object" n11 g12)) (b5 : ∀ pa4 : Nat, p3 = some pa4 → m1 < 2 ^ 31) (b6 : ∀ pa4 : Nat, p3 = some pa4 → m10 < 2 ^ 31) (f7 : ∀ pa4 : Nat, p3 = some pa4 → m1 < m10) (b8 : ∀ pa4 : Nat, p3 = some pa4 → m1 < n11) (b9 : ∀ pa4 : Nat, p3 = some pa4 → n11 < 2 ^ 31) (q10 : ∀ pa4 : Nat, p3 = some pa4 → (g12 m1) = some a13) (q11 : ∀ pa4 : Nat, p3 = some pa4 → OkO G (wset (wnew (wnew w (.inl (nX8, [.null, .null, .null])) 3) (arI .int 1 (upF (fun _ => 0) 0 x2)) 1) w.2.1 (.inl (nX8, [.ref (κ 10), .ref (κ 20), .ref (w.2.1 + 1)]))) (.ref w.2.1)) (o12 : Lk G w a13 (.inl (nX8, [.ref a14, .ref a15, .ref a16]))) (o13 : Lk G w a16 (arI .int n17 g18)) (b14 : ∀ pa4 : Nat, p3 = some pa4 → 0 < n17) (bd15 : n17 < 2 ^ 31) (k16 : ∀ pa4 : Nat, p3 = some pa4 → Q (.inl (some (.int (g18 0)))) (wset (wset (wnew (wnew w (.inl (nX8, [.null, .null, .null])) 3) (arI .int 1 (upF (fun _ => 0) 0 x2)) 1) w.2.1 (.inl (nX8, [.ref (κ 10), .ref (κ 20), .ref (w.2.1 + 1)]))) a9 (arR "java/lang/Object" n11 (upF g12 m1 (some w.2.1))))) : Rn G mX1_set 50 [(2, .int (nI m1)), (3, .int x2)] [va_rf p3] w Q := by
  refine Rn.wok fun hwk => ?_
  cases p3 with
  | none =>
    exact absurd rfl f1
  | some pa4 =>
    refine r_castS (C := RX7) (TT := TX7) (NN := 3) rfl q1392 24 53 rfl rfl (o2 pa4 rfl) ?_
    refine r_get (v := .ref a7) fl_X1_155_X7 25 56 rfl rfl (o2 pa4 rfl) rfl ?_
    refine r_iload_n 26 57 0 rfl rfl rfl ?_
    refine r_gets (v := .ref (κ 10)) (hS 10).1 q1797 27 60 rfl rfl ?_
    refine r_iload_n 28 61 1 rfl rfl rfl ?_
    refine r_callS lkS_X1_237 29 64 rfl rfl (by decide) [.ref (κ 10), .int x2] rfl rfl (Nat.le_of_ble_eq_true rfl) (Nat.le_of_ble_eq_true rfl) (e_X8_of hS (hg := by show 28 ≤ w.2.2; omega) (k1 := ?_)) (fun _ _ h => h)
    show Rn G mX1_set 64 [(2, .int (nI m1)), (3, .int x2)] [.ref w.2.1, .int (nI m1), .ref a7] (wset (wnew (wnew w (.inl (nX8, [.null, .null, .null])) 3) (arI .int 1 (upF (fun _ => 0) 0 x2)) 1) w.2.1 (.inl (nX8, [.ref (κ 10), .ref (κ 20), .ref (w.2.1 + 1)]))) _
    refine r_callV lkV_X1_241_J6 (C := RJ6) (TT := TJ6) (NN := 3) rfl (Lk.set_n (Lk.new_n (Lk.new_n o3 (by have := (o3.lt hwk); show a7 < w.2.1; omega)) (by have := (o3.lt hwk); show a7 < (w.2.1 + 1); omega)) (Nat.ne_of_lt (show a7 < w.2.1 from (by have := Lk.lt o3 hwk; omega)))) 30 67 rfl rfl (by decide) [.int (nI m1), .ref w.2.1] rfl rfl (Nat.le_of_ble_eq_true rfl) (Nat.le_of_ble_eq_true rfl) (e_J6_set hS (a9 := a13) (m6 := m10) (m2 := m1) (o1 := (Lk.set_n (Lk.new_n (Lk.new_n o3 (by have := (o3.lt hwk); show a7 < w.2.1; omega)) (by have := (o3.lt hwk); show a7 < (w.2.1 + 1); omega)) (Nat.ne_of_lt (show a7 < w.2.1 from (by have := Lk.lt o3 hwk; omega))))) (b2 := (b5 pa4 rfl)) (b3 := (b6 pa4 rfl)) (f4 := (f7 pa4 rfl)) (o5 := (wset_n (wnew_n (wnew_n o4 (by have := (hwk.1 _ _ o4).2; show a9 < w.2.1; omega)) (by have := (hwk.1 _ _ o4).2; show a9 < (w.2.1 + 1); omega)) (Nat.ne_of_lt (show a9 < w.2.1 from (by have := (hwk.1 _ _ o4).2; omega))))) (b6 := (b8 pa4 rfl)) (b7 := (b9 pa4 rfl)) (q8 := (q10 pa4 rfl)) (q9 := (q11 pa4 rfl)) (k10 := ?_)) (fun _ _ h => h)
    show Rn G mX1_set 67 [(2, .int (nI m1)), (3, .int x2)] [.ref a13] (wset (wset (wnew (wnew w (.inl (nX8, [.null, .null, .null])) 3) (arI .int 1 (upF (fun _ => 0) 0 x2)) 1) w.2.1 (.inl (nX8, [.ref (κ 10), .ref (κ 20), .ref (w.2.1 + 1)]))) a9 (arR "java/lang/Object" n11 (upF g12 m1 (some w.2.1)))) _
    refine r_castS (C := RX8) (TT := TX8) (NN := 3) rfl q1690 31 70 rfl rfl (Lk.set_n (Lk.set_n (Lk.new_n (Lk.new_n o12 (by have := (o12.lt hwk); show a13 < w.2.1; omega)) (by have := (o12.lt hwk); show a13 < (w.2.1 + 1); omega)) (Nat.ne_of_lt (show a13 < w.2.1 from (by have := Lk.lt o12 hwk; omega)))) (Lk.ne o12 o4 hwk (by intro h; simp at h))) ?_
    refine r_astore (lv' := [(5, .ref a13), (2, .int (nI m1)), (3, .int x2)]) 32 72 rfl rfl (Nat.le_of_ble_eq_true rfl) rfl ?_
    refine r_aload 33 74 0 rfl rfl rfl ?_
    refine r_getN (i := 2) (host := "ExchangeText") (T := TX8) (C := RX8) (NN := 3) rfl (by decide) q1255 34 77 rfl rfl (Lk.set_n (Lk.set_n (Lk.new_n (Lk.new_n o12 (by have := (o12.lt hwk); show a13 < w.2.1; omega)) (by have := (o12.lt hwk); show a13 < (w.2.1 + 1); omega)) (Nat.ne_of_lt (show a13 < w.2.1 from (by have := Lk.lt o12 hwk; omega)))) (Lk.ne o12 o4 hwk (by intro h; simp at h))) rfl ?_
    refine r_iconst 35 78 rfl rfl di_0 ?_
    refine y_iald (i := 0) 36 79 rfl rfl (Lk.set_n (Lk.set_n (Lk.new_n (Lk.new_n o13 (by have := (o13.lt hwk); show a16 < w.2.1; omega)) (by have := (o13.lt hwk); show a16 < (w.2.1 + 1); omega)) (Nat.ne_of_lt (show a16 < w.2.1 from (by have := Lk.lt o13 hwk; omega)))) (Lk.ne o13 o4 hwk (by intro h; simp at h))) (b14 pa4 rfl) bd15 ?_
    exact r_iret 37 rfl rfl rfl (k16 pa4 rfl)
